set_option maxRecDepth 100000
theorem dX10_rootUp_0 : decode cX10_rootUp 0 = .ok (.lload_n 2, 1) := by decide +kernel
theorem dX10_rootUp_1 : decode cX10_rootUp 1 = .ok (.aload_n 0, 1) := by decide +kernel
theorem dX10_rootUp_2 : decode cX10_rootUp 2 = .ok (.getfield 295, 3) := by decide +kernel
theorem dX10_rootUp_5 : decode cX10_rootUp 5 = .ok (.iload_n 1, 1) := by decide +kernel
theorem dX10_rootUp_6 : decode cX10_rootUp 6 = .ok (.iconst 1, 1) := by decide +kernel
theorem dX10_rootUp_7 : decode cX10_rootUp 7 = .ok (.isub, 1) := by decide +kernel
theorem dX10_rootUp_8 : decode cX10_rootUp 8 = .ok (.laload, 1) := by decide +kernel
theorem dX10_rootUp_9 : decode cX10_rootUp 9 = .ok (.lsub, 1) := by decide +kernel
theorem dX10_rootUp_10 : decode cX10_rootUp 10 = .ok (.lstore 4, 2) := by decide +kernel
theorem dX10_rootUp_12 : decode cX10_rootUp 12 = .ok (.iload_n 1, 1) := by decide +kernel
theorem dX10_rootUp_13 : decode cX10_rootUp 13 = .ok (.iconst 1, 1) := by decide +kernel
theorem dX10_rootUp_14 : decode cX10_rootUp 14 = .ok (.isub, 1) := by decide +kernel
theorem dX10_rootUp_15 : decode cX10_rootUp 15 = .ok (.istore 6, 2) := by decide +kernel
theorem dX10_rootUp_17 : decode cX10_rootUp 17 = .ok (.iload 6, 2) := by decide +kernel
theorem dX10_rootUp_19 : decode cX10_rootUp 19 = .ok (.ifCond .le 38, 3) := by decide +kernel
theorem dX10_rootUp_22 : decode cX10_rootUp 22 = .ok (.aload_n 0, 1) := by decide +kernel
theorem dX10_rootUp_23 : decode cX10_rootUp 23 = .ok (.getfield 295, 3) := by decide +kernel
theorem dX10_rootUp_26 : decode cX10_rootUp 26 = .ok (.iload 6, 2) := by decide +kernel
theorem dX10_rootUp_28 : decode cX10_rootUp 28 = .ok (.aload_n 0, 1) := by decide +kernel
theorem dX10_rootUp_29 : decode cX10_rootUp 29 = .ok (.getfield 295, 3) := by decide +kernel
theorem dX10_rootUp_32 : decode cX10_rootUp 32 = .ok (.iload 6, 2) := by decide +kernel
theorem dX10_rootUp_34 : decode cX10_rootUp 34 = .ok (.iconst 1, 1) := by decide +kernel
theorem dX10_rootUp_35 : decode cX10_rootUp 35 = .ok (.isub, 1) := by decide +kernel
theorem dX10_rootUp_36 : decode cX10_rootUp 36 = .ok (.laload, 1) := by decide +kernel
theorem dX10_rootUp_37 : decode cX10_rootUp 37 = .ok (.lload 4, 2) := by decide +kernel
theorem dX10_rootUp_39 : decode cX10_rootUp 39 = .ok (.aload_n 0, 1) := by decide +kernel
theorem dX10_rootUp_40 : decode cX10_rootUp 40 = .ok (.getfield 292, 3) := by decide +kernel
theorem dX10_rootUp_43 : decode cX10_rootUp 43 = .ok (.iload 6, 2) := by decide +kernel
theorem dX10_rootUp_45 : decode cX10_rootUp 45 = .ok (.laload, 1) := by decide +kernel
theorem dX10_rootUp_46 : decode cX10_rootUp 46 = .ok (.lmul, 1) := by decide +kernel
theorem dX10_rootUp_47 : decode cX10_rootUp 47 = .ok (.ladd, 1) := by decide +kernel
theorem dX10_rootUp_48 : decode cX10_rootUp 48 = .ok (.lload_n 2, 1) := by decide +kernel
theorem dX10_rootUp_49 : decode cX10_rootUp 49 = .ok (.lrem, 1) := by decide +kernel
theorem dX10_rootUp_50 : decode cX10_rootUp 50 = .ok (.lastore, 1) := by decide +kernel
theorem dX10_rootUp_51 : decode cX10_rootUp 51 = .ok (.iinc 6 (-1), 3) := by decide +kernel
theorem dX10_rootUp_54 : decode cX10_rootUp 54 = .ok (.goto (-37), 3) := by decide +kernel
theorem dX10_rootUp_57 : decode cX10_rootUp 57 = .ok (.aload_n 0, 1) := by decide +kernel
theorem dX10_rootUp_58 : decode cX10_rootUp 58 = .ok (.getfield 295, 3) := by decide +kernel
theorem dX10_rootUp_61 : decode cX10_rootUp 61 = .ok (.iconst 0, 1) := by decide +kernel
theorem dX10_rootUp_62 : decode cX10_rootUp 62 = .ok (.lload 4, 2) := by decide +kernel
theorem dX10_rootUp_64 : decode cX10_rootUp 64 = .ok (.aload_n 0, 1) := by decide +kernel
theorem dX10_rootUp_65 : decode cX10_rootUp 65 = .ok (.getfield 292, 3) := by decide +kernel
theorem dX10_rootUp_68 : decode cX10_rootUp 68 = .ok (.iconst 0, 1) := by decide +kernel
theorem dX10_rootUp_69 : decode cX10_rootUp 69 = .ok (.laload, 1) := by decide +kernel
theorem dX10_rootUp_70 : decode cX10_rootUp 70 = .ok (.lmul, 1) := by decide +kernel
theorem dX10_rootUp_71 : decode cX10_rootUp 71 = .ok (.lload_n 2, 1) := by decide +kernel
theorem dX10_rootUp_72 : decode cX10_rootUp 72 = .ok (.lrem, 1) := by decide +kernel
theorem dX10_rootUp_73 : decode cX10_rootUp 73 = .ok (.lastore, 1) := by decide +kernel
theorem dX10_rootUp_74 : decode cX10_rootUp 74 = .ok (.return_, 1) := by decide +kernel
/-! AlgebraHouseModel.rootUp(IJ)V -/
def P_X10_rootUp_57 (Q : Int → MM → Prop) (x2 : Int) (x4 : Int) (m : MM) : Prop := (RL (x4 * (m 648 0))) ∧ (RL x2) ∧ (x2 ≠ 0) ∧ ∀ m1 : MM, m1 = up m 649 0 (Int.tmod (x4 * (m 648 0)) x2) → Q 0 m1
def P_X10_rootUp_17 (Q : Int → MM → Prop) : Nat → Int → Int → Int → MM → Prop
  | 0, _, _, _, _ => False
  | n + 1, x2, x4, x6, m => (RI x6) ∧ (if x6 ≤ 0 then P_X10_rootUp_57 Q x2 x4 m else (0 ≤ (x6 - 1) ∧ (x6 - 1) < 7) ∧ (0 ≤ x6 ∧ x6 < 7) ∧ (RL ((m 649 (x6 - 1)) + (x4 * (m 648 x6)))) ∧ (RL x2) ∧ (x2 ≠ 0) ∧ ∀ m1 : MM, m1 = up m 649 x6 (Int.tmod ((m 649 (x6 - 1)) + (x4 * (m 648 x6))) x2) → P_X10_rootUp_17 Q n x2 x4 (x6 + (-1)) m1)
def P_X10_rootUp (x1 : Int) (x2 : Int) (m : MM) (Q : Int → MM → Prop) : Prop := (0 ≤ (x1 - 1) ∧ (x1 - 1) < 7) ∧ ∃ nn, P_X10_rootUp_17 Q nn x2 (x2 - (m 649 (x1 - 1))) (x1 - 1) m
theorem pl_X10_rootUp_57 {f : Nat} {Q : Int → MM → Prop} {T : MM → Prop} (hf : 1 ≤ f) : ∀ (x2 : Int) (x4 : Int) (m : MM), P_X10_rootUp_57 Q x2 x4 m → B f M_X10_rootUp 57 [vR 582, vU, vL x2, vU, vL x4, vU, vU] [] m Q T := by
  intro x2 x4 m h
  have h : (RL (x4 * (m 648 0))) ∧ (RL x2) ∧ (x2 ≠ 0) ∧ ∀ m1 : MM, m1 = up m 649 0 (Int.tmod (x4 * (m 648 0)) x2) → Q 0 m1 := h
  refine b_aload_n dX10_rootUp_57 rfl ?_
  refine b_getR dX10_rootUp_58 fk_X10_295 ly_582 gg_582_108 ?_
  refine b_iconst dX10_rootUp_61 ?_
  refine b_lload dX10_rootUp_62 rfl ?_
  refine b_aload_n dX10_rootUp_64 rfl ?_
  refine b_getR dX10_rootUp_65 fk_X10_292 ly_582 gg_582_107 ?_
  refine b_iconst dX10_rootUp_68 ?_
  refine b_lald dX10_rootUp_69 ly_648 (by decide) ?_
  refine b_lmul dX10_rootUp_70 ?_
  refine b_lload_n dX10_rootUp_71 rfl ?_
  obtain ⟨g1, h⟩ := h
  obtain ⟨g2, h⟩ := h
  obtain ⟨g3, h⟩ := h
  refine b_lrem dX10_rootUp_72 g1 g2 g3 ?_
  refine b_last dX10_rootUp_73 ly_649 (by decide) (fun m1 em1 => ?_)
  have h := h m1 em1
  exact b_vret dX10_rootUp_74 rfl h
theorem pl_X10_rootUp_17 {f : Nat} {Q : Int → MM → Prop} {T : MM → Prop} (hf : 1 ≤ f) : ∀ (n : Nat) (x2 : Int) (x4 : Int) (x6 : Int) (m : MM), P_X10_rootUp_17 Q n x2 x4 x6 m → B f M_X10_rootUp 17 [vR 582, vU, vL x2, vU, vL x4, vU, vI x6] [] m Q T := by
  intro n
  induction n with
  | zero => intro x2 x4 x6 m h; exact h.elim
  | succ n ih =>
    intro x2 x4 x6 m h
    have h : (RI x6) ∧ (if x6 ≤ 0 then P_X10_rootUp_57 Q x2 x4 m else (0 ≤ (x6 - 1) ∧ (x6 - 1) < 7) ∧ (0 ≤ x6 ∧ x6 < 7) ∧ (RL ((m 649 (x6 - 1)) + (x4 * (m 648 x6)))) ∧ (RL x2) ∧ (x2 ≠ 0) ∧ ∀ m1 : MM, m1 = up m 649 x6 (Int.tmod ((m 649 (x6 - 1)) + (x4 * (m 648 x6))) x2) → P_X10_rootUp_17 Q n x2 x4 (x6 + (-1)) m1) := h
    refine b_iload dX10_rootUp_17 rfl ?_
    obtain ⟨g1, h⟩ := h
    refine b_if_le 57 dX10_rootUp_19 g1 (by decide) (fun c1 => ?_) (fun c1 => ?_)
    · have h := ifT c1 h
      refine b_fgt [true, false, true, false, true, false, false] (ls' := [vR 582, vU, vL x2, vU, vL x4, vU, vU]) rfl rfl ?_
      exact pl_X10_rootUp_57 hf _ _ _ h
    · have h := ifF c1 h
      refine b_aload_n dX10_rootUp_22 rfl ?_
      refine b_getR dX10_rootUp_23 fk_X10_295 ly_582 gg_582_108 ?_
      refine b_iload dX10_rootUp_26 rfl ?_
      refine b_aload_n dX10_rootUp_28 rfl ?_
      refine b_getR dX10_rootUp_29 fk_X10_295 ly_582 gg_582_108 ?_
      refine b_iload dX10_rootUp_32 rfl ?_
      refine b_iconst dX10_rootUp_34 ?_
      refine b_isub dX10_rootUp_35 ?_
      obtain ⟨g2, h⟩ := h
      refine b_lald dX10_rootUp_36 ly_649 g2 ?_
      refine b_lload dX10_rootUp_37 rfl ?_
      refine b_aload_n dX10_rootUp_39 rfl ?_
      refine b_getR dX10_rootUp_40 fk_X10_292 ly_582 gg_582_107 ?_
      refine b_iload dX10_rootUp_43 rfl ?_
      obtain ⟨g3, h⟩ := h
      refine b_lald dX10_rootUp_45 ly_648 g3 ?_
      refine b_lmul dX10_rootUp_46 ?_
      refine b_ladd dX10_rootUp_47 ?_
      refine b_lload_n dX10_rootUp_48 rfl ?_
      obtain ⟨g4, h⟩ := h
      obtain ⟨g5, h⟩ := h
      obtain ⟨g6, h⟩ := h
      refine b_lrem dX10_rootUp_49 g4 g5 g6 ?_
      refine b_last dX10_rootUp_50 ly_649 g3 (fun m1 em1 => ?_)
      have h := h m1 em1
      refine b_iinc (ls' := [vR 582, vU, vL x2, vU, vL x4, vU, vI (x6 + (-1))]) dX10_rootUp_51 rfl rfl ?_
      refine b_goto 17 dX10_rootUp_54 (by decide) ?_
      exact ih _ _ _ _ h
theorem p_X10_rootUp {f : Nat} {Q : Int → MM → Prop} {T : MM → Prop} (hf : 1 ≤ f) (x1 : Int) (x2 : Int) (m : MM) (h : P_X10_rootUp x1 x2 m Q) : CC f M_X10_rootUp [vR 582, vI x1, vL x2] m Q T := by
  refine CC.of (plainFor_of_name (by decide)) (Nat.le_of_ble_eq_true rfl) (ls := [vR 582, vI x1, vL x2, vU, vU, vU, vU]) rfl ?_
  have h : (0 ≤ (x1 - 1) ∧ (x1 - 1) < 7) ∧ ∃ nn, P_X10_rootUp_17 Q nn x2 (x2 - (m 649 (x1 - 1))) (x1 - 1) m := h
  refine b_lload_n dX10_rootUp_0 rfl ?_
  refine b_aload_n dX10_rootUp_1 rfl ?_
  refine b_getR dX10_rootUp_2 fk_X10_295 ly_582 gg_582_108 ?_
  refine b_iload_n dX10_rootUp_5 rfl ?_
  refine b_iconst dX10_rootUp_6 ?_
  refine b_isub dX10_rootUp_7 ?_
  obtain ⟨g1, h⟩ := h
  refine b_lald dX10_rootUp_8 ly_649 g1 ?_
  refine b_lsub dX10_rootUp_9 ?_
  refine b_lstore (ls' := [vR 582, vI x1, vL x2, vU, vL (x2 - (m 649 (x1 - 1))), vU, vU]) dX10_rootUp_10 (Nat.le_of_ble_eq_true rfl) rfl ?_
  refine b_iload_n dX10_rootUp_12 rfl ?_
  refine b_iconst dX10_rootUp_13 ?_
  refine b_isub dX10_rootUp_14 ?_
  refine b_istore (ls' := [vR 582, vI x1, vL x2, vU, vL (x2 - (m 649 (x1 - 1))), vU, vI (x1 - 1)]) dX10_rootUp_15 (Nat.le_of_ble_eq_true rfl) rfl ?_
  refine b_fgt [true, false, true, false, true, false, true] (ls' := [vR 582, vU, vL x2, vU, vL (x2 - (m 649 (x1 - 1))), vU, vI (x1 - 1)]) rfl rfl ?_
  obtain ⟨nn, h⟩ := h
  exact pl_X10_rootUp_17 hf nn _ _ _ _ h
theorem dX10_rootsOf_0 : decode cX10_rootsOf 0 = .ok (.iconst (-1), 1) := by decide +kernel
theorem dX10_rootsOf_1 : decode cX10_rootsOf 1 = .ok (.istore 4, 2) := by decide +kernel
theorem dX10_rootsOf_3 : decode cX10_rootsOf 3 = .ok (.iconst 0, 1) := by decide +kernel
theorem dX10_rootsOf_4 : decode cX10_rootsOf 4 = .ok (.istore 5, 2) := by decide +kernel
theorem dX10_rootsOf_6 : decode cX10_rootsOf 6 = .ok (.iload 5, 2) := by decide +kernel
theorem dX10_rootsOf_8 : decode cX10_rootsOf 8 = .ok (.bipush 7, 2) := by decide +kernel
theorem dX10_rootsOf_10 : decode cX10_rootsOf 10 = .ok (.if_icmp .ge 43, 3) := by decide +kernel
theorem dX10_rootsOf_13 : decode cX10_rootsOf 13 = .ok (.aload_n 0, 1) := by decide +kernel
theorem dX10_rootsOf_14 : decode cX10_rootsOf 14 = .ok (.getfield 292, 3) := by decide +kernel
theorem dX10_rootsOf_17 : decode cX10_rootsOf 17 = .ok (.iload 5, 2) := by decide +kernel
theorem dX10_rootsOf_19 : decode cX10_rootsOf 19 = .ok (.aload_n 0, 1) := by decide +kernel
theorem dX10_rootsOf_20 : decode cX10_rootsOf 20 = .ok (.getfield 250, 3) := by decide +kernel
theorem dX10_rootsOf_23 : decode cX10_rootsOf 23 = .ok (.iload_n 1, 1) := by decide +kernel
theorem dX10_rootsOf_24 : decode cX10_rootsOf 24 = .ok (.iconst 2, 1) := by decide +kernel
theorem dX10_rootsOf_25 : decode cX10_rootsOf 25 = .ok (.iload 5, 2) := by decide +kernel
theorem dX10_rootsOf_27 : decode cX10_rootsOf 27 = .ok (.imul, 1) := by decide +kernel
theorem dX10_rootsOf_28 : decode cX10_rootsOf 28 = .ok (.iadd, 1) := by decide +kernel
theorem dX10_rootsOf_29 : decode cX10_rootsOf 29 = .ok (.laload, 1) := by decide +kernel
theorem dX10_rootsOf_30 : decode cX10_rootsOf 30 = .ok (.lastore, 1) := by decide +kernel
theorem dX10_rootsOf_31 : decode cX10_rootsOf 31 = .ok (.aload_n 0, 1) := by decide +kernel
theorem dX10_rootsOf_32 : decode cX10_rootsOf 32 = .ok (.getfield 292, 3) := by decide +kernel
theorem dX10_rootsOf_35 : decode cX10_rootsOf 35 = .ok (.iload 5, 2) := by decide +kernel
theorem dX10_rootsOf_37 : decode cX10_rootsOf 37 = .ok (.laload, 1) := by decide +kernel
theorem dX10_rootsOf_38 : decode cX10_rootsOf 38 = .ok (.lconst 0, 1) := by decide +kernel
theorem dX10_rootsOf_39 : decode cX10_rootsOf 39 = .ok (.lcmp, 1) := by decide +kernel
theorem dX10_rootsOf_40 : decode cX10_rootsOf 40 = .ok (.ifCond .eq 7, 3) := by decide +kernel
theorem dX10_rootsOf_43 : decode cX10_rootsOf 43 = .ok (.iload 5, 2) := by decide +kernel
theorem dX10_rootsOf_45 : decode cX10_rootsOf 45 = .ok (.istore 4, 2) := by decide +kernel
theorem dX10_rootsOf_47 : decode cX10_rootsOf 47 = .ok (.iinc 5 1, 3) := by decide +kernel
theorem dX10_rootsOf_50 : decode cX10_rootsOf 50 = .ok (.goto (-44), 3) := by decide +kernel
theorem dX10_rootsOf_53 : decode cX10_rootsOf 53 = .ok (.iload 4, 2) := by decide +kernel
theorem dX10_rootsOf_55 : decode cX10_rootsOf 55 = .ok (.iconst 1, 1) := by decide +kernel
theorem dX10_rootsOf_56 : decode cX10_rootsOf 56 = .ok (.if_icmp .ge 15, 3) := by decide +kernel
theorem dX10_rootsOf_59 : decode cX10_rootsOf 59 = .ok (.iload 4, 2) := by decide +kernel
theorem dX10_rootsOf_61 : decode cX10_rootsOf 61 = .ok (.ifCond .ge 8, 3) := by decide +kernel
theorem dX10_rootsOf_64 : decode cX10_rootsOf 64 = .ok (.lload_n 2, 1) := by decide +kernel
theorem dX10_rootsOf_65 : decode cX10_rootsOf 65 = .ok (.l2i, 1) := by decide +kernel
theorem dX10_rootsOf_66 : decode cX10_rootsOf 66 = .ok (.goto 4, 3) := by decide +kernel
theorem dX10_rootsOf_69 : decode cX10_rootsOf 69 = .ok (.iconst 0, 1) := by decide +kernel
theorem dX10_rootsOf_70 : decode cX10_rootsOf 70 = .ok (.ireturn, 1) := by decide +kernel
theorem dX10_rootsOf_71 : decode cX10_rootsOf 71 = .ok (.aload_n 0, 1) := by decide +kernel
theorem dX10_rootsOf_72 : decode cX10_rootsOf 72 = .ok (.getfield 292, 3) := by decide +kernel
theorem dX10_rootsOf_75 : decode cX10_rootsOf 75 = .ok (.iload 4, 2) := by decide +kernel
theorem dX10_rootsOf_77 : decode cX10_rootsOf 77 = .ok (.laload, 1) := by decide +kernel
theorem dX10_rootsOf_78 : decode cX10_rootsOf 78 = .ok (.lload_n 2, 1) := by decide +kernel
theorem dX10_rootsOf_79 : decode cX10_rootsOf 79 = .ok (.invokestatic 863, 3) := by decide +kernel
theorem dX10_rootsOf_82 : decode cX10_rootsOf 82 = .ok (.lstore 5, 2) := by decide +kernel
theorem dX10_rootsOf_84 : decode cX10_rootsOf 84 = .ok (.iconst 0, 1) := by decide +kernel
theorem dX10_rootsOf_85 : decode cX10_rootsOf 85 = .ok (.istore 7, 2) := by decide +kernel
theorem dX10_rootsOf_87 : decode cX10_rootsOf 87 = .ok (.iload 7, 2) := by decide +kernel
theorem dX10_rootsOf_89 : decode cX10_rootsOf 89 = .ok (.iload 4, 2) := by decide +kernel
theorem dX10_rootsOf_91 : decode cX10_rootsOf 91 = .ok (.if_icmp .gt 28, 3) := by decide +kernel
theorem dX10_rootsOf_94 : decode cX10_rootsOf 94 = .ok (.aload_n 0, 1) := by decide +kernel
theorem dX10_rootsOf_95 : decode cX10_rootsOf 95 = .ok (.getfield 292, 3) := by decide +kernel
theorem dX10_rootsOf_98 : decode cX10_rootsOf 98 = .ok (.iload 7, 2) := by decide +kernel
theorem dX10_rootsOf_100 : decode cX10_rootsOf 100 = .ok (.aload_n 0, 1) := by decide +kernel
theorem dX10_rootsOf_101 : decode cX10_rootsOf 101 = .ok (.getfield 292, 3) := by decide +kernel
theorem dX10_rootsOf_104 : decode cX10_rootsOf 104 = .ok (.iload 7, 2) := by decide +kernel
theorem dX10_rootsOf_106 : decode cX10_rootsOf 106 = .ok (.laload, 1) := by decide +kernel
theorem dX10_rootsOf_107 : decode cX10_rootsOf 107 = .ok (.lload 5, 2) := by decide +kernel
theorem dX10_rootsOf_109 : decode cX10_rootsOf 109 = .ok (.lmul, 1) := by decide +kernel
theorem dX10_rootsOf_110 : decode cX10_rootsOf 110 = .ok (.lload_n 2, 1) := by decide +kernel
theorem dX10_rootsOf_111 : decode cX10_rootsOf 111 = .ok (.lrem, 1) := by decide +kernel
theorem dX10_rootsOf_112 : decode cX10_rootsOf 112 = .ok (.lastore, 1) := by decide +kernel
theorem dX10_rootsOf_113 : decode cX10_rootsOf 113 = .ok (.iinc 7 1, 3) := by decide +kernel
theorem dX10_rootsOf_116 : decode cX10_rootsOf 116 = .ok (.goto (-29), 3) := by decide +kernel
theorem dX10_rootsOf_119 : decode cX10_rootsOf 119 = .ok (.aload_n 0, 1) := by decide +kernel
theorem dX10_rootsOf_120 : decode cX10_rootsOf 120 = .ok (.invokevirtual 866, 3) := by decide +kernel
theorem dX10_rootsOf_123 : decode cX10_rootsOf 123 = .ok (.bipush 13, 2) := by decide +kernel
theorem dX10_rootsOf_125 : decode cX10_rootsOf 125 = .ok (.istore 7, 2) := by decide +kernel
theorem dX10_rootsOf_127 : decode cX10_rootsOf 127 = .ok (.iload 7, 2) := by decide +kernel
theorem dX10_rootsOf_129 : decode cX10_rootsOf 129 = .ok (.ifCond .lt 34, 3) := by decide +kernel
theorem dX10_rootsOf_132 : decode cX10_rootsOf 132 = .ok (.aload_n 0, 1) := by decide +kernel
theorem dX10_rootsOf_133 : decode cX10_rootsOf 133 = .ok (.iload 4, 2) := by decide +kernel
theorem dX10_rootsOf_135 : decode cX10_rootsOf 135 = .ok (.lload_n 2, 1) := by decide +kernel
theorem dX10_rootsOf_136 : decode cX10_rootsOf 136 = .ok (.invokevirtual 869, 3) := by decide +kernel
theorem dX10_rootsOf_139 : decode cX10_rootsOf 139 = .ok (.lload_n 2, 1) := by decide +kernel
theorem dX10_rootsOf_140 : decode cX10_rootsOf 140 = .ok (.iload 7, 2) := by decide +kernel
theorem dX10_rootsOf_142 : decode cX10_rootsOf 142 = .ok (.lshr, 1) := by decide +kernel
theorem dX10_rootsOf_143 : decode cX10_rootsOf 143 = .ok (.lconst 1, 1) := by decide +kernel
theorem dX10_rootsOf_144 : decode cX10_rootsOf 144 = .ok (.land, 1) := by decide +kernel
theorem dX10_rootsOf_145 : decode cX10_rootsOf 145 = .ok (.lconst 1, 1) := by decide +kernel
theorem dX10_rootsOf_146 : decode cX10_rootsOf 146 = .ok (.lcmp, 1) := by decide +kernel
theorem dX10_rootsOf_147 : decode cX10_rootsOf 147 = .ok (.ifCond .ne 10, 3) := by decide +kernel
theorem dX10_rootsOf_150 : decode cX10_rootsOf 150 = .ok (.aload_n 0, 1) := by decide +kernel
theorem dX10_rootsOf_151 : decode cX10_rootsOf 151 = .ok (.iload 4, 2) := by decide +kernel
theorem dX10_rootsOf_153 : decode cX10_rootsOf 153 = .ok (.lload_n 2, 1) := by decide +kernel
theorem dX10_rootsOf_154 : decode cX10_rootsOf 154 = .ok (.invokevirtual 872, 3) := by decide +kernel
theorem dX10_rootsOf_157 : decode cX10_rootsOf 157 = .ok (.iinc 7 (-1), 3) := by decide +kernel
theorem dX10_rootsOf_160 : decode cX10_rootsOf 160 = .ok (.goto (-33), 3) := by decide +kernel
theorem dX10_rootsOf_163 : decode cX10_rootsOf 163 = .ok (.iconst 0, 1) := by decide +kernel
theorem dX10_rootsOf_164 : decode cX10_rootsOf 164 = .ok (.istore 7, 2) := by decide +kernel
theorem dX10_rootsOf_166 : decode cX10_rootsOf 166 = .ok (.iload 7, 2) := by decide +kernel
theorem dX10_rootsOf_168 : decode cX10_rootsOf 168 = .ok (.iload 4, 2) := by decide +kernel
theorem dX10_rootsOf_170 : decode cX10_rootsOf 170 = .ok (.if_icmp .ge 23, 3) := by decide +kernel
theorem dX10_rootsOf_173 : decode cX10_rootsOf 173 = .ok (.aload_n 0, 1) := by decide +kernel
theorem dX10_rootsOf_174 : decode cX10_rootsOf 174 = .ok (.getfield 298, 3) := by decide +kernel
theorem dX10_rootsOf_177 : decode cX10_rootsOf 177 = .ok (.iload 7, 2) := by decide +kernel
theorem dX10_rootsOf_179 : decode cX10_rootsOf 179 = .ok (.aload_n 0, 1) := by decide +kernel
theorem dX10_rootsOf_180 : decode cX10_rootsOf 180 = .ok (.getfield 295, 3) := by decide +kernel
theorem dX10_rootsOf_183 : decode cX10_rootsOf 183 = .ok (.iload 7, 2) := by decide +kernel
theorem dX10_rootsOf_185 : decode cX10_rootsOf 185 = .ok (.laload, 1) := by decide +kernel
theorem dX10_rootsOf_186 : decode cX10_rootsOf 186 = .ok (.lastore, 1) := by decide +kernel
theorem dX10_rootsOf_187 : decode cX10_rootsOf 187 = .ok (.iinc 7 1, 3) := by decide +kernel
theorem dX10_rootsOf_190 : decode cX10_rootsOf 190 = .ok (.goto (-24), 3) := by decide +kernel
theorem dX10_rootsOf_193 : decode cX10_rootsOf 193 = .ok (.aload_n 0, 1) := by decide +kernel
theorem dX10_rootsOf_194 : decode cX10_rootsOf 194 = .ok (.invokevirtual 866, 3) := by decide +kernel
theorem dX10_rootsOf_197 : decode cX10_rootsOf 197 = .ok (.aload_n 0, 1) := by decide +kernel
theorem dX10_rootsOf_198 : decode cX10_rootsOf 198 = .ok (.iload 4, 2) := by decide +kernel
theorem dX10_rootsOf_200 : decode cX10_rootsOf 200 = .ok (.lload_n 2, 1) := by decide +kernel
theorem dX10_rootsOf_201 : decode cX10_rootsOf 201 = .ok (.invokevirtual 872, 3) := by decide +kernel
theorem dX10_rootsOf_204 : decode cX10_rootsOf 204 = .ok (.iconst 0, 1) := by decide +kernel
theorem dX10_rootsOf_205 : decode cX10_rootsOf 205 = .ok (.istore 7, 2) := by decide +kernel
theorem dX10_rootsOf_207 : decode cX10_rootsOf 207 = .ok (.iload 7, 2) := by decide +kernel
theorem dX10_rootsOf_209 : decode cX10_rootsOf 209 = .ok (.iload 4, 2) := by decide +kernel
theorem dX10_rootsOf_211 : decode cX10_rootsOf 211 = .ok (.if_icmp .ge 35, 3) := by decide +kernel
theorem dX10_rootsOf_214 : decode cX10_rootsOf 214 = .ok (.aload_n 0, 1) := by decide +kernel
theorem dX10_rootsOf_215 : decode cX10_rootsOf 215 = .ok (.getfield 295, 3) := by decide +kernel
theorem dX10_rootsOf_218 : decode cX10_rootsOf 218 = .ok (.iload 7, 2) := by decide +kernel
theorem dX10_rootsOf_220 : decode cX10_rootsOf 220 = .ok (.aload_n 0, 1) := by decide +kernel
theorem dX10_rootsOf_221 : decode cX10_rootsOf 221 = .ok (.getfield 298, 3) := by decide +kernel
theorem dX10_rootsOf_224 : decode cX10_rootsOf 224 = .ok (.iload 7, 2) := by decide +kernel
theorem dX10_rootsOf_226 : decode cX10_rootsOf 226 = .ok (.laload, 1) := by decide +kernel
theorem dX10_rootsOf_227 : decode cX10_rootsOf 227 = .ok (.aload_n 0, 1) := by decide +kernel
theorem dX10_rootsOf_228 : decode cX10_rootsOf 228 = .ok (.getfield 295, 3) := by decide +kernel
theorem dX10_rootsOf_231 : decode cX10_rootsOf 231 = .ok (.iload 7, 2) := by decide +kernel
theorem dX10_rootsOf_233 : decode cX10_rootsOf 233 = .ok (.laload, 1) := by decide +kernel
theorem dX10_rootsOf_234 : decode cX10_rootsOf 234 = .ok (.lsub, 1) := by decide +kernel
theorem dX10_rootsOf_235 : decode cX10_rootsOf 235 = .ok (.lload_n 2, 1) := by decide +kernel
theorem dX10_rootsOf_236 : decode cX10_rootsOf 236 = .ok (.ladd, 1) := by decide +kernel
theorem dX10_rootsOf_237 : decode cX10_rootsOf 237 = .ok (.lload_n 2, 1) := by decide +kernel
theorem dX10_rootsOf_238 : decode cX10_rootsOf 238 = .ok (.lrem, 1) := by decide +kernel
theorem dX10_rootsOf_239 : decode cX10_rootsOf 239 = .ok (.lastore, 1) := by decide +kernel
theorem dX10_rootsOf_240 : decode cX10_rootsOf 240 = .ok (.iinc 7 1, 3) := by decide +kernel
theorem dX10_rootsOf_243 : decode cX10_rootsOf 243 = .ok (.goto (-36), 3) := by decide +kernel
theorem dX10_rootsOf_246 : decode cX10_rootsOf 246 = .ok (.aload_n 0, 1) := by decide +kernel
theorem dX10_rootsOf_247 : decode cX10_rootsOf 247 = .ok (.iload 4, 2) := by decide +kernel
theorem dX10_rootsOf_249 : decode cX10_rootsOf 249 = .ok (.lload_n 2, 1) := by decide +kernel
theorem dX10_rootsOf_250 : decode cX10_rootsOf 250 = .ok (.invokevirtual 875, 3) := by decide +kernel
theorem dX10_rootsOf_253 : decode cX10_rootsOf 253 = .ok (.ireturn, 1) := by decide +kernel
/-! AlgebraHouseModel.rootsOf(IJ)I -/
def P_X10_rootsOf_246 (Q : Int → MM → Prop) (x2 : Int) (x4 : Int) (m : MM) : Prop := P_X10_rootCommon x4 x2 m (fun r1 m1 => Q r1 m1)
def P_X10_rootsOf_207 (Q : Int → MM → Prop) : Nat → Int → Int → Int → MM → Prop
  | 0, _, _, _, _ => False
  | n + 1, x2, x4, x7, m => (RI x7) ∧ (RI x4) ∧ (if x4 ≤ x7 then P_X10_rootsOf_246 Q x2 x4 m else (0 ≤ x7 ∧ x7 < 14) ∧ (0 ≤ x7 ∧ x7 < 7) ∧ (RL (((m 650 x7) - (m 649 x7)) + x2)) ∧ (RL x2) ∧ (x2 ≠ 0) ∧ ∀ m1 : MM, m1 = up m 649 x7 (Int.tmod (((m 650 x7) - (m 649 x7)) + x2) x2) → P_X10_rootsOf_207 Q n x2 x4 (x7 + 1) m1)
def P_X10_rootsOf_193 (Q : Int → MM → Prop) (x2 : Int) (x4 : Int) (m : MM) : Prop := P_X10_rootOne m (fun r1 m1 => P_X10_rootUp x4 x2 m1 (fun r2 m2 => ∃ nn, P_X10_rootsOf_207 Q nn x2 x4 0 m2))
def P_X10_rootsOf_166 (Q : Int → MM → Prop) : Nat → Int → Int → Int → MM → Prop
  | 0, _, _, _, _ => False
  | n + 1, x2, x4, x7, m => (RI x7) ∧ (RI x4) ∧ (if x4 ≤ x7 then P_X10_rootsOf_193 Q x2 x4 m else (0 ≤ x7 ∧ x7 < 7) ∧ (0 ≤ x7 ∧ x7 < 14) ∧ ∀ m1 : MM, m1 = up m 650 x7 (m 649 x7) → P_X10_rootsOf_166 Q n x2 x4 (x7 + 1) m1)
def P_X10_rootsOf_127 (Q : Int → MM → Prop) : Nat → Int → Int → Int → MM → Prop
  | 0, _, _, _, _ => False
  | n + 1, x2, x4, x7, m => (RI x7) ∧ (if x7 < 0 then ∃ nn, P_X10_rootsOf_166 Q nn x2 x4 0 m else P_X10_rootSquare x4 x2 m (fun r1 m1 => (RL (lAnd (lShr x2 x7) 1)) ∧ (if (lAnd (lShr x2 x7) 1) = 1 then P_X10_rootUp x4 x2 m1 (fun r2 m2 => P_X10_rootsOf_127 Q n x2 x4 (x7 + (-1)) m2) else P_X10_rootsOf_127 Q n x2 x4 (x7 + (-1)) m1)))
def P_X10_rootsOf_119 (Q : Int → MM → Prop) (x2 : Int) (x4 : Int) (m : MM) : Prop := P_X10_rootOne m (fun r1 m1 => ∃ nn, P_X10_rootsOf_127 Q nn x2 x4 13 m1)
def P_X10_rootsOf_87 (Q : Int → MM → Prop) : Nat → Int → Int → Int → Int → MM → Prop
  | 0, _, _, _, _, _ => False
  | n + 1, x2, x4, x5, x7, m => (RI x7) ∧ (RI x4) ∧ (if x4 < x7 then P_X10_rootsOf_119 Q x2 x4 m else (0 ≤ x7 ∧ x7 < 7) ∧ (RL ((m 648 x7) * x5)) ∧ (RL x2) ∧ (x2 ≠ 0) ∧ ∀ m1 : MM, m1 = up m 648 x7 (Int.tmod ((m 648 x7) * x5) x2) → P_X10_rootsOf_87 Q n x2 x4 x5 (x7 + 1) m1)
def P_X10_rootsOf_53 (Q : Int → MM → Prop) (x2 : Int) (x4 : Int) (m : MM) : Prop := (RI x4) ∧ (if 1 ≤ x4 then (0 ≤ x4 ∧ x4 < 7) ∧ P_X10_rootInverse (m 648 x4) x2 m (fun r1 m1 => ∃ nn, P_X10_rootsOf_87 Q nn x2 x4 r1 0 m1) else (if 0 ≤ x4 then Q 0 m else Q x2 m))
def P_X10_rootsOf_6 (Q : Int → MM → Prop) : Nat → Int → Int → Int → Int → MM → Prop
  | 0, _, _, _, _, _ => False
  | n + 1, x1, x2, x4, x5, m => (RI x5) ∧ (if 7 ≤ x5 then P_X10_rootsOf_53 Q x2 x4 m else (0 ≤ (x1 + (2 * x5)) ∧ (x1 + (2 * x5)) < 1600000) ∧ (0 ≤ x5 ∧ x5 < 7) ∧ ∀ m1 : MM, m1 = up m 648 x5 (m 635 (x1 + (2 * x5))) → (RL (m1 648 x5)) ∧ (if (m1 648 x5) = 0 then P_X10_rootsOf_6 Q n x1 x2 x4 (x5 + 1) m1 else P_X10_rootsOf_6 Q n x1 x2 x5 (x5 + 1) m1))
def P_X10_rootsOf (x1 : Int) (x2 : Int) (m : MM) (Q : Int → MM → Prop) : Prop := ∃ nn, P_X10_rootsOf_6 Q nn x1 x2 (-1) 0 m
theorem pl_X10_rootsOf_246 {f : Nat} {Q : Int → MM → Prop} {T : MM → Prop} (hf : 3 ≤ f) : ∀ (x2 : Int) (x4 : Int) (m : MM), P_X10_rootsOf_246 Q x2 x4 m → B f M_X10_rootsOf 246 [vR 582, vU, vL x2, vU, vI x4, vU, vU, vU] [] m Q T := by
  intro x2 x4 m h
  have h : P_X10_rootCommon x4 x2 m (fun r1 m1 => Q r1 m1) := h
  refine b_aload_n dX10_rootsOf_246 rfl ?_
  refine b_iload dX10_rootsOf_247 rfl ?_
  refine b_lload_n dX10_rootsOf_249 rfl ?_
  refine b_cVi (as := [vI x4, vL x2]) (st := []) dX10_rootsOf_250 mf_X10_rootCommon qs213 lk_X10_875 ly_582 rfl (p_X10_rootCommon (f := 2) (Nat.le_refl _) _ _ _ h) (by omega) rfl rfl (Nat.le_of_ble_eq_true rfl) (by decide) rfl (fun _ => rfl) (fun r1 m1 h => ?_) (fun _ h => h)
  exact b_iret dX10_rootsOf_253 rfl h
theorem pl_X10_rootsOf_207 {f : Nat} {Q : Int → MM → Prop} {T : MM → Prop} (hf : 3 ≤ f) : ∀ (n : Nat) (x2 : Int) (x4 : Int) (x7 : Int) (m : MM), P_X10_rootsOf_207 Q n x2 x4 x7 m → B f M_X10_rootsOf 207 [vR 582, vU, vL x2, vU, vI x4, vU, vU, vI x7] [] m Q T := by
  intro n
  induction n with
  | zero => intro x2 x4 x7 m h; exact h.elim
  | succ n ih =>
    intro x2 x4 x7 m h
    have h : (RI x7) ∧ (RI x4) ∧ (if x4 ≤ x7 then P_X10_rootsOf_246 Q x2 x4 m else (0 ≤ x7 ∧ x7 < 14) ∧ (0 ≤ x7 ∧ x7 < 7) ∧ (RL (((m 650 x7) - (m 649 x7)) + x2)) ∧ (RL x2) ∧ (x2 ≠ 0) ∧ ∀ m1 : MM, m1 = up m 649 x7 (Int.tmod (((m 650 x7) - (m 649 x7)) + x2) x2) → P_X10_rootsOf_207 Q n x2 x4 (x7 + 1) m1) := h
    refine b_iload dX10_rootsOf_207 rfl ?_
    refine b_iload dX10_rootsOf_209 rfl ?_
    obtain ⟨g1, h⟩ := h
    obtain ⟨g2, h⟩ := h
    refine b_icmp_ge 246 dX10_rootsOf_211 g1 g2 (by decide) (fun c1 => ?_) (fun c1 => ?_)
    · have h := ifT c1 h
      refine b_fgt [true, false, true, false, true, false, false, false] (ls' := [vR 582, vU, vL x2, vU, vI x4, vU, vU, vU]) rfl rfl ?_
      exact pl_X10_rootsOf_246 hf _ _ _ h
    · have h := ifF c1 h
      refine b_aload_n dX10_rootsOf_214 rfl ?_
      refine b_getR dX10_rootsOf_215 fk_X10_295 ly_582 gg_582_108 ?_
      refine b_iload dX10_rootsOf_218 rfl ?_
      refine b_aload_n dX10_rootsOf_220 rfl ?_
      refine b_getR dX10_rootsOf_221 fk_X10_298 ly_582 gg_582_109 ?_
      refine b_iload dX10_rootsOf_224 rfl ?_
      obtain ⟨g3, h⟩ := h
      refine b_lald dX10_rootsOf_226 ly_650 g3 ?_
      refine b_aload_n dX10_rootsOf_227 rfl ?_
      refine b_getR dX10_rootsOf_228 fk_X10_295 ly_582 gg_582_108 ?_
      refine b_iload dX10_rootsOf_231 rfl ?_
      obtain ⟨g4, h⟩ := h
      refine b_lald dX10_rootsOf_233 ly_649 g4 ?_
      refine b_lsub dX10_rootsOf_234 ?_
      refine b_lload_n dX10_rootsOf_235 rfl ?_
      refine b_ladd dX10_rootsOf_236 ?_
      refine b_lload_n dX10_rootsOf_237 rfl ?_
      obtain ⟨g5, h⟩ := h
      obtain ⟨g6, h⟩ := h
      obtain ⟨g7, h⟩ := h
      refine b_lrem dX10_rootsOf_238 g5 g6 g7 ?_
      refine b_last dX10_rootsOf_239 ly_649 g4 (fun m1 em1 => ?_)
      have h := h m1 em1
      refine b_iinc (ls' := [vR 582, vU, vL x2, vU, vI x4, vU, vU, vI (x7 + 1)]) dX10_rootsOf_240 rfl rfl ?_
      refine b_goto 207 dX10_rootsOf_243 (by decide) ?_
      exact ih _ _ _ _ h
theorem pl_X10_rootsOf_193 {f : Nat} {Q : Int → MM → Prop} {T : MM → Prop} (hf : 3 ≤ f) : ∀ (x2 : Int) (x4 : Int) (m : MM), P_X10_rootsOf_193 Q x2 x4 m → B f M_X10_rootsOf 193 [vR 582, vU, vL x2, vU, vI x4, vU, vU, vU] [] m Q T := by
  intro x2 x4 m h
  have h : P_X10_rootOne m (fun r1 m1 => P_X10_rootUp x4 x2 m1 (fun r2 m2 => ∃ nn, P_X10_rootsOf_207 Q nn x2 x4 0 m2)) := h
  refine b_aload_n dX10_rootsOf_193 rfl ?_
  refine b_cVv (as := []) (st := []) dX10_rootsOf_194 mf_X10_rootOne qs210 lk_X10_866 ly_582 rfl (p_X10_rootOne (f := 1) (Nat.le_refl _) _ h) (by omega) rfl rfl (Nat.le_of_ble_eq_true rfl) (by decide) rfl (fun _ => rfl) (fun r1 m1 h => ?_) (fun _ h => h)
  refine b_aload_n dX10_rootsOf_197 rfl ?_
  refine b_iload dX10_rootsOf_198 rfl ?_
  refine b_lload_n dX10_rootsOf_200 rfl ?_
  refine b_cVv (as := [vI x4, vL x2]) (st := []) dX10_rootsOf_201 mf_X10_rootUp qs212 lk_X10_872 ly_582 rfl (p_X10_rootUp (f := 1) (Nat.le_refl _) _ _ _ h) (by omega) rfl rfl (Nat.le_of_ble_eq_true rfl) (by decide) rfl (fun _ => rfl) (fun r2 m2 h => ?_) (fun _ h => h)
  refine b_iconst dX10_rootsOf_204 ?_
  refine b_istore (ls' := [vR 582, vU, vL x2, vU, vI x4, vU, vU, vI 0]) dX10_rootsOf_205 (Nat.le_of_ble_eq_true rfl) rfl ?_
  obtain ⟨nn, h⟩ := h
  exact pl_X10_rootsOf_207 hf nn _ _ _ _ h
theorem pl_X10_rootsOf_166 {f : Nat} {Q : Int → MM → Prop} {T : MM → Prop} (hf : 3 ≤ f) : ∀ (n : Nat) (x2 : Int) (x4 : Int) (x7 : Int) (m : MM), P_X10_rootsOf_166 Q n x2 x4 x7 m → B f M_X10_rootsOf 166 [vR 582, vU, vL x2, vU, vI x4, vU, vU, vI x7] [] m Q T := by
  intro n
  induction n with
  | zero => intro x2 x4 x7 m h; exact h.elim
  | succ n ih =>
    intro x2 x4 x7 m h
    have h : (RI x7) ∧ (RI x4) ∧ (if x4 ≤ x7 then P_X10_rootsOf_193 Q x2 x4 m else (0 ≤ x7 ∧ x7 < 7) ∧ (0 ≤ x7 ∧ x7 < 14) ∧ ∀ m1 : MM, m1 = up m 650 x7 (m 649 x7) → P_X10_rootsOf_166 Q n x2 x4 (x7 + 1) m1) := h
    refine b_iload dX10_rootsOf_166 rfl ?_
    refine b_iload dX10_rootsOf_168 rfl ?_
    obtain ⟨g1, h⟩ := h
    obtain ⟨g2, h⟩ := h
    refine b_icmp_ge 193 dX10_rootsOf_170 g1 g2 (by decide) (fun c1 => ?_) (fun c1 => ?_)
    · have h := ifT c1 h
      refine b_fgt [true, false, true, false, true, false, false, false] (ls' := [vR 582, vU, vL x2, vU, vI x4, vU, vU, vU]) rfl rfl ?_
      exact pl_X10_rootsOf_193 hf _ _ _ h
    · have h := ifF c1 h
      refine b_aload_n dX10_rootsOf_173 rfl ?_
      refine b_getR dX10_rootsOf_174 fk_X10_298 ly_582 gg_582_109 ?_
      refine b_iload dX10_rootsOf_177 rfl ?_
      refine b_aload_n dX10_rootsOf_179 rfl ?_
      refine b_getR dX10_rootsOf_180 fk_X10_295 ly_582 gg_582_108 ?_
      refine b_iload dX10_rootsOf_183 rfl ?_
      obtain ⟨g3, h⟩ := h
      refine b_lald dX10_rootsOf_185 ly_649 g3 ?_
      obtain ⟨g4, h⟩ := h
      refine b_last dX10_rootsOf_186 ly_650 g4 (fun m1 em1 => ?_)
      have h := h m1 em1
      refine b_iinc (ls' := [vR 582, vU, vL x2, vU, vI x4, vU, vU, vI (x7 + 1)]) dX10_rootsOf_187 rfl rfl ?_
      refine b_goto 166 dX10_rootsOf_190 (by decide) ?_
      exact ih _ _ _ _ h
theorem pl_X10_rootsOf_127 {f : Nat} {Q : Int → MM → Prop} {T : MM → Prop} (hf : 3 ≤ f) : ∀ (n : Nat) (x2 : Int) (x4 : Int) (x7 : Int) (m : MM), P_X10_rootsOf_127 Q n x2 x4 x7 m → B f M_X10_rootsOf 127 [vR 582, vU, vL x2, vU, vI x4, vU, vU, vI x7] [] m Q T := by
  intro n
  induction n with
  | zero => intro x2 x4 x7 m h; exact h.elim
  | succ n ih =>
    intro x2 x4 x7 m h
    have h : (RI x7) ∧ (if x7 < 0 then ∃ nn, P_X10_rootsOf_166 Q nn x2 x4 0 m else P_X10_rootSquare x4 x2 m (fun r1 m1 => (RL (lAnd (lShr x2 x7) 1)) ∧ (if (lAnd (lShr x2 x7) 1) = 1 then P_X10_rootUp x4 x2 m1 (fun r2 m2 => P_X10_rootsOf_127 Q n x2 x4 (x7 + (-1)) m2) else P_X10_rootsOf_127 Q n x2 x4 (x7 + (-1)) m1))) := h
    refine b_iload dX10_rootsOf_127 rfl ?_
    obtain ⟨g1, h⟩ := h
    refine b_if_lt 163 dX10_rootsOf_129 g1 (by decide) (fun c1 => ?_) (fun c1 => ?_)
    · have h := ifT c1 h
      refine b_iconst dX10_rootsOf_163 ?_
      refine b_istore (ls' := [vR 582, vU, vL x2, vU, vI x4, vU, vU, vI 0]) dX10_rootsOf_164 (Nat.le_of_ble_eq_true rfl) rfl ?_
      obtain ⟨nn, h⟩ := h
      exact pl_X10_rootsOf_166 hf nn _ _ _ _ h
    · have h := ifF c1 h
      refine b_aload_n dX10_rootsOf_132 rfl ?_
      refine b_iload dX10_rootsOf_133 rfl ?_
      refine b_lload_n dX10_rootsOf_135 rfl ?_
      refine b_cVv (as := [vI x4, vL x2]) (st := []) dX10_rootsOf_136 mf_X10_rootSquare qs211 lk_X10_869 ly_582 rfl (p_X10_rootSquare (f := 1) (Nat.le_refl _) _ _ _ h) (by omega) rfl rfl (Nat.le_of_ble_eq_true rfl) (by decide) rfl (fun _ => rfl) (fun r1 m1 h => ?_) (fun _ h => h)
      refine b_lload_n dX10_rootsOf_139 rfl ?_
      refine b_iload dX10_rootsOf_140 rfl ?_
      refine b_lshr dX10_rootsOf_142 ?_
      refine b_lconst 1 dX10_rootsOf_143 (by decide) ?_
      refine b_land dX10_rootsOf_144 ?_
      refine b_lconst 1 dX10_rootsOf_145 (by decide) ?_
      obtain ⟨g2, h⟩ := h
      refine b_lc_ne 157 dX10_rootsOf_146 dX10_rootsOf_147 g2 (by decide) (by decide) (fun c2 => ?_) (fun c2 => ?_)
      · have h := ifF c2 h
        refine b_iinc (ls' := [vR 582, vU, vL x2, vU, vI x4, vU, vU, vI (x7 + (-1))]) dX10_rootsOf_157 rfl rfl ?_
        refine b_goto 127 dX10_rootsOf_160 (by decide) ?_
        exact ih _ _ _ _ h
      · have h := ifT (Decidable.of_not_not c2) h
        refine b_aload_n dX10_rootsOf_150 rfl ?_
        refine b_iload dX10_rootsOf_151 rfl ?_
        refine b_lload_n dX10_rootsOf_153 rfl ?_
        refine b_cVv (as := [vI x4, vL x2]) (st := []) dX10_rootsOf_154 mf_X10_rootUp qs212 lk_X10_872 ly_582 rfl (p_X10_rootUp (f := 1) (Nat.le_refl _) _ _ _ h) (by omega) rfl rfl (Nat.le_of_ble_eq_true rfl) (by decide) rfl (fun _ => rfl) (fun r2 m2 h => ?_) (fun _ h => h)
        refine b_iinc (ls' := [vR 582, vU, vL x2, vU, vI x4, vU, vU, vI (x7 + (-1))]) dX10_rootsOf_157 rfl rfl ?_
        refine b_goto 127 dX10_rootsOf_160 (by decide) ?_
        exact ih _ _ _ _ h
theorem pl_X10_rootsOf_119 {f : Nat} {Q : Int → MM → Prop} {T : MM → Prop} (hf : 3 ≤ f) : ∀ (x2 : Int) (x4 : Int) (m : MM), P_X10_rootsOf_119 Q x2 x4 m → B f M_X10_rootsOf 119 [vR 582, vU, vL x2, vU, vI x4, vU, vU, vU] [] m Q T := by
  intro x2 x4 m h
  have h : P_X10_rootOne m (fun r1 m1 => ∃ nn, P_X10_rootsOf_127 Q nn x2 x4 13 m1) := h
  refine b_aload_n dX10_rootsOf_119 rfl ?_
  refine b_cVv (as := []) (st := []) dX10_rootsOf_120 mf_X10_rootOne qs210 lk_X10_866 ly_582 rfl (p_X10_rootOne (f := 1) (Nat.le_refl _) _ h) (by omega) rfl rfl (Nat.le_of_ble_eq_true rfl) (by decide) rfl (fun _ => rfl) (fun r1 m1 h => ?_) (fun _ h => h)
  refine b_bipush dX10_rootsOf_123 (by decide) ?_
  refine b_istore (ls' := [vR 582, vU, vL x2, vU, vI x4, vU, vU, vI 13]) dX10_rootsOf_125 (Nat.le_of_ble_eq_true rfl) rfl ?_
  obtain ⟨nn, h⟩ := h
  exact pl_X10_rootsOf_127 hf nn _ _ _ _ h
theorem pl_X10_rootsOf_87 {f : Nat} {Q : Int → MM → Prop} {T : MM → Prop} (hf : 3 ≤ f) : ∀ (n : Nat) (x2 : Int) (x4 : Int) (x5 : Int) (x7 : Int) (m : MM), P_X10_rootsOf_87 Q n x2 x4 x5 x7 m → B f M_X10_rootsOf 87 [vR 582, vU, vL x2, vU, vI x4, vL x5, vU, vI x7] [] m Q T := by
  intro n
  induction n with
  | zero => intro x2 x4 x5 x7 m h; exact h.elim
  | succ n ih =>
    intro x2 x4 x5 x7 m h
    have h : (RI x7) ∧ (RI x4) ∧ (if x4 < x7 then P_X10_rootsOf_119 Q x2 x4 m else (0 ≤ x7 ∧ x7 < 7) ∧ (RL ((m 648 x7) * x5)) ∧ (RL x2) ∧ (x2 ≠ 0) ∧ ∀ m1 : MM, m1 = up m 648 x7 (Int.tmod ((m 648 x7) * x5) x2) → P_X10_rootsOf_87 Q n x2 x4 x5 (x7 + 1) m1) := h
    refine b_iload dX10_rootsOf_87 rfl ?_
    refine b_iload dX10_rootsOf_89 rfl ?_
    obtain ⟨g1, h⟩ := h
    obtain ⟨g2, h⟩ := h
    refine b_icmp_gt 119 dX10_rootsOf_91 g1 g2 (by decide) (fun c1 => ?_) (fun c1 => ?_)
    · have h := ifT c1 h
      refine b_fgt [true, false, true, false, true, false, false, false] (ls' := [vR 582, vU, vL x2, vU, vI x4, vU, vU, vU]) rfl rfl ?_
      exact pl_X10_rootsOf_119 hf _ _ _ h
    · have h := ifF c1 h
      refine b_aload_n dX10_rootsOf_94 rfl ?_
      refine b_getR dX10_rootsOf_95 fk_X10_292 ly_582 gg_582_107 ?_
      refine b_iload dX10_rootsOf_98 rfl ?_
      refine b_aload_n dX10_rootsOf_100 rfl ?_
      refine b_getR dX10_rootsOf_101 fk_X10_292 ly_582 gg_582_107 ?_
      refine b_iload dX10_rootsOf_104 rfl ?_
      obtain ⟨g3, h⟩ := h
      refine b_lald dX10_rootsOf_106 ly_648 g3 ?_
      refine b_lload dX10_rootsOf_107 rfl ?_
      refine b_lmul dX10_rootsOf_109 ?_
      refine b_lload_n dX10_rootsOf_110 rfl ?_
      obtain ⟨g4, h⟩ := h
      obtain ⟨g5, h⟩ := h
      obtain ⟨g6, h⟩ := h
      refine b_lrem dX10_rootsOf_111 g4 g5 g6 ?_
      refine b_last dX10_rootsOf_112 ly_648 g3 (fun m1 em1 => ?_)
      have h := h m1 em1
      refine b_iinc (ls' := [vR 582, vU, vL x2, vU, vI x4, vL x5, vU, vI (x7 + 1)]) dX10_rootsOf_113 rfl rfl ?_
      refine b_goto 87 dX10_rootsOf_116 (by decide) ?_
      exact ih _ _ _ _ _ h
theorem pl_X10_rootsOf_53 {f : Nat} {Q : Int → MM → Prop} {T : MM → Prop} (hf : 3 ≤ f) : ∀ (x2 : Int) (x4 : Int) (m : MM), P_X10_rootsOf_53 Q x2 x4 m → B f M_X10_rootsOf 53 [vR 582, vU, vL x2, vU, vI x4, vU, vU, vU] [] m Q T := by
  intro x2 x4 m h
  have h : (RI x4) ∧ (if 1 ≤ x4 then (0 ≤ x4 ∧ x4 < 7) ∧ P_X10_rootInverse (m 648 x4) x2 m (fun r1 m1 => ∃ nn, P_X10_rootsOf_87 Q nn x2 x4 r1 0 m1) else (if 0 ≤ x4 then Q 0 m else Q x2 m)) := h
  refine b_iload dX10_rootsOf_53 rfl ?_
  refine b_iconst dX10_rootsOf_55 ?_
  obtain ⟨g1, h⟩ := h
  refine b_icmp_ge 71 dX10_rootsOf_56 g1 (by decide) (by decide) (fun c1 => ?_) (fun c1 => ?_)
  · have h := ifT c1 h
    refine b_aload_n dX10_rootsOf_71 rfl ?_
    refine b_getR dX10_rootsOf_72 fk_X10_292 ly_582 gg_582_107 ?_
    refine b_iload dX10_rootsOf_75 rfl ?_
    obtain ⟨g2, h⟩ := h
    refine b_lald dX10_rootsOf_77 ly_648 g2 ?_
    refine b_lload_n dX10_rootsOf_78 rfl ?_
    refine b_cSl (as := [vL (m 648 x4), vL x2]) (st := []) dX10_rootsOf_79 mf_X10_rootInverse lk_X10_863 (p_X10_rootInverse (f := 1) (Nat.le_refl _) _ _ _ h) (by omega) rfl rfl (Nat.le_of_ble_eq_true rfl) (by decide) rfl (fun _ => rfl) (fun r1 m1 h => ?_) (fun _ h => h)
    refine b_lstore (ls' := [vR 582, vU, vL x2, vU, vI x4, vL r1, vU, vU]) dX10_rootsOf_82 (Nat.le_of_ble_eq_true rfl) rfl ?_
    refine b_iconst dX10_rootsOf_84 ?_
    refine b_istore (ls' := [vR 582, vU, vL x2, vU, vI x4, vL r1, vU, vI 0]) dX10_rootsOf_85 (Nat.le_of_ble_eq_true rfl) rfl ?_
    obtain ⟨nn, h⟩ := h
    exact pl_X10_rootsOf_87 hf nn _ _ _ _ _ h
  · have h := ifF c1 h
    refine b_iload dX10_rootsOf_59 rfl ?_
    refine b_if_ge 69 dX10_rootsOf_61 g1 (by decide) (fun c2 => ?_) (fun c2 => ?_)
    · have h := ifT c2 h
      refine b_iconst dX10_rootsOf_69 ?_
      exact b_iret dX10_rootsOf_70 rfl h
    · have h := ifF c2 h
      refine b_lload_n dX10_rootsOf_64 rfl ?_
      refine b_l2i dX10_rootsOf_65 ?_
      refine b_goto 70 dX10_rootsOf_66 (by decide) ?_
      exact b_iret dX10_rootsOf_70 rfl h
theorem pl_X10_rootsOf_6 {f : Nat} {Q : Int → MM → Prop} {T : MM → Prop} (hf : 3 ≤ f) : ∀ (n : Nat) (x1 : Int) (x2 : Int) (x4 : Int) (x5 : Int) (m : MM), P_X10_rootsOf_6 Q n x1 x2 x4 x5 m → B f M_X10_rootsOf 6 [vR 582, vI x1, vL x2, vU, vI x4, vI x5, vU, vU] [] m Q T := by
  intro n
  induction n with
  | zero => intro x1 x2 x4 x5 m h; exact h.elim
  | succ n ih =>
    intro x1 x2 x4 x5 m h
    have h : (RI x5) ∧ (if 7 ≤ x5 then P_X10_rootsOf_53 Q x2 x4 m else (0 ≤ (x1 + (2 * x5)) ∧ (x1 + (2 * x5)) < 1600000) ∧ (0 ≤ x5 ∧ x5 < 7) ∧ ∀ m1 : MM, m1 = up m 648 x5 (m 635 (x1 + (2 * x5))) → (RL (m1 648 x5)) ∧ (if (m1 648 x5) = 0 then P_X10_rootsOf_6 Q n x1 x2 x4 (x5 + 1) m1 else P_X10_rootsOf_6 Q n x1 x2 x5 (x5 + 1) m1)) := h
    refine b_iload dX10_rootsOf_6 rfl ?_
    refine b_bipush dX10_rootsOf_8 (by decide) ?_
    obtain ⟨g1, h⟩ := h
    refine b_icmp_ge 53 dX10_rootsOf_10 g1 (by decide) (by decide) (fun c1 => ?_) (fun c1 => ?_)
    · have h := ifT c1 h
      refine b_fgt [true, false, true, false, true, false, false, false] (ls' := [vR 582, vU, vL x2, vU, vI x4, vU, vU, vU]) rfl rfl ?_
      exact pl_X10_rootsOf_53 hf _ _ _ h
    · have h := ifF c1 h
      refine b_aload_n dX10_rootsOf_13 rfl ?_
      refine b_getR dX10_rootsOf_14 fk_X10_292 ly_582 gg_582_107 ?_
      refine b_iload dX10_rootsOf_17 rfl ?_
      refine b_aload_n dX10_rootsOf_19 rfl ?_
      refine b_getR dX10_rootsOf_20 fk_X10_250 ly_582 gg_582_85 ?_
      refine b_iload_n dX10_rootsOf_23 rfl ?_
      refine b_iconst dX10_rootsOf_24 ?_
      refine b_iload dX10_rootsOf_25 rfl ?_
      refine b_imul dX10_rootsOf_27 ?_
      refine b_iadd dX10_rootsOf_28 ?_
      obtain ⟨g2, h⟩ := h
      refine b_lald dX10_rootsOf_29 ly_635 g2 ?_
      obtain ⟨g3, h⟩ := h
      refine b_last dX10_rootsOf_30 ly_648 g3 (fun m1 em1 => ?_)
      have h := h m1 em1
      refine b_aload_n dX10_rootsOf_31 rfl ?_
      refine b_getR dX10_rootsOf_32 fk_X10_292 ly_582 gg_582_107 ?_
      refine b_iload dX10_rootsOf_35 rfl ?_
      refine b_lald dX10_rootsOf_37 ly_648 g3 ?_
      refine b_lconst 0 dX10_rootsOf_38 (by decide) ?_
      obtain ⟨g4, h⟩ := h
      refine b_lc_eq 47 dX10_rootsOf_39 dX10_rootsOf_40 g4 (by decide) (by decide) (fun c2 => ?_) (fun c2 => ?_)
      · have h := ifT c2 h
        refine b_iinc (ls' := [vR 582, vI x1, vL x2, vU, vI x4, vI (x5 + 1), vU, vU]) dX10_rootsOf_47 rfl rfl ?_
        refine b_goto 6 dX10_rootsOf_50 (by decide) ?_
        exact ih _ _ _ _ _ h
      · have h := ifF c2 h
        refine b_iload dX10_rootsOf_43 rfl ?_
        refine b_istore (ls' := [vR 582, vI x1, vL x2, vU, vI x5, vI x5, vU, vU]) dX10_rootsOf_45 (Nat.le_of_ble_eq_true rfl) rfl ?_
        refine b_iinc (ls' := [vR 582, vI x1, vL x2, vU, vI x5, vI (x5 + 1), vU, vU]) dX10_rootsOf_47 rfl rfl ?_
        refine b_goto 6 dX10_rootsOf_50 (by decide) ?_
        exact ih _ _ _ _ _ h
theorem p_X10_rootsOf {f : Nat} {Q : Int → MM → Prop} {T : MM → Prop} (hf : 3 ≤ f) (x1 : Int) (x2 : Int) (m : MM) (h : P_X10_rootsOf x1 x2 m Q) : CC f M_X10_rootsOf [vR 582, vI x1, vL x2] m Q T := by
  refine CC.of (plainFor_of_name (by decide)) (Nat.le_of_ble_eq_true rfl) (ls := [vR 582, vI x1, vL x2, vU, vU, vU, vU, vU]) rfl ?_
  have h : ∃ nn, P_X10_rootsOf_6 Q nn x1 x2 (-1) 0 m := h
  refine b_iconst dX10_rootsOf_0 ?_
  refine b_istore (ls' := [vR 582, vI x1, vL x2, vU, vI (-1), vU, vU, vU]) dX10_rootsOf_1 (Nat.le_of_ble_eq_true rfl) rfl ?_
  refine b_iconst dX10_rootsOf_3 ?_
  refine b_istore (ls' := [vR 582, vI x1, vL x2, vU, vI (-1), vI 0, vU, vU]) dX10_rootsOf_4 (Nat.le_of_ble_eq_true rfl) rfl ?_
  obtain ⟨nn, h⟩ := h
  exact pl_X10_rootsOf_6 hf nn _ _ _ _ _ h
theorem dX10_built_0 : decode cX10_built 0 = .ok (.aload_n 0, 1) := by decide +kernel
theorem dX10_built_1 : decode cX10_built 1 = .ok (.getfield 130, 3) := by decide +kernel
theorem dX10_built_4 : decode cX10_built 4 = .ok (.iload_n 3, 1) := by decide +kernel
theorem dX10_built_5 : decode cX10_built 5 = .ok (.iaload, 1) := by decide +kernel
theorem dX10_built_6 : decode cX10_built 6 = .ok (.istore 6, 2) := by decide +kernel
theorem dX10_built_8 : decode cX10_built 8 = .ok (.aload_n 0, 1) := by decide +kernel
theorem dX10_built_9 : decode cX10_built 9 = .ok (.getfield 133, 3) := by decide +kernel
theorem dX10_built_12 : decode cX10_built 12 = .ok (.iload_n 3, 1) := by decide +kernel
theorem dX10_built_13 : decode cX10_built 13 = .ok (.iaload, 1) := by decide +kernel
theorem dX10_built_14 : decode cX10_built 14 = .ok (.istore 7, 2) := by decide +kernel
theorem dX10_built_16 : decode cX10_built 16 = .ok (.aload_n 0, 1) := by decide +kernel
theorem dX10_built_17 : decode cX10_built 17 = .ok (.getfield 136, 3) := by decide +kernel
theorem dX10_built_20 : decode cX10_built 20 = .ok (.iload_n 3, 1) := by decide +kernel
theorem dX10_built_21 : decode cX10_built 21 = .ok (.iaload, 1) := by decide +kernel
theorem dX10_built_22 : decode cX10_built 22 = .ok (.istore 8, 2) := by decide +kernel
theorem dX10_built_24 : decode cX10_built 24 = .ok (.iload_n 2, 1) := by decide +kernel
theorem dX10_built_25 : decode cX10_built 25 = .ok (.tableswitch 431 0 11 #[63, 86, 118, 136, 149, 162, 207, 285, 357, 374, 396, 409], 63) := by decide +kernel
theorem dX10_built_88 : decode cX10_built 88 = .ok (.aload_n 0, 1) := by decide +kernel
theorem dX10_built_89 : decode cX10_built 89 = .ok (.iload 4, 2) := by decide +kernel
theorem dX10_built_91 : decode cX10_built 91 = .ok (.iload 5, 2) := by decide +kernel
theorem dX10_built_93 : decode cX10_built 93 = .ok (.aload_n 0, 1) := by decide +kernel
theorem dX10_built_94 : decode cX10_built 94 = .ok (.getfield 130, 3) := by decide +kernel
theorem dX10_built_97 : decode cX10_built 97 = .ok (.iload_n 1, 1) := by decide +kernel
theorem dX10_built_98 : decode cX10_built 98 = .ok (.iaload, 1) := by decide +kernel
theorem dX10_built_99 : decode cX10_built 99 = .ok (.aload_n 0, 1) := by decide +kernel
theorem dX10_built_100 : decode cX10_built 100 = .ok (.getfield 133, 3) := by decide +kernel
theorem dX10_built_103 : decode cX10_built 103 = .ok (.iload_n 1, 1) := by decide +kernel
theorem dX10_built_104 : decode cX10_built 104 = .ok (.iaload, 1) := by decide +kernel
theorem dX10_built_105 : decode cX10_built 105 = .ok (.invokevirtual 826, 3) := by decide +kernel
theorem dX10_built_108 : decode cX10_built 108 = .ok (.goto 379, 3) := by decide +kernel
theorem dX10_built_111 : decode cX10_built 111 = .ok (.aload_n 0, 1) := by decide +kernel
theorem dX10_built_112 : decode cX10_built 112 = .ok (.iload 4, 2) := by decide +kernel
theorem dX10_built_114 : decode cX10_built 114 = .ok (.iload 7, 2) := by decide +kernel
theorem dX10_built_116 : decode cX10_built 116 = .ok (.iconst 1, 1) := by decide +kernel
theorem dX10_built_117 : decode cX10_built 117 = .ok (.if_icmp .ne 13, 3) := by decide +kernel
theorem dX10_built_120 : decode cX10_built 120 = .ok (.aload_n 0, 1) := by decide +kernel
theorem dX10_built_121 : decode cX10_built 121 = .ok (.iload 4, 2) := by decide +kernel
theorem dX10_built_123 : decode cX10_built 123 = .ok (.invokevirtual 799, 3) := by decide +kernel
theorem dX10_built_126 : decode cX10_built 126 = .ok (.i2l, 1) := by decide +kernel
theorem dX10_built_127 : decode cX10_built 127 = .ok (.goto 10, 3) := by decide +kernel
theorem dX10_built_130 : decode cX10_built 130 = .ok (.aload_n 0, 1) := by decide +kernel
theorem dX10_built_131 : decode cX10_built 131 = .ok (.iload 4, 2) := by decide +kernel
theorem dX10_built_133 : decode cX10_built 133 = .ok (.invokevirtual 829, 3) := by decide +kernel
theorem dX10_built_136 : decode cX10_built 136 = .ok (.i2l, 1) := by decide +kernel
theorem dX10_built_137 : decode cX10_built 137 = .ok (.invokevirtual 832, 3) := by decide +kernel
theorem dX10_built_140 : decode cX10_built 140 = .ok (.goto 347, 3) := by decide +kernel
theorem dX10_built_143 : decode cX10_built 143 = .ok (.aload_n 0, 1) := by decide +kernel
theorem dX10_built_144 : decode cX10_built 144 = .ok (.iload 4, 2) := by decide +kernel
theorem dX10_built_146 : decode cX10_built 146 = .ok (.aload_n 0, 1) := by decide +kernel
theorem dX10_built_147 : decode cX10_built 147 = .ok (.getfield 250, 3) := by decide +kernel
theorem dX10_built_150 : decode cX10_built 150 = .ok (.iload 5, 2) := by decide +kernel
theorem dX10_built_152 : decode cX10_built 152 = .ok (.laload, 1) := by decide +kernel
theorem dX10_built_153 : decode cX10_built 153 = .ok (.iload 7, 2) := by decide +kernel
theorem dX10_built_155 : decode cX10_built 155 = .ok (.invokevirtual 835, 3) := by decide +kernel
theorem dX10_built_158 : decode cX10_built 158 = .ok (.goto 329, 3) := by decide +kernel
theorem dX10_built_161 : decode cX10_built 161 = .ok (.aload_n 0, 1) := by decide +kernel
theorem dX10_built_162 : decode cX10_built 162 = .ok (.iload_n 1, 1) := by decide +kernel
theorem dX10_built_163 : decode cX10_built 163 = .ok (.iload_n 3, 1) := by decide +kernel
theorem dX10_built_164 : decode cX10_built 164 = .ok (.iload 4, 2) := by decide +kernel
theorem dX10_built_166 : decode cX10_built 166 = .ok (.iload 5, 2) := by decide +kernel
theorem dX10_built_168 : decode cX10_built 168 = .ok (.invokevirtual 839, 3) := by decide +kernel
theorem dX10_built_171 : decode cX10_built 171 = .ok (.goto 316, 3) := by decide +kernel
theorem dX10_built_174 : decode cX10_built 174 = .ok (.aload_n 0, 1) := by decide +kernel
theorem dX10_built_175 : decode cX10_built 175 = .ok (.iload 4, 2) := by decide +kernel
theorem dX10_built_177 : decode cX10_built 177 = .ok (.iload 6, 2) := by decide +kernel
theorem dX10_built_179 : decode cX10_built 179 = .ok (.iload 7, 2) := by decide +kernel
theorem dX10_built_181 : decode cX10_built 181 = .ok (.invokevirtual 842, 3) := by decide +kernel
theorem dX10_built_184 : decode cX10_built 184 = .ok (.goto 303, 3) := by decide +kernel
theorem dX10_built_187 : decode cX10_built 187 = .ok (.aload_n 0, 1) := by decide +kernel
theorem dX10_built_188 : decode cX10_built 188 = .ok (.ldc_w 688, 3) := by decide +kernel
theorem dX10_built_191 : decode cX10_built 191 = .ok (.iload 4, 2) := by decide +kernel
theorem dX10_built_193 : decode cX10_built 193 = .ok (.iload 6, 2) := by decide +kernel
theorem dX10_built_195 : decode cX10_built 195 = .ok (.iload 7, 2) := by decide +kernel
theorem dX10_built_197 : decode cX10_built 197 = .ok (.iload 8, 2) := by decide +kernel
theorem dX10_built_199 : decode cX10_built 199 = .ok (.invokevirtual 845, 3) := by decide +kernel
theorem dX10_built_202 : decode cX10_built 202 = .ok (.aload_n 0, 1) := by decide +kernel
theorem dX10_built_203 : decode cX10_built 203 = .ok (.iload 4, 2) := by decide +kernel
theorem dX10_built_205 : decode cX10_built 205 = .ok (.sipush 882, 3) := by decide +kernel
theorem dX10_built_208 : decode cX10_built 208 = .ok (.invokevirtual 685, 3) := by decide +kernel
theorem dX10_built_211 : decode cX10_built 211 = .ok (.aload_n 0, 1) := by decide +kernel
theorem dX10_built_212 : decode cX10_built 212 = .ok (.getfield 601, 3) := by decide +kernel
theorem dX10_built_215 : decode cX10_built 215 = .ok (.ifCond .ne 272, 3) := by decide +kernel
theorem dX10_built_218 : decode cX10_built 218 = .ok (.aload_n 0, 1) := by decide +kernel
theorem dX10_built_219 : decode cX10_built 219 = .ok (.iload 4, 2) := by decide +kernel
theorem dX10_built_221 : decode cX10_built 221 = .ok (.ldc_w 688, 3) := by decide +kernel
theorem dX10_built_224 : decode cX10_built 224 = .ok (.bipush 98, 2) := by decide +kernel
theorem dX10_built_226 : decode cX10_built 226 = .ok (.invokevirtual 658, 3) := by decide +kernel
theorem dX10_built_229 : decode cX10_built 229 = .ok (.goto 258, 3) := by decide +kernel
theorem dX10_built_232 : decode cX10_built 232 = .ok (.aload_n 0, 1) := by decide +kernel
theorem dX10_built_233 : decode cX10_built 233 = .ok (.ldc_w 688, 3) := by decide +kernel
theorem dX10_built_236 : decode cX10_built 236 = .ok (.bipush 98, 2) := by decide +kernel
theorem dX10_built_238 : decode cX10_built 238 = .ok (.invokevirtual 685, 3) := by decide +kernel
theorem dX10_built_241 : decode cX10_built 241 = .ok (.iconst 0, 1) := by decide +kernel
theorem dX10_built_242 : decode cX10_built 242 = .ok (.istore 9, 2) := by decide +kernel
theorem dX10_built_244 : decode cX10_built 244 = .ok (.iload 9, 2) := by decide +kernel
theorem dX10_built_246 : decode cX10_built 246 = .ok (.iload 8, 2) := by decide +kernel
theorem dX10_built_248 : decode cX10_built 248 = .ok (.if_icmp .ge 39, 3) := by decide +kernel
theorem dX10_built_251 : decode cX10_built 251 = .ok (.aload_n 0, 1) := by decide +kernel
theorem dX10_built_252 : decode cX10_built 252 = .ok (.getfield 601, 3) := by decide +kernel
theorem dX10_built_255 : decode cX10_built 255 = .ok (.ifCond .ne 32, 3) := by decide +kernel
theorem dX10_built_258 : decode cX10_built 258 = .ok (.aload_n 0, 1) := by decide +kernel
theorem dX10_built_259 : decode cX10_built 259 = .ok (.ldc_w 688, 3) := by decide +kernel
theorem dX10_built_262 : decode cX10_built 262 = .ok (.ldc_w 688, 3) := by decide +kernel
theorem dX10_built_265 : decode cX10_built 265 = .ok (.iload 4, 2) := by decide +kernel
theorem dX10_built_267 : decode cX10_built 267 = .ok (.iload 9, 2) := by decide +kernel
theorem dX10_built_269 : decode cX10_built 269 = .ok (.iload 9, 2) := by decide +kernel
theorem dX10_built_271 : decode cX10_built 271 = .ok (.invokestatic 677, 3) := by decide +kernel
theorem dX10_built_274 : decode cX10_built 274 = .ok (.iload 6, 2) := by decide +kernel
theorem dX10_built_276 : decode cX10_built 276 = .ok (.iload 7, 2) := by decide +kernel
theorem dX10_built_278 : decode cX10_built 278 = .ok (.invokevirtual 667, 3) := by decide +kernel
theorem dX10_built_281 : decode cX10_built 281 = .ok (.iinc 9 1, 3) := by decide +kernel
theorem dX10_built_284 : decode cX10_built 284 = .ok (.goto (-40), 3) := by decide +kernel
theorem dX10_built_287 : decode cX10_built 287 = .ok (.aload_n 0, 1) := by decide +kernel
theorem dX10_built_288 : decode cX10_built 288 = .ok (.iload 4, 2) := by decide +kernel
theorem dX10_built_290 : decode cX10_built 290 = .ok (.sipush 882, 3) := by decide +kernel
theorem dX10_built_293 : decode cX10_built 293 = .ok (.invokevirtual 685, 3) := by decide +kernel
theorem dX10_built_296 : decode cX10_built 296 = .ok (.aload_n 0, 1) := by decide +kernel
theorem dX10_built_297 : decode cX10_built 297 = .ok (.iload 4, 2) := by decide +kernel
theorem dX10_built_299 : decode cX10_built 299 = .ok (.ldc_w 688, 3) := by decide +kernel
theorem dX10_built_302 : decode cX10_built 302 = .ok (.bipush 98, 2) := by decide +kernel
theorem dX10_built_304 : decode cX10_built 304 = .ok (.invokevirtual 658, 3) := by decide +kernel
theorem dX10_built_307 : decode cX10_built 307 = .ok (.goto 180, 3) := by decide +kernel
theorem dX10_built_310 : decode cX10_built 310 = .ok (.aload_n 0, 1) := by decide +kernel
theorem dX10_built_311 : decode cX10_built 311 = .ok (.ldc_w 750, 3) := by decide +kernel
theorem dX10_built_314 : decode cX10_built 314 = .ok (.iload 4, 2) := by decide +kernel
theorem dX10_built_316 : decode cX10_built 316 = .ok (.sipush 882, 3) := by decide +kernel
theorem dX10_built_319 : decode cX10_built 319 = .ok (.invokevirtual 658, 3) := by decide +kernel
theorem dX10_built_322 : decode cX10_built 322 = .ok (.iconst 0, 1) := by decide +kernel
theorem dX10_built_323 : decode cX10_built 323 = .ok (.istore 9, 2) := by decide +kernel
theorem dX10_built_325 : decode cX10_built 325 = .ok (.iload 9, 2) := by decide +kernel
theorem dX10_built_327 : decode cX10_built 327 = .ok (.iload 8, 2) := by decide +kernel
theorem dX10_built_329 : decode cX10_built 329 = .ok (.if_icmp .ge 50, 3) := by decide +kernel
theorem dX10_built_332 : decode cX10_built 332 = .ok (.iconst 0, 1) := by decide +kernel
theorem dX10_built_333 : decode cX10_built 333 = .ok (.istore 10, 2) := by decide +kernel
theorem dX10_built_335 : decode cX10_built 335 = .ok (.iload 10, 2) := by decide +kernel
theorem dX10_built_337 : decode cX10_built 337 = .ok (.iload 8, 2) := by decide +kernel
theorem dX10_built_339 : decode cX10_built 339 = .ok (.if_icmp .ge 34, 3) := by decide +kernel
theorem dX10_built_342 : decode cX10_built 342 = .ok (.aload_n 0, 1) := by decide +kernel
theorem dX10_built_343 : decode cX10_built 343 = .ok (.iload 4, 2) := by decide +kernel
theorem dX10_built_345 : decode cX10_built 345 = .ok (.iload 9, 2) := by decide +kernel
theorem dX10_built_347 : decode cX10_built 347 = .ok (.iload 10, 2) := by decide +kernel
theorem dX10_built_349 : decode cX10_built 349 = .ok (.invokestatic 677, 3) := by decide +kernel
theorem dX10_built_352 : decode cX10_built 352 = .ok (.ldc_w 750, 3) := by decide +kernel
theorem dX10_built_355 : decode cX10_built 355 = .ok (.iload 10, 2) := by decide +kernel
theorem dX10_built_357 : decode cX10_built 357 = .ok (.iload 9, 2) := by decide +kernel
theorem dX10_built_359 : decode cX10_built 359 = .ok (.invokestatic 677, 3) := by decide +kernel
theorem dX10_built_362 : decode cX10_built 362 = .ok (.bipush 98, 2) := by decide +kernel
theorem dX10_built_364 : decode cX10_built 364 = .ok (.invokevirtual 658, 3) := by decide +kernel
theorem dX10_built_367 : decode cX10_built 367 = .ok (.iinc 10 1, 3) := by decide +kernel
theorem dX10_built_370 : decode cX10_built 370 = .ok (.goto (-35), 3) := by decide +kernel
theorem dX10_built_373 : decode cX10_built 373 = .ok (.iinc 9 1, 3) := by decide +kernel
theorem dX10_built_376 : decode cX10_built 376 = .ok (.goto (-51), 3) := by decide +kernel
theorem dX10_built_379 : decode cX10_built 379 = .ok (.goto 108, 3) := by decide +kernel
theorem dX10_built_382 : decode cX10_built 382 = .ok (.aload_n 0, 1) := by decide +kernel
theorem dX10_built_383 : decode cX10_built 383 = .ok (.iload 4, 2) := by decide +kernel
theorem dX10_built_385 : decode cX10_built 385 = .ok (.iload 4, 2) := by decide +kernel
theorem dX10_built_387 : decode cX10_built 387 = .ok (.iload 6, 2) := by decide +kernel
theorem dX10_built_389 : decode cX10_built 389 = .ok (.iload 7, 2) := by decide +kernel
theorem dX10_built_391 : decode cX10_built 391 = .ok (.iload 8, 2) := by decide +kernel
theorem dX10_built_393 : decode cX10_built 393 = .ok (.invokevirtual 848, 3) := by decide +kernel
theorem dX10_built_396 : decode cX10_built 396 = .ok (.goto 91, 3) := by decide +kernel
theorem dX10_built_399 : decode cX10_built 399 = .ok (.aload_n 0, 1) := by decide +kernel
theorem dX10_built_400 : decode cX10_built 400 = .ok (.iload 4, 2) := by decide +kernel
theorem dX10_built_402 : decode cX10_built 402 = .ok (.iload 6, 2) := by decide +kernel
theorem dX10_built_404 : decode cX10_built 404 = .ok (.ifCond .ne 7, 3) := by decide +kernel
theorem dX10_built_407 : decode cX10_built 407 = .ok (.iconst 1, 1) := by decide +kernel
theorem dX10_built_408 : decode cX10_built 408 = .ok (.goto 5, 3) := by decide +kernel
theorem dX10_built_411 : decode cX10_built 411 = .ok (.iload 6, 2) := by decide +kernel
theorem dX10_built_413 : decode cX10_built 413 = .ok (.iload 8, 2) := by decide +kernel
theorem dX10_built_415 : decode cX10_built 415 = .ok (.invokevirtual 851, 3) := by decide +kernel
theorem dX10_built_418 : decode cX10_built 418 = .ok (.goto 69, 3) := by decide +kernel
theorem dX10_built_421 : decode cX10_built 421 = .ok (.aload_n 0, 1) := by decide +kernel
theorem dX10_built_422 : decode cX10_built 422 = .ok (.iload 4, 2) := by decide +kernel
theorem dX10_built_424 : decode cX10_built 424 = .ok (.iload 6, 2) := by decide +kernel
theorem dX10_built_426 : decode cX10_built 426 = .ok (.iload 8, 2) := by decide +kernel
theorem dX10_built_428 : decode cX10_built 428 = .ok (.invokevirtual 854, 3) := by decide +kernel
theorem dX10_built_431 : decode cX10_built 431 = .ok (.goto 56, 3) := by decide +kernel
theorem dX10_built_434 : decode cX10_built 434 = .ok (.aload_n 0, 1) := by decide +kernel
theorem dX10_built_435 : decode cX10_built 435 = .ok (.iload 4, 2) := by decide +kernel
theorem dX10_built_437 : decode cX10_built 437 = .ok (.aload_n 0, 1) := by decide +kernel
theorem dX10_built_438 : decode cX10_built 438 = .ok (.iload 4, 2) := by decide +kernel
theorem dX10_built_440 : decode cX10_built 440 = .ok (.aload_n 0, 1) := by decide +kernel
theorem dX10_built_441 : decode cX10_built 441 = .ok (.iload 6, 2) := by decide +kernel
theorem dX10_built_443 : decode cX10_built 443 = .ok (.invokevirtual 611, 3) := by decide +kernel
theorem dX10_built_446 : decode cX10_built 446 = .ok (.invokevirtual 857, 3) := by decide +kernel
theorem dX10_built_449 : decode cX10_built 449 = .ok (.i2l, 1) := by decide +kernel
theorem dX10_built_450 : decode cX10_built 450 = .ok (.invokevirtual 832, 3) := by decide +kernel
theorem dX10_built_453 : decode cX10_built 453 = .ok (.goto 34, 3) := by decide +kernel
theorem dX10_built_456 : decode cX10_built 456 = .ok (.aload_n 0, 1) := by decide +kernel
theorem dX10_built_457 : decode cX10_built 457 = .ok (.iload 4, 2) := by decide +kernel
theorem dX10_built_459 : decode cX10_built 459 = .ok (.iload_n 2, 1) := by decide +kernel
theorem dX10_built_460 : decode cX10_built 460 = .ok (.bipush 12, 2) := by decide +kernel
theorem dX10_built_462 : decode cX10_built 462 = .ok (.if_icmp .ne 13, 3) := by decide +kernel
theorem dX10_built_465 : decode cX10_built 465 = .ok (.aload_n 0, 1) := by decide +kernel
theorem dX10_built_466 : decode cX10_built 466 = .ok (.getfield 250, 3) := by decide +kernel
theorem dX10_built_469 : decode cX10_built 469 = .ok (.iload 4, 2) := by decide +kernel
theorem dX10_built_471 : decode cX10_built 471 = .ok (.laload, 1) := by decide +kernel
theorem dX10_built_472 : decode cX10_built 472 = .ok (.goto 12, 3) := by decide +kernel
theorem dX10_built_475 : decode cX10_built 475 = .ok (.aload_n 0, 1) := by decide +kernel
theorem dX10_built_476 : decode cX10_built 476 = .ok (.getfield 250, 3) := by decide +kernel
theorem dX10_built_479 : decode cX10_built 479 = .ok (.iload 4, 2) := by decide +kernel
theorem dX10_built_481 : decode cX10_built 481 = .ok (.iconst 1, 1) := by decide +kernel
theorem dX10_built_482 : decode cX10_built 482 = .ok (.iadd, 1) := by decide +kernel
theorem dX10_built_483 : decode cX10_built 483 = .ok (.laload, 1) := by decide +kernel
theorem dX10_built_484 : decode cX10_built 484 = .ok (.invokevirtual 832, 3) := by decide +kernel
theorem dX10_built_487 : decode cX10_built 487 = .ok (.return_, 1) := by decide +kernel
/-! AlgebraHouseModel.built(IIIII)V -/
def P_X10_built_137 (Q : Int → MM → Prop) (s1 : Int) (s2 : Int) (m : MM) : Prop := P_X10_tellNumber s1 s2 m (fun r1 m1 => Q 0 m1)
def P_X10_built_287 (Q : Int → MM → Prop) (x4 : Int) (m : MM) : Prop := P_X10_clear x4 882 m (fun r1 m1 => P_X10_copy x4 1590300 98 m1 (fun r2 m2 => Q 0 m2))
def P_X10_built_244 (Q : Int → MM → Prop) : Nat → Int → Int → Int → Int → Int → MM → Prop
  | 0, _, _, _, _, _, _ => False
  | n + 1, x4, x6, x7, x8, x9, m => (RI x9) ∧ (RI x8) ∧ (if x8 ≤ x9 then P_X10_built_287 Q x4 m else (RI (m 582 84)) ∧ (if (m 582 84) = 0 then P_X10_entryAt x4 x9 x9 m (fun r1 m1 => P_X10_addBlocks 1590300 1590300 r1 x6 x7 m1 (fun r2 m2 => P_X10_built_244 Q n x4 x6 x7 x8 (x9 + 1) m2)) else P_X10_built_287 Q x4 m))
def P_X10_built_335 (Q : Int → MM → Prop) (K325 : Int → Int → Int → MM → Prop) : Nat → Int → Int → Int → Int → MM → Prop
  | 0, _, _, _, _, _ => False
  | n + 1, x4, x8, x9, x10, m => (RI x10) ∧ (RI x8) ∧ (if x8 ≤ x10 then K325 x4 x8 (x9 + 1) m else P_X10_entryAt x4 x9 x10 m (fun r1 m1 => P_X10_entryAt 1593000 x10 x9 m1 (fun r2 m2 => P_X10_copy r1 r2 98 m2 (fun r3 m3 => P_X10_built_335 Q K325 n x4 x8 x9 (x10 + 1) m3))))
def P_X10_built_325 (Q : Int → MM → Prop) : Nat → Int → Int → Int → MM → Prop
  | 0, _, _, _, _ => False
  | n + 1, x4, x8, x9, m => (RI x9) ∧ (RI x8) ∧ (if x8 ≤ x9 then Q 0 m else ∃ nn, P_X10_built_335 Q (fun z0 z1 z2 z3 => P_X10_built_325 Q n z0 z1 z2 z3) nn x4 x8 x9 0 m)
def P_X10_built (x1 : Int) (x2 : Int) (x3 : Int) (x4 : Int) (x5 : Int) (m : MM) (Q : Int → MM → Prop) : Prop := (0 ≤ x3 ∧ x3 < 12000) ∧ (RI x2) ∧ (if x2 = 0 then (0 ≤ x1 ∧ x1 < 12000) ∧ P_X10_greatest x4 x5 (m 598 x1) (m 599 x1) m (fun r1 m1 => Q 0 m1) else (if x2 = 1 then (RI (m 599 x3)) ∧ (if (m 599 x3) = 1 then P_X10_degreeOf x4 m (fun r3 m3 => (RI r3) ∧ P_X10_built_137 Q x4 r3 m3) else P_X10_outerDegree x4 m (fun r2 m2 => (RI r2) ∧ P_X10_built_137 Q x4 r2 m2)) else (if x2 = 2 then (0 ≤ x5 ∧ x5 < 1600000) ∧ P_X10_coefficient x4 (m 635 x5) (m 599 x3) m (fun r4 m4 => Q 0 m4) else (if x2 = 3 then P_X10_evalAt x1 x3 x4 x5 m (fun r5 m5 => Q 0 m5) else (if x2 = 4 then P_X10_derive x4 (m 598 x3) (m 599 x3) m (fun r6 m6 => Q 0 m6) else (if x2 = 5 then P_X10_det 1590300 x4 (m 598 x3) (m 599 x3) (m 600 x3) m (fun r7 m7 => P_X10_clear x4 882 m7 (fun r8 m8 => (RI (m8 582 84)) ∧ (if (m8 582 84) = 0 then P_X10_copy x4 1590300 98 m8 (fun r9 m9 => Q 0 m9) else Q 0 m8))) else (if x2 = 6 then P_X10_clear 1590300 98 m (fun r10 m10 => ∃ nn, P_X10_built_244 Q nn x4 (m 598 x3) (m 599 x3) (m 600 x3) 0 m10) else (if x2 = 7 then P_X10_copy 1593000 x4 882 m (fun r11 m11 => ∃ nn, P_X10_built_325 Q nn x4 (m 600 x3) 0 m11) else (if x2 = 8 then P_X10_adjoin x4 x4 (m 598 x3) (m 599 x3) (m 600 x3) m (fun r12 m12 => Q 0 m12) else (if x2 = 9 then ((RI (m 598 x3))) ∧ P_X10_invert x4 (if (m 598 x3) = 0 then 1 else (m 598 x3) : Int) (m 600 x3) m (fun r13 m13 => Q 0 m13) else (if x2 = 10 then P_X10_characterize x4 (m 598 x3) (m 600 x3) m (fun r14 m14 => Q 0 m14) else (if x2 = 11 then P_X10_modulo (m 598 x3) m (fun r15 m15 => P_X10_rootsOf x4 r15 m15 (fun r16 m16 => (RI r16) ∧ P_X10_tellNumber x4 r16 m16 (fun r17 m17 => Q 0 m17))) else ((if x2 = 12 then ((0 ≤ x4 ∧ x4 < 1600000)) else ((0 ≤ (x4 + 1) ∧ (x4 + 1) < 1600000)))) ∧ P_X10_tellNumber x4 (if x2 = 12 then (m 635 x4) else (m 635 (x4 + 1)) : Int) m (fun r18 m18 => Q 0 m18)))))))))))))
theorem pl_X10_built_137 {f : Nat} {Q : Int → MM → Prop} {T : MM → Prop} (hf : 9 ≤ f) : ∀ (s1 : Int) (s2 : Int) (m : MM), P_X10_built_137 Q s1 s2 m → B f M_X10_built 137 [vU, vU, vU, vU, vU, vU, vU, vU, vU, vU, vU] [vL s2, vI s1, vR 582] m Q T := by
  intro s1 s2 m h
  have h : P_X10_tellNumber s1 s2 m (fun r1 m1 => Q 0 m1) := h
  refine b_cVv (as := [vI s1, vL s2]) (st := []) dX10_built_137 mf_X10_tellNumber qs198 lk_X10_832 ly_582 rfl (p_X10_tellNumber (f := 3) (Nat.le_refl _) _ _ _ h) (by omega) rfl rfl (Nat.le_of_ble_eq_true rfl) (by decide) rfl (fun _ => rfl) (fun r1 m1 h => ?_) (fun _ h => h)
  refine b_goto 487 dX10_built_140 (by decide) ?_
  exact b_vret dX10_built_487 rfl h
theorem pl_X10_built_287 {f : Nat} {Q : Int → MM → Prop} {T : MM → Prop} (hf : 9 ≤ f) : ∀ (x4 : Int) (m : MM), P_X10_built_287 Q x4 m → B f M_X10_built 287 [vR 582, vU, vU, vU, vI x4, vU, vU, vU, vU, vU, vU] [] m Q T := by
  intro x4 m h
  have h : P_X10_clear x4 882 m (fun r1 m1 => P_X10_copy x4 1590300 98 m1 (fun r2 m2 => Q 0 m2)) := h
  refine b_aload_n dX10_built_287 rfl ?_
  refine b_iload dX10_built_288 rfl ?_
  refine b_sipush dX10_built_290 (by decide) ?_
  refine b_cVv (as := [vI x4, vI 882]) (st := []) dX10_built_293 mf_X10_clear qs162 lk_X10_685 ly_582 rfl (p_X10_clear (f := 2) (Nat.le_refl _) _ _ _ h) (by omega) rfl rfl (Nat.le_of_ble_eq_true rfl) (by decide) rfl (fun _ => rfl) (fun r1 m1 h => ?_) (fun _ h => h)
  refine b_aload_n dX10_built_296 rfl ?_
  refine b_iload dX10_built_297 rfl ?_
  refine b_ldcw (1590300) dX10_built_299 q2363 (by decide) ?_
  refine b_bipush dX10_built_302 (by decide) ?_
  refine b_cVv (as := [vI x4, vI 1590300, vI 98]) (st := []) dX10_built_304 mf_X10_copy qs164 lk_X10_658 ly_582 rfl (p_X10_copy (f := 1) (Nat.le_refl _) _ _ _ _ h) (by omega) rfl rfl (Nat.le_of_ble_eq_true rfl) (by decide) rfl (fun _ => rfl) (fun r2 m2 h => ?_) (fun _ h => h)
  refine b_goto 487 dX10_built_307 (by decide) ?_
  exact b_vret dX10_built_487 rfl h
theorem pl_X10_built_244 {f : Nat} {Q : Int → MM → Prop} {T : MM → Prop} (hf : 9 ≤ f) : ∀ (n : Nat) (x4 : Int) (x6 : Int) (x7 : Int) (x8 : Int) (x9 : Int) (m : MM), P_X10_built_244 Q n x4 x6 x7 x8 x9 m → B f M_X10_built 244 [vR 582, vU, vU, vU, vI x4, vU, vI x6, vI x7, vI x8, vI x9, vU] [] m Q T := by
  intro n
  induction n with
  | zero => intro x4 x6 x7 x8 x9 m h; exact h.elim
  | succ n ih =>
    intro x4 x6 x7 x8 x9 m h
    have h : (RI x9) ∧ (RI x8) ∧ (if x8 ≤ x9 then P_X10_built_287 Q x4 m else (RI (m 582 84)) ∧ (if (m 582 84) = 0 then P_X10_entryAt x4 x9 x9 m (fun r1 m1 => P_X10_addBlocks 1590300 1590300 r1 x6 x7 m1 (fun r2 m2 => P_X10_built_244 Q n x4 x6 x7 x8 (x9 + 1) m2)) else P_X10_built_287 Q x4 m)) := h
    refine b_iload dX10_built_244 rfl ?_
    refine b_iload dX10_built_246 rfl ?_
    obtain ⟨g1, h⟩ := h
    obtain ⟨g2, h⟩ := h
    refine b_icmp_ge 287 dX10_built_248 g1 g2 (by decide) (fun c1 => ?_) (fun c1 => ?_)
    · have h := ifT c1 h
      refine b_fgt [true, false, false, false, true, false, false, false, false, false, false] (ls' := [vR 582, vU, vU, vU, vI x4, vU, vU, vU, vU, vU, vU]) rfl rfl ?_
      exact pl_X10_built_287 hf _ _ h
    · have h := ifF c1 h
      refine b_aload_n dX10_built_251 rfl ?_
      refine b_getI dX10_built_252 fk_X10_601 ly_582 ?_
      obtain ⟨g3, h⟩ := h
      refine b_if_ne 287 dX10_built_255 g3 (by decide) (fun c2 => ?_) (fun c2 => ?_)
      · have h := ifF c2 h
        refine b_fgt [true, false, false, false, true, false, false, false, false, false, false] (ls' := [vR 582, vU, vU, vU, vI x4, vU, vU, vU, vU, vU, vU]) rfl rfl ?_
        exact pl_X10_built_287 hf _ _ h
      · have h := ifT (Decidable.of_not_not c2) h
        refine b_aload_n dX10_built_258 rfl ?_
        refine b_ldcw (1590300) dX10_built_259 q2363 (by decide) ?_
        refine b_ldcw (1590300) dX10_built_262 q2363 (by decide) ?_
        refine b_iload dX10_built_265 rfl ?_
        refine b_iload dX10_built_267 rfl ?_
        refine b_iload dX10_built_269 rfl ?_
        refine b_cSi (as := [vI x4, vI x9, vI x9]) (st := [vI 1590300, vI 1590300, vR 582]) dX10_built_271 mf_X10_entryAt lk_X10_677 (p_X10_entryAt (f := 1) (Nat.le_refl _) _ _ _ _ h) (by omega) rfl rfl (Nat.le_of_ble_eq_true rfl) (by decide) rfl (fun _ => rfl) (fun r1 m1 h => ?_) (fun _ h => h)
        refine b_iload dX10_built_274 rfl ?_
        refine b_iload dX10_built_276 rfl ?_
        refine b_cVv (as := [vI 1590300, vI 1590300, vI r1, vI x6, vI x7]) (st := []) dX10_built_278 mf_X10_addBlocks qs178 lk_X10_667 ly_582 rfl (p_X10_addBlocks (f := 4) (Nat.le_refl _) _ _ _ _ _ _ h) (by omega) rfl rfl (Nat.le_of_ble_eq_true rfl) (by decide) rfl (fun _ => rfl) (fun r2 m2 h => ?_) (fun _ h => h)
        refine b_iinc (ls' := [vR 582, vU, vU, vU, vI x4, vU, vI x6, vI x7, vI x8, vI (x9 + 1), vU]) dX10_built_281 rfl rfl ?_
        refine b_goto 244 dX10_built_284 (by decide) ?_
        exact ih _ _ _ _ _ _ h
theorem pl_X10_built_335 {f : Nat} {Q : Int → MM → Prop} {T : MM → Prop} (hf : 9 ≤ f) {K325 : Int → Int → Int → MM → Prop} (hK325 : ∀ (x4 : Int) (x8 : Int) (x9 : Int) (m : MM), K325 x4 x8 x9 m → B f M_X10_built 325 [vR 582, vU, vU, vU, vI x4, vU, vU, vU, vI x8, vI x9, vU] [] m Q T) : ∀ (n : Nat) (x4 : Int) (x8 : Int) (x9 : Int) (x10 : Int) (m : MM), P_X10_built_335 Q K325 n x4 x8 x9 x10 m → B f M_X10_built 335 [vR 582, vU, vU, vU, vI x4, vU, vU, vU, vI x8, vI x9, vI x10] [] m Q T := by
  intro n
  induction n with
  | zero => intro x4 x8 x9 x10 m h; exact h.elim
  | succ n ih =>
    intro x4 x8 x9 x10 m h
    have h : (RI x10) ∧ (RI x8) ∧ (if x8 ≤ x10 then K325 x4 x8 (x9 + 1) m else P_X10_entryAt x4 x9 x10 m (fun r1 m1 => P_X10_entryAt 1593000 x10 x9 m1 (fun r2 m2 => P_X10_copy r1 r2 98 m2 (fun r3 m3 => P_X10_built_335 Q K325 n x4 x8 x9 (x10 + 1) m3)))) := h
    refine b_iload dX10_built_335 rfl ?_
    refine b_iload dX10_built_337 rfl ?_
    obtain ⟨g1, h⟩ := h
    obtain ⟨g2, h⟩ := h
    refine b_icmp_ge 373 dX10_built_339 g1 g2 (by decide) (fun c1 => ?_) (fun c1 => ?_)
    · have h := ifT c1 h
      refine b_iinc (ls' := [vR 582, vU, vU, vU, vI x4, vU, vU, vU, vI x8, vI (x9 + 1), vI x10]) dX10_built_373 rfl rfl ?_
      refine b_goto 325 dX10_built_376 (by decide) ?_
      refine b_fgt [true, false, false, false, true, false, false, false, true, true, false] (ls' := [vR 582, vU, vU, vU, vI x4, vU, vU, vU, vI x8, vI (x9 + 1), vU]) rfl rfl ?_
      exact hK325 _ _ _ _ h
    · have h := ifF c1 h
      refine b_aload_n dX10_built_342 rfl ?_
      refine b_iload dX10_built_343 rfl ?_
      refine b_iload dX10_built_345 rfl ?_
      refine b_iload dX10_built_347 rfl ?_
      refine b_cSi (as := [vI x4, vI x9, vI x10]) (st := [vR 582]) dX10_built_349 mf_X10_entryAt lk_X10_677 (p_X10_entryAt (f := 1) (Nat.le_refl _) _ _ _ _ h) (by omega) rfl rfl (Nat.le_of_ble_eq_true rfl) (by decide) rfl (fun _ => rfl) (fun r1 m1 h => ?_) (fun _ h => h)
      refine b_ldcw (1593000) dX10_built_352 q2347 (by decide) ?_
      refine b_iload dX10_built_355 rfl ?_
      refine b_iload dX10_built_357 rfl ?_
      refine b_cSi (as := [vI 1593000, vI x10, vI x9]) (st := [vI r1, vR 582]) dX10_built_359 mf_X10_entryAt lk_X10_677 (p_X10_entryAt (f := 1) (Nat.le_refl _) _ _ _ _ h) (by omega) rfl rfl (Nat.le_of_ble_eq_true rfl) (by decide) rfl (fun _ => rfl) (fun r2 m2 h => ?_) (fun _ h => h)
      refine b_bipush dX10_built_362 (by decide) ?_
      refine b_cVv (as := [vI r1, vI r2, vI 98]) (st := []) dX10_built_364 mf_X10_copy qs164 lk_X10_658 ly_582 rfl (p_X10_copy (f := 1) (Nat.le_refl _) _ _ _ _ h) (by omega) rfl rfl (Nat.le_of_ble_eq_true rfl) (by decide) rfl (fun _ => rfl) (fun r3 m3 h => ?_) (fun _ h => h)
      refine b_iinc (ls' := [vR 582, vU, vU, vU, vI x4, vU, vU, vU, vI x8, vI x9, vI (x10 + 1)]) dX10_built_367 rfl rfl ?_
      refine b_goto 335 dX10_built_370 (by decide) ?_
      exact ih _ _ _ _ _ h
theorem pl_X10_built_325 {f : Nat} {Q : Int → MM → Prop} {T : MM → Prop} (hf : 9 ≤ f) : ∀ (n : Nat) (x4 : Int) (x8 : Int) (x9 : Int) (m : MM), P_X10_built_325 Q n x4 x8 x9 m → B f M_X10_built 325 [vR 582, vU, vU, vU, vI x4, vU, vU, vU, vI x8, vI x9, vU] [] m Q T := by
  intro n
  induction n with
  | zero => intro x4 x8 x9 m h; exact h.elim
  | succ n ih =>
    intro x4 x8 x9 m h
    have h : (RI x9) ∧ (RI x8) ∧ (if x8 ≤ x9 then Q 0 m else ∃ nn, P_X10_built_335 Q (fun z0 z1 z2 z3 => P_X10_built_325 Q n z0 z1 z2 z3) nn x4 x8 x9 0 m) := h
    refine b_iload dX10_built_325 rfl ?_
    refine b_iload dX10_built_327 rfl ?_
    obtain ⟨g1, h⟩ := h
    obtain ⟨g2, h⟩ := h
    refine b_icmp_ge 379 dX10_built_329 g1 g2 (by decide) (fun c1 => ?_) (fun c1 => ?_)
    · have h := ifT c1 h
      refine b_goto 487 dX10_built_379 (by decide) ?_
      exact b_vret dX10_built_487 rfl h
    · have h := ifF c1 h
      refine b_iconst dX10_built_332 ?_
      refine b_istore (ls' := [vR 582, vU, vU, vU, vI x4, vU, vU, vU, vI x8, vI x9, vI 0]) dX10_built_333 (Nat.le_of_ble_eq_true rfl) rfl ?_
      obtain ⟨nn, h⟩ := h
      exact pl_X10_built_335 hf (fun _ _ _ _ h => ih _ _ _ _ h) nn _ _ _ _ _ h
theorem p_X10_built {f : Nat} {Q : Int → MM → Prop} {T : MM → Prop} (hf : 9 ≤ f) (x1 : Int) (x2 : Int) (x3 : Int) (x4 : Int) (x5 : Int) (m : MM) (h : P_X10_built x1 x2 x3 x4 x5 m Q) : CC f M_X10_built [vR 582, vI x1, vI x2, vI x3, vI x4, vI x5] m Q T := by
  refine CC.of (plainFor_of_name (by decide)) (Nat.le_of_ble_eq_true rfl) (ls := [vR 582, vI x1, vI x2, vI x3, vI x4, vI x5, vU, vU, vU, vU, vU]) rfl ?_
  have h : (0 ≤ x3 ∧ x3 < 12000) ∧ (RI x2) ∧ (if x2 = 0 then (0 ≤ x1 ∧ x1 < 12000) ∧ P_X10_greatest x4 x5 (m 598 x1) (m 599 x1) m (fun r1 m1 => Q 0 m1) else (if x2 = 1 then (RI (m 599 x3)) ∧ (if (m 599 x3) = 1 then P_X10_degreeOf x4 m (fun r3 m3 => (RI r3) ∧ P_X10_built_137 Q x4 r3 m3) else P_X10_outerDegree x4 m (fun r2 m2 => (RI r2) ∧ P_X10_built_137 Q x4 r2 m2)) else (if x2 = 2 then (0 ≤ x5 ∧ x5 < 1600000) ∧ P_X10_coefficient x4 (m 635 x5) (m 599 x3) m (fun r4 m4 => Q 0 m4) else (if x2 = 3 then P_X10_evalAt x1 x3 x4 x5 m (fun r5 m5 => Q 0 m5) else (if x2 = 4 then P_X10_derive x4 (m 598 x3) (m 599 x3) m (fun r6 m6 => Q 0 m6) else (if x2 = 5 then P_X10_det 1590300 x4 (m 598 x3) (m 599 x3) (m 600 x3) m (fun r7 m7 => P_X10_clear x4 882 m7 (fun r8 m8 => (RI (m8 582 84)) ∧ (if (m8 582 84) = 0 then P_X10_copy x4 1590300 98 m8 (fun r9 m9 => Q 0 m9) else Q 0 m8))) else (if x2 = 6 then P_X10_clear 1590300 98 m (fun r10 m10 => ∃ nn, P_X10_built_244 Q nn x4 (m 598 x3) (m 599 x3) (m 600 x3) 0 m10) else (if x2 = 7 then P_X10_copy 1593000 x4 882 m (fun r11 m11 => ∃ nn, P_X10_built_325 Q nn x4 (m 600 x3) 0 m11) else (if x2 = 8 then P_X10_adjoin x4 x4 (m 598 x3) (m 599 x3) (m 600 x3) m (fun r12 m12 => Q 0 m12) else (if x2 = 9 then ((RI (m 598 x3))) ∧ P_X10_invert x4 (if (m 598 x3) = 0 then 1 else (m 598 x3) : Int) (m 600 x3) m (fun r13 m13 => Q 0 m13) else (if x2 = 10 then P_X10_characterize x4 (m 598 x3) (m 600 x3) m (fun r14 m14 => Q 0 m14) else (if x2 = 11 then P_X10_modulo (m 598 x3) m (fun r15 m15 => P_X10_rootsOf x4 r15 m15 (fun r16 m16 => (RI r16) ∧ P_X10_tellNumber x4 r16 m16 (fun r17 m17 => Q 0 m17))) else ((if x2 = 12 then ((0 ≤ x4 ∧ x4 < 1600000)) else ((0 ≤ (x4 + 1) ∧ (x4 + 1) < 1600000)))) ∧ P_X10_tellNumber x4 (if x2 = 12 then (m 635 x4) else (m 635 (x4 + 1)) : Int) m (fun r18 m18 => Q 0 m18))))))))))))) := h
  refine b_aload_n dX10_built_0 rfl ?_
  refine b_getR dX10_built_1 fk_X10_130 ly_582 gg_582_24 ?_
  refine b_iload_n dX10_built_4 rfl ?_
  obtain ⟨g1, h⟩ := h
  refine b_iald dX10_built_5 ly_598 g1 ?_
  refine b_istore (ls' := [vR 582, vI x1, vI x2, vI x3, vI x4, vI x5, vI (m 598 x3), vU, vU, vU, vU]) dX10_built_6 (Nat.le_of_ble_eq_true rfl) rfl ?_
  refine b_aload_n dX10_built_8 rfl ?_
  refine b_getR dX10_built_9 fk_X10_133 ly_582 gg_582_25 ?_
  refine b_iload_n dX10_built_12 rfl ?_
  refine b_iald dX10_built_13 ly_599 g1 ?_
  refine b_istore (ls' := [vR 582, vI x1, vI x2, vI x3, vI x4, vI x5, vI (m 598 x3), vI (m 599 x3), vU, vU, vU]) dX10_built_14 (Nat.le_of_ble_eq_true rfl) rfl ?_
  refine b_aload_n dX10_built_16 rfl ?_
  refine b_getR dX10_built_17 fk_X10_136 ly_582 gg_582_26 ?_
  refine b_iload_n dX10_built_20 rfl ?_
  refine b_iald dX10_built_21 ly_600 g1 ?_
  refine b_istore (ls' := [vR 582, vI x1, vI x2, vI x3, vI x4, vI x5, vI (m 598 x3), vI (m 599 x3), vI (m 600 x3), vU, vU]) dX10_built_22 (Nat.le_of_ble_eq_true rfl) rfl ?_
  refine b_iload_n dX10_built_24 rfl ?_
  obtain ⟨g2, h⟩ := h
  by_cases c1 : x2 = 0
  · have h := ifT c1 h
    refine b_tswIn 88 dX10_built_25 g2 (by omega) (by omega) (by rw [c1]; rfl) (by decide) ?_
    refine b_aload_n dX10_built_88 rfl ?_
    refine b_iload dX10_built_89 rfl ?_
    refine b_iload dX10_built_91 rfl ?_
    refine b_aload_n dX10_built_93 rfl ?_
    refine b_getR dX10_built_94 fk_X10_130 ly_582 gg_582_24 ?_
    refine b_iload_n dX10_built_97 rfl ?_
    obtain ⟨g3, h⟩ := h
    refine b_iald dX10_built_98 ly_598 g3 ?_
    refine b_aload_n dX10_built_99 rfl ?_
    refine b_getR dX10_built_100 fk_X10_133 ly_582 gg_582_25 ?_
    refine b_iload_n dX10_built_103 rfl ?_
    refine b_iald dX10_built_104 ly_599 g3 ?_
    refine b_cVv (as := [vI x4, vI x5, vI (m 598 x1), vI (m 599 x1)]) (st := []) dX10_built_105 mf_X10_greatest qs197 lk_X10_826 ly_582 rfl (p_X10_greatest (f := 5) (Nat.le_refl _) _ _ _ _ _ h) (by omega) rfl rfl (Nat.le_of_ble_eq_true rfl) (by decide) rfl (fun _ => rfl) (fun r1 m1 h => ?_) (fun _ h => h)
    refine b_goto 487 dX10_built_108 (by decide) ?_
    exact b_vret dX10_built_487 rfl h
  have h := ifF c1 h
  by_cases c2 : x2 = 1
  · have h := ifT c2 h
    refine b_tswIn 111 dX10_built_25 g2 (by omega) (by omega) (by rw [c2]; rfl) (by decide) ?_
    refine b_aload_n dX10_built_111 rfl ?_
    refine b_iload dX10_built_112 rfl ?_
    refine b_iload dX10_built_114 rfl ?_
    refine b_iconst dX10_built_116 ?_
    obtain ⟨g4, h⟩ := h
    refine b_icmp_ne 130 dX10_built_117 g4 (by decide) (by decide) (fun c3 => ?_) (fun c3 => ?_)
    · have h := ifF c3 h
      refine b_aload_n dX10_built_130 rfl ?_
      refine b_iload dX10_built_131 rfl ?_
      refine b_cVi (as := [vI x4]) (st := [vI x4, vR 582]) dX10_built_133 mf_X10_outerDegree qs199 lk_X10_829 ly_582 rfl (p_X10_outerDegree (f := 2) (Nat.le_refl _) _ _ h) (by omega) rfl rfl (Nat.le_of_ble_eq_true rfl) (by decide) rfl (fun _ => rfl) (fun r2 m2 h => ?_) (fun _ h => h)
      obtain ⟨g5, h⟩ := h
      refine b_i2l dX10_built_136 g5 ?_
      refine b_fgt [false, false, false, false, false, false, false, false, false, false, false] (ls' := [vU, vU, vU, vU, vU, vU, vU, vU, vU, vU, vU]) rfl rfl ?_
      exact pl_X10_built_137 hf _ _ _ h
    · have h := ifT (Decidable.of_not_not c3) h
      refine b_aload_n dX10_built_120 rfl ?_
      refine b_iload dX10_built_121 rfl ?_
      refine b_cVi (as := [vI x4]) (st := [vI x4, vR 582]) dX10_built_123 mf_X10_degreeOf qs192 lk_X10_799 ly_582 rfl (p_X10_degreeOf (f := 1) (Nat.le_refl _) _ _ h) (by omega) rfl rfl (Nat.le_of_ble_eq_true rfl) (by decide) rfl (fun _ => rfl) (fun r3 m3 h => ?_) (fun _ h => h)
      obtain ⟨g6, h⟩ := h
      refine b_i2l dX10_built_126 g6 ?_
      refine b_goto 137 dX10_built_127 (by decide) ?_
      refine b_fgt [false, false, false, false, false, false, false, false, false, false, false] (ls' := [vU, vU, vU, vU, vU, vU, vU, vU, vU, vU, vU]) rfl rfl ?_
      exact pl_X10_built_137 hf _ _ _ h
  have h := ifF c2 h
  by_cases c4 : x2 = 2
  · have h := ifT c4 h
    refine b_tswIn 143 dX10_built_25 g2 (by omega) (by omega) (by rw [c4]; rfl) (by decide) ?_
    refine b_aload_n dX10_built_143 rfl ?_
    refine b_iload dX10_built_144 rfl ?_
    refine b_aload_n dX10_built_146 rfl ?_
    refine b_getR dX10_built_147 fk_X10_250 ly_582 gg_582_85 ?_
    refine b_iload dX10_built_150 rfl ?_
    obtain ⟨g7, h⟩ := h
    refine b_lald dX10_built_152 ly_635 g7 ?_
    refine b_iload dX10_built_153 rfl ?_
    refine b_cVv (as := [vI x4, vL (m 635 x5), vI (m 599 x3)]) (st := []) dX10_built_155 mf_X10_coefficient qs200 lk_X10_835 ly_582 rfl (p_X10_coefficient (f := 3) (Nat.le_refl _) _ _ _ _ h) (by omega) rfl rfl (Nat.le_of_ble_eq_true rfl) (by decide) rfl (fun _ => rfl) (fun r4 m4 h => ?_) (fun _ h => h)
    refine b_goto 487 dX10_built_158 (by decide) ?_
    exact b_vret dX10_built_487 rfl h
  have h := ifF c4 h
  by_cases c5 : x2 = 3
  · have h := ifT c5 h
    refine b_tswIn 161 dX10_built_25 g2 (by omega) (by omega) (by rw [c5]; rfl) (by decide) ?_
    refine b_aload_n dX10_built_161 rfl ?_
    refine b_iload_n dX10_built_162 rfl ?_
    refine b_iload_n dX10_built_163 rfl ?_
    refine b_iload dX10_built_164 rfl ?_
    refine b_iload dX10_built_166 rfl ?_
    refine b_cVv (as := [vI x1, vI x3, vI x4, vI x5]) (st := []) dX10_built_168 mf_X10_evalAt qs201 lk_X10_839 ly_582 rfl (p_X10_evalAt (f := 7) (Nat.le_refl _) _ _ _ _ _ h) (by omega) rfl rfl (Nat.le_of_ble_eq_true rfl) (by decide) rfl (fun _ => rfl) (fun r5 m5 h => ?_) (fun _ h => h)
    refine b_goto 487 dX10_built_171 (by decide) ?_
    exact b_vret dX10_built_487 rfl h
  have h := ifF c5 h
  by_cases c6 : x2 = 4
  · have h := ifT c6 h
    refine b_tswIn 174 dX10_built_25 g2 (by omega) (by omega) (by rw [c6]; rfl) (by decide) ?_
    refine b_aload_n dX10_built_174 rfl ?_
    refine b_iload dX10_built_175 rfl ?_
    refine b_iload dX10_built_177 rfl ?_
    refine b_iload dX10_built_179 rfl ?_
    refine b_cVv (as := [vI x4, vI (m 598 x3), vI (m 599 x3)]) (st := []) dX10_built_181 mf_X10_derive qs202 lk_X10_842 ly_582 rfl (p_X10_derive (f := 3) (Nat.le_refl _) _ _ _ _ h) (by omega) rfl rfl (Nat.le_of_ble_eq_true rfl) (by decide) rfl (fun _ => rfl) (fun r6 m6 h => ?_) (fun _ h => h)
    refine b_goto 487 dX10_built_184 (by decide) ?_
    exact b_vret dX10_built_487 rfl h
  have h := ifF c6 h
  by_cases c7 : x2 = 5
  · have h := ifT c7 h
    refine b_tswIn 187 dX10_built_25 g2 (by omega) (by omega) (by rw [c7]; rfl) (by decide) ?_
    refine b_aload_n dX10_built_187 rfl ?_
    refine b_ldcw (1590300) dX10_built_188 q2363 (by decide) ?_
    refine b_iload dX10_built_191 rfl ?_
    refine b_iload dX10_built_193 rfl ?_
    refine b_iload dX10_built_195 rfl ?_
    refine b_iload dX10_built_197 rfl ?_
    refine b_cVv (as := [vI 1590300, vI x4, vI (m 598 x3), vI (m 599 x3), vI (m 600 x3)]) (st := []) dX10_built_199 mf_X10_det qs203 lk_X10_845 ly_582 rfl (p_X10_det (f := 7) (Nat.le_refl _) _ _ _ _ _ _ h) (by omega) rfl rfl (Nat.le_of_ble_eq_true rfl) (by decide) rfl (fun _ => rfl) (fun r7 m7 h => ?_) (fun _ h => h)
    refine b_aload_n dX10_built_202 rfl ?_
    refine b_iload dX10_built_203 rfl ?_
    refine b_sipush dX10_built_205 (by decide) ?_
    refine b_cVv (as := [vI x4, vI 882]) (st := []) dX10_built_208 mf_X10_clear qs162 lk_X10_685 ly_582 rfl (p_X10_clear (f := 2) (Nat.le_refl _) _ _ _ h) (by omega) rfl rfl (Nat.le_of_ble_eq_true rfl) (by decide) rfl (fun _ => rfl) (fun r8 m8 h => ?_) (fun _ h => h)
    refine b_aload_n dX10_built_211 rfl ?_
    refine b_getI dX10_built_212 fk_X10_601 ly_582 ?_
    obtain ⟨g8, h⟩ := h
    refine b_if_ne 487 dX10_built_215 g8 (by decide) (fun c8 => ?_) (fun c8 => ?_)
    · have h := ifF c8 h
      exact b_vret dX10_built_487 rfl h
    · have h := ifT (Decidable.of_not_not c8) h
      refine b_aload_n dX10_built_218 rfl ?_
      refine b_iload dX10_built_219 rfl ?_
      refine b_ldcw (1590300) dX10_built_221 q2363 (by decide) ?_
      refine b_bipush dX10_built_224 (by decide) ?_
      refine b_cVv (as := [vI x4, vI 1590300, vI 98]) (st := []) dX10_built_226 mf_X10_copy qs164 lk_X10_658 ly_582 rfl (p_X10_copy (f := 1) (Nat.le_refl _) _ _ _ _ h) (by omega) rfl rfl (Nat.le_of_ble_eq_true rfl) (by decide) rfl (fun _ => rfl) (fun r9 m9 h => ?_) (fun _ h => h)
      refine b_goto 487 dX10_built_229 (by decide) ?_
      exact b_vret dX10_built_487 rfl h
  have h := ifF c7 h
  by_cases c9 : x2 = 6
  · have h := ifT c9 h
    refine b_tswIn 232 dX10_built_25 g2 (by omega) (by omega) (by rw [c9]; rfl) (by decide) ?_
    refine b_aload_n dX10_built_232 rfl ?_
    refine b_ldcw (1590300) dX10_built_233 q2363 (by decide) ?_
    refine b_bipush dX10_built_236 (by decide) ?_
    refine b_cVv (as := [vI 1590300, vI 98]) (st := []) dX10_built_238 mf_X10_clear qs162 lk_X10_685 ly_582 rfl (p_X10_clear (f := 2) (Nat.le_refl _) _ _ _ h) (by omega) rfl rfl (Nat.le_of_ble_eq_true rfl) (by decide) rfl (fun _ => rfl) (fun r10 m10 h => ?_) (fun _ h => h)
    refine b_iconst dX10_built_241 ?_
    refine b_istore (ls' := [vR 582, vI x1, vI x2, vI x3, vI x4, vI x5, vI (m 598 x3), vI (m 599 x3), vI (m 600 x3), vI 0, vU]) dX10_built_242 (Nat.le_of_ble_eq_true rfl) rfl ?_
    refine b_fgt [true, false, false, false, true, false, true, true, true, true, false] (ls' := [vR 582, vU, vU, vU, vI x4, vU, vI (m 598 x3), vI (m 599 x3), vI (m 600 x3), vI 0, vU]) rfl rfl ?_
    obtain ⟨nn, h⟩ := h
    exact pl_X10_built_244 hf nn _ _ _ _ _ _ h
  have h := ifF c9 h
  by_cases c10 : x2 = 7
  · have h := ifT c10 h
    refine b_tswIn 310 dX10_built_25 g2 (by omega) (by omega) (by rw [c10]; rfl) (by decide) ?_
    refine b_aload_n dX10_built_310 rfl ?_
    refine b_ldcw (1593000) dX10_built_311 q2347 (by decide) ?_
    refine b_iload dX10_built_314 rfl ?_
    refine b_sipush dX10_built_316 (by decide) ?_
    refine b_cVv (as := [vI 1593000, vI x4, vI 882]) (st := []) dX10_built_319 mf_X10_copy qs164 lk_X10_658 ly_582 rfl (p_X10_copy (f := 1) (Nat.le_refl _) _ _ _ _ h) (by omega) rfl rfl (Nat.le_of_ble_eq_true rfl) (by decide) rfl (fun _ => rfl) (fun r11 m11 h => ?_) (fun _ h => h)
    refine b_iconst dX10_built_322 ?_
    refine b_istore (ls' := [vR 582, vI x1, vI x2, vI x3, vI x4, vI x5, vI (m 598 x3), vI (m 599 x3), vI (m 600 x3), vI 0, vU]) dX10_built_323 (Nat.le_of_ble_eq_true rfl) rfl ?_
    refine b_fgt [true, false, false, false, true, false, false, false, true, true, false] (ls' := [vR 582, vU, vU, vU, vI x4, vU, vU, vU, vI (m 600 x3), vI 0, vU]) rfl rfl ?_
    obtain ⟨nn, h⟩ := h
    exact pl_X10_built_325 hf nn _ _ _ _ h
  have h := ifF c10 h
  by_cases c11 : x2 = 8
  · have h := ifT c11 h
    refine b_tswIn 382 dX10_built_25 g2 (by omega) (by omega) (by rw [c11]; rfl) (by decide) ?_
    refine b_aload_n dX10_built_382 rfl ?_
    refine b_iload dX10_built_383 rfl ?_
    refine b_iload dX10_built_385 rfl ?_
    refine b_iload dX10_built_387 rfl ?_
    refine b_iload dX10_built_389 rfl ?_
    refine b_iload dX10_built_391 rfl ?_
    refine b_cVv (as := [vI x4, vI x4, vI (m 598 x3), vI (m 599 x3), vI (m 600 x3)]) (st := []) dX10_built_393 mf_X10_adjoin qs206 lk_X10_848 ly_582 rfl (p_X10_adjoin (f := 7) (Nat.le_refl _) _ _ _ _ _ _ h) (by omega) rfl rfl (Nat.le_of_ble_eq_true rfl) (by decide) rfl (fun _ => rfl) (fun r12 m12 h => ?_) (fun _ h => h)
    refine b_goto 487 dX10_built_396 (by decide) ?_
    exact b_vret dX10_built_487 rfl h
  have h := ifF c11 h
  by_cases c12 : x2 = 9
  · have h := ifT c12 h
    refine b_tswIn 399 dX10_built_25 g2 (by omega) (by omega) (by rw [c12]; rfl) (by decide) ?_
    refine b_aload_n dX10_built_399 rfl ?_
    refine b_iload dX10_built_400 rfl ?_
    refine b_iload dX10_built_402 rfl ?_
    obtain ⟨hs, h⟩ := h
    have K : B f M_X10_built 413 [vR 582, vI x1, vI x2, vI x3, vI x4, vI x5, vI (m 598 x3), vI (m 599 x3), vI (m 600 x3), vU, vU] [vI (if (m 598 x3) = 0 then 1 else (m 598 x3) : Int), vI x4, vR 582] m Q T := by
      clear hs
      refine b_iload dX10_built_413 rfl ?_
      refine b_cVv (as := [vI x4, vI (if (m 598 x3) = 0 then 1 else (m 598 x3) : Int), vI (m 600 x3)]) (st := []) dX10_built_415 mf_X10_invert qs207 lk_X10_851 ly_582 rfl (p_X10_invert (f := 8) (Nat.le_refl _) _ _ _ _ h) (by omega) rfl rfl (Nat.le_of_ble_eq_true rfl) (by decide) rfl (fun _ => rfl) (fun r13 m13 h => ?_) (fun _ h => h)
      refine b_goto 487 dX10_built_418 (by decide) ?_
      exact b_vret dX10_built_487 rfl h
    have g9 := hs
    refine b_if_ne 411 dX10_built_404 g9 (by decide) (fun c13 => ?_) (fun c13 => ?_)
    ·
      refine b_iload dX10_built_411 rfl ?_
      exact Eq.mp (congrArg (fun z => B f M_X10_built 413 [vR 582, vI x1, vI x2, vI x3, vI x4, vI x5, vI (m 598 x3), vI (m 599 x3), vI (m 600 x3), vU, vU] (vI z :: [vI x4, vR 582]) m Q T) (show (if (m 598 x3) = 0 then 1 else (m 598 x3) : Int) = (m 598 x3) by rw [if_neg c13])) K
    ·
      have c13 := Decidable.of_not_not c13
      refine b_iconst dX10_built_407 ?_
      refine b_goto 413 dX10_built_408 (by decide) ?_
      exact Eq.mp (congrArg (fun z => B f M_X10_built 413 [vR 582, vI x1, vI x2, vI x3, vI x4, vI x5, vI (m 598 x3), vI (m 599 x3), vI (m 600 x3), vU, vU] (vI z :: [vI x4, vR 582]) m Q T) (show (if (m 598 x3) = 0 then 1 else (m 598 x3) : Int) = 1 by rw [if_pos c13])) K
  have h := ifF c12 h
  by_cases c14 : x2 = 10
  · have h := ifT c14 h
    refine b_tswIn 421 dX10_built_25 g2 (by omega) (by omega) (by rw [c14]; rfl) (by decide) ?_
    refine b_aload_n dX10_built_421 rfl ?_
    refine b_iload dX10_built_422 rfl ?_
    refine b_iload dX10_built_424 rfl ?_
    refine b_iload dX10_built_426 rfl ?_
    refine b_cVv (as := [vI x4, vI (m 598 x3), vI (m 600 x3)]) (st := []) dX10_built_428 mf_X10_characterize qs208 lk_X10_854 ly_582 rfl (p_X10_characterize (f := 8) (Nat.le_refl _) _ _ _ _ h) (by omega) rfl rfl (Nat.le_of_ble_eq_true rfl) (by decide) rfl (fun _ => rfl) (fun r14 m14 h => ?_) (fun _ h => h)
    refine b_goto 487 dX10_built_431 (by decide) ?_
    exact b_vret dX10_built_487 rfl h
  have h := ifF c14 h
  by_cases c15 : x2 = 11
  · have h := ifT c15 h
    refine b_tswIn 434 dX10_built_25 g2 (by omega) (by omega) (by rw [c15]; rfl) (by decide) ?_
    refine b_aload_n dX10_built_434 rfl ?_
    refine b_iload dX10_built_435 rfl ?_
    refine b_aload_n dX10_built_437 rfl ?_
    refine b_iload dX10_built_438 rfl ?_
    refine b_aload_n dX10_built_440 rfl ?_
    refine b_iload dX10_built_441 rfl ?_
    refine b_cVl (as := [vI (m 598 x3)]) (st := [vI x4, vR 582, vI x4, vR 582]) dX10_built_443 mf_X10_modulo qs174 lk_X10_611 ly_582 rfl (p_X10_modulo (f := 1) (Nat.le_refl _) _ _ h) (by omega) rfl rfl (Nat.le_of_ble_eq_true rfl) (by decide) rfl (fun _ => rfl) (fun r15 m15 h => ?_) (fun _ h => h)
    refine b_cVi (as := [vI x4, vL r15]) (st := [vI x4, vR 582]) dX10_built_446 mf_X10_rootsOf qs209 lk_X10_857 ly_582 rfl (p_X10_rootsOf (f := 3) (Nat.le_refl _) _ _ _ h) (by omega) rfl rfl (Nat.le_of_ble_eq_true rfl) (by decide) rfl (fun _ => rfl) (fun r16 m16 h => ?_) (fun _ h => h)
    obtain ⟨g10, h⟩ := h
    refine b_i2l dX10_built_449 g10 ?_
    refine b_cVv (as := [vI x4, vL r16]) (st := []) dX10_built_450 mf_X10_tellNumber qs198 lk_X10_832 ly_582 rfl (p_X10_tellNumber (f := 3) (Nat.le_refl _) _ _ _ h) (by omega) rfl rfl (Nat.le_of_ble_eq_true rfl) (by decide) rfl (fun _ => rfl) (fun r17 m17 h => ?_) (fun _ h => h)
    refine b_goto 487 dX10_built_453 (by decide) ?_
    exact b_vret dX10_built_487 rfl h
  have h := ifF c15 h
  refine b_tswOut 456 dX10_built_25 g2 (by omega) (by decide) ?_
  refine b_aload_n dX10_built_456 rfl ?_
  refine b_iload dX10_built_457 rfl ?_
  refine b_iload_n dX10_built_459 rfl ?_
  refine b_bipush dX10_built_460 (by decide) ?_
  obtain ⟨hs, h⟩ := h
  have K : B f M_X10_built 484 [vR 582, vI x1, vI x2, vI x3, vI x4, vI x5, vI (m 598 x3), vI (m 599 x3), vI (m 600 x3), vU, vU] [vL (if x2 = 12 then (m 635 x4) else (m 635 (x4 + 1)) : Int), vI x4, vR 582] m Q T := by
    clear hs
    refine b_cVv (as := [vI x4, vL (if x2 = 12 then (m 635 x4) else (m 635 (x4 + 1)) : Int)]) (st := []) dX10_built_484 mf_X10_tellNumber qs198 lk_X10_832 ly_582 rfl (p_X10_tellNumber (f := 3) (Nat.le_refl _) _ _ _ h) (by omega) rfl rfl (Nat.le_of_ble_eq_true rfl) (by decide) rfl (fun _ => rfl) (fun r18 m18 h => ?_) (fun _ h => h)
    exact b_vret dX10_built_487 rfl h
  refine b_icmp_ne 475 dX10_built_462 g2 (by decide) (by decide) (fun c16 => ?_) (fun c16 => ?_)
  ·
    have hs := ifF c16 hs
    have g11 := hs
    refine b_aload_n dX10_built_475 rfl ?_
    refine b_getR dX10_built_476 fk_X10_250 ly_582 gg_582_85 ?_
    refine b_iload dX10_built_479 rfl ?_
    refine b_iconst dX10_built_481 ?_
    refine b_iadd dX10_built_482 ?_
    refine b_lald dX10_built_483 ly_635 g11 ?_
    exact Eq.mp (congrArg (fun z => B f M_X10_built 484 [vR 582, vI x1, vI x2, vI x3, vI x4, vI x5, vI (m 598 x3), vI (m 599 x3), vI (m 600 x3), vU, vU] (vL z :: [vI x4, vR 582]) m Q T) (show (if x2 = 12 then (m 635 x4) else (m 635 (x4 + 1)) : Int) = (m 635 (x4 + 1)) by rw [if_neg c16])) K
  ·
    have c16 := Decidable.of_not_not c16
    have hs := ifT c16 hs
    have g12 := hs
    refine b_aload_n dX10_built_465 rfl ?_
    refine b_getR dX10_built_466 fk_X10_250 ly_582 gg_582_85 ?_
    refine b_iload dX10_built_469 rfl ?_
    refine b_lald dX10_built_471 ly_635 g12 ?_
    refine b_goto 484 dX10_built_472 (by decide) ?_
    exact Eq.mp (congrArg (fun z => B f M_X10_built 484 [vR 582, vI x1, vI x2, vI x3, vI x4, vI x5, vI (m 598 x3), vI (m 599 x3), vI (m 600 x3), vU, vU] (vL z :: [vI x4, vR 582]) m Q T) (show (if x2 = 12 then (m 635 x4) else (m 635 (x4 + 1)) : Int) = (m 635 x4) by rw [if_pos c16])) K
theorem dX10_isSign_0 : decode cX10_isSign 0 = .ok (.aload_n 0, 1) := by decide +kernel
theorem dX10_isSign_1 : decode cX10_isSign 1 = .ok (.getfield 347, 3) := by decide +kernel
theorem dX10_isSign_4 : decode cX10_isSign 4 = .ok (.ifCond .ne 35, 3) := by decide +kernel
theorem dX10_isSign_7 : decode cX10_isSign 7 = .ok (.aload_n 0, 1) := by decide +kernel
theorem dX10_isSign_8 : decode cX10_isSign 8 = .ok (.getfield 93, 3) := by decide +kernel
theorem dX10_isSign_11 : decode cX10_isSign 11 = .ok (.aload_n 0, 1) := by decide +kernel
theorem dX10_isSign_12 : decode cX10_isSign 12 = .ok (.getfield 324, 3) := by decide +kernel
theorem dX10_isSign_15 : decode cX10_isSign 15 = .ok (.iaload, 1) := by decide +kernel
theorem dX10_isSign_16 : decode cX10_isSign 16 = .ok (.iconst 5, 1) := by decide +kernel
theorem dX10_isSign_17 : decode cX10_isSign 17 = .ok (.if_icmp .ne 22, 3) := by decide +kernel
theorem dX10_isSign_20 : decode cX10_isSign 20 = .ok (.aload_n 0, 1) := by decide +kernel
theorem dX10_isSign_21 : decode cX10_isSign 21 = .ok (.getfield 99, 3) := by decide +kernel
theorem dX10_isSign_24 : decode cX10_isSign 24 = .ok (.aload_n 0, 1) := by decide +kernel
theorem dX10_isSign_25 : decode cX10_isSign 25 = .ok (.getfield 324, 3) := by decide +kernel
theorem dX10_isSign_28 : decode cX10_isSign 28 = .ok (.laload, 1) := by decide +kernel
theorem dX10_isSign_29 : decode cX10_isSign 29 = .ok (.iload_n 1, 1) := by decide +kernel
theorem dX10_isSign_30 : decode cX10_isSign 30 = .ok (.i2l, 1) := by decide +kernel
theorem dX10_isSign_31 : decode cX10_isSign 31 = .ok (.lcmp, 1) := by decide +kernel
theorem dX10_isSign_32 : decode cX10_isSign 32 = .ok (.ifCond .ne 7, 3) := by decide +kernel
theorem dX10_isSign_35 : decode cX10_isSign 35 = .ok (.iconst 1, 1) := by decide +kernel
theorem dX10_isSign_36 : decode cX10_isSign 36 = .ok (.goto 4, 3) := by decide +kernel
theorem dX10_isSign_39 : decode cX10_isSign 39 = .ok (.iconst 0, 1) := by decide +kernel
theorem dX10_isSign_40 : decode cX10_isSign 40 = .ok (.ireturn, 1) := by decide +kernel
/-! AlgebraHouseModel.isSign(I)Z -/
def P_X10_isSign (x1 : Int) (m : MM) (Q : Int → MM → Prop) : Prop := (RI (m 582 10)) ∧ (if (m 582 10) = 0 then (0 ≤ (m 582 9) ∧ (m 582 9) < 420) ∧ (RI (m 587 (m 582 9))) ∧ (if (m 587 (m 582 9)) = 5 then (RI x1) ∧ (RL (m 589 (m 582 9))) ∧ (RL x1) ∧ (if (m 589 (m 582 9)) = x1 then Q 1 m else Q 0 m) else Q 0 m) else Q 0 m)
theorem p_X10_isSign {f : Nat} {Q : Int → MM → Prop} {T : MM → Prop} (hf : 1 ≤ f) (x1 : Int) (m : MM) (h : P_X10_isSign x1 m Q) : CC f M_X10_isSign [vR 582, vI x1] m Q T := by
  refine CC.of (plainFor_of_name (by decide)) (Nat.le_of_ble_eq_true rfl) (ls := [vR 582, vI x1]) rfl ?_
  have h : (RI (m 582 10)) ∧ (if (m 582 10) = 0 then (0 ≤ (m 582 9) ∧ (m 582 9) < 420) ∧ (RI (m 587 (m 582 9))) ∧ (if (m 587 (m 582 9)) = 5 then (RI x1) ∧ (RL (m 589 (m 582 9))) ∧ (RL x1) ∧ (if (m 589 (m 582 9)) = x1 then Q 1 m else Q 0 m) else Q 0 m) else Q 0 m) := h
  refine b_aload_n dX10_isSign_0 rfl ?_
  refine b_getI dX10_isSign_1 fk_X10_347 ly_582 ?_
  obtain ⟨g1, h⟩ := h
  refine b_if_ne 39 dX10_isSign_4 g1 (by decide) (fun c1 => ?_) (fun c1 => ?_)
  · have h := ifF c1 h
    refine b_iconst dX10_isSign_39 ?_
    exact b_zret dX10_isSign_40 rfl (Or.inl rfl) h
  · have h := ifT (Decidable.of_not_not c1) h
    refine b_aload_n dX10_isSign_7 rfl ?_
    refine b_getR dX10_isSign_8 fk_X10_93 ly_582 gg_582_5 ?_
    refine b_aload_n dX10_isSign_11 rfl ?_
    refine b_getI dX10_isSign_12 fk_X10_324 ly_582 ?_
    obtain ⟨g2, h⟩ := h
    refine b_iald dX10_isSign_15 ly_587 g2 ?_
    refine b_iconst dX10_isSign_16 ?_
    obtain ⟨g3, h⟩ := h
    refine b_icmp_ne 39 dX10_isSign_17 g3 (by decide) (by decide) (fun c2 => ?_) (fun c2 => ?_)
    · have h := ifF c2 h
      refine b_iconst dX10_isSign_39 ?_
      exact b_zret dX10_isSign_40 rfl (Or.inl rfl) h
    · have h := ifT (Decidable.of_not_not c2) h
      refine b_aload_n dX10_isSign_20 rfl ?_
      refine b_getR dX10_isSign_21 fk_X10_99 ly_582 gg_582_7 ?_
      refine b_aload_n dX10_isSign_24 rfl ?_
      refine b_getI dX10_isSign_25 fk_X10_324 ly_582 ?_
      refine b_lald dX10_isSign_28 ly_589 g2 ?_
      refine b_iload_n dX10_isSign_29 rfl ?_
      obtain ⟨g4, h⟩ := h
      refine b_i2l dX10_isSign_30 g4 ?_
      obtain ⟨g5, h⟩ := h
      obtain ⟨g6, h⟩ := h
      refine b_lc_ne 39 dX10_isSign_31 dX10_isSign_32 g5 g6 (by decide) (fun c3 => ?_) (fun c3 => ?_)
      · have h := ifF c3 h
        refine b_iconst dX10_isSign_39 ?_
        exact b_zret dX10_isSign_40 rfl (Or.inl rfl) h
      · have h := ifT (Decidable.of_not_not c3) h
        refine b_iconst dX10_isSign_35 ?_
        refine b_goto 40 dX10_isSign_36 (by decide) ?_
        exact b_zret dX10_isSign_40 rfl (Or.inr rfl) h
theorem dX10_sign_0 : decode cX10_sign 0 = .ok (.aload_n 0, 1) := by decide +kernel
theorem dX10_sign_1 : decode cX10_sign 1 = .ok (.iload_n 1, 1) := by decide +kernel
theorem dX10_sign_2 : decode cX10_sign 2 = .ok (.invokevirtual 359, 3) := by decide +kernel
theorem dX10_sign_5 : decode cX10_sign 5 = .ok (.ifCond .eq 10, 3) := by decide +kernel
theorem dX10_sign_8 : decode cX10_sign 8 = .ok (.aload_n 0, 1) := by decide +kernel
theorem dX10_sign_9 : decode cX10_sign 9 = .ok (.invokevirtual 362, 3) := by decide +kernel
theorem dX10_sign_12 : decode cX10_sign 12 = .ok (.goto 8, 3) := by decide +kernel
theorem dX10_sign_15 : decode cX10_sign 15 = .ok (.aload_n 0, 1) := by decide +kernel
theorem dX10_sign_16 : decode cX10_sign 16 = .ok (.iconst 1, 1) := by decide +kernel
theorem dX10_sign_17 : decode cX10_sign 17 = .ok (.invokevirtual 356, 3) := by decide +kernel
theorem dX10_sign_20 : decode cX10_sign 20 = .ok (.return_, 1) := by decide +kernel
/-! AlgebraHouseModel.sign(I)V -/
def P_X10_sign (x1 : Int) (m : MM) (Q : Int → MM → Prop) : Prop := P_X10_isSign x1 m (fun r1 m1 => (RI r1) ∧ (if r1 = 0 then P_X10_fail 1 m1 (fun r2 m2 => Q 0 m2) else P_X10_accept m1 (fun r3 m3 => Q 0 m3)))
theorem p_X10_sign {f : Nat} {Q : Int → MM → Prop} {T : MM → Prop} (hf : 3 ≤ f) (x1 : Int) (m : MM) (h : P_X10_sign x1 m Q) : CC f M_X10_sign [vR 582, vI x1] m Q T := by
  refine CC.of (plainFor_of_name (by decide)) (Nat.le_of_ble_eq_true rfl) (ls := [vR 582, vI x1]) rfl ?_
  have h : P_X10_isSign x1 m (fun r1 m1 => (RI r1) ∧ (if r1 = 0 then P_X10_fail 1 m1 (fun r2 m2 => Q 0 m2) else P_X10_accept m1 (fun r3 m3 => Q 0 m3))) := h
  refine b_aload_n dX10_sign_0 rfl ?_
  refine b_iload_n dX10_sign_1 rfl ?_
  refine b_cVi (as := [vI x1]) (st := []) dX10_sign_2 mf_X10_isSign qs104 lk_X10_359 ly_582 rfl (p_X10_isSign (f := 1) (Nat.le_refl _) _ _ h) (by omega) rfl rfl (Nat.le_of_ble_eq_true rfl) (by decide) rfl (fun _ => rfl) (fun r1 m1 h => ?_) (fun _ h => h)
  obtain ⟨g1, h⟩ := h
  refine b_if_eq 15 dX10_sign_5 g1 (by decide) (fun c1 => ?_) (fun c1 => ?_)
  · have h := ifT c1 h
    refine b_aload_n dX10_sign_15 rfl ?_
    refine b_iconst dX10_sign_16 ?_
    refine b_cVv (as := [vI 1]) (st := []) dX10_sign_17 mf_X10_fail qs101 lk_X10_356 ly_582 rfl (p_X10_fail (f := 1) (Nat.le_refl _) _ _ h) (by omega) rfl rfl (Nat.le_of_ble_eq_true rfl) (by decide) rfl (fun _ => rfl) (fun r2 m2 h => ?_) (fun _ h => h)
    exact b_vret dX10_sign_20 rfl h
  · have h := ifF c1 h
    refine b_aload_n dX10_sign_8 rfl ?_
    refine b_cVv (as := []) (st := []) dX10_sign_9 mf_X10_accept qs100 lk_X10_362 ly_582 rfl (p_X10_accept (f := 2) (Nat.le_refl _) _ h) (by omega) rfl rfl (Nat.le_of_ble_eq_true rfl) (by decide) rfl (fun _ => rfl) (fun r3 m3 h => ?_) (fun _ h => h)
    refine b_goto 20 dX10_sign_12 (by decide) ?_
    exact b_vret dX10_sign_20 rfl h
theorem dX10_closeWith_0 : decode cX10_closeWith 0 = .ok (.aload_n 0, 1) := by decide +kernel
theorem dX10_closeWith_1 : decode cX10_closeWith 1 = .ok (.iload_n 1, 1) := by decide +kernel
theorem dX10_closeWith_2 : decode cX10_closeWith 2 = .ok (.invokevirtual 372, 3) := by decide +kernel
theorem dX10_closeWith_5 : decode cX10_closeWith 5 = .ok (.aload_n 0, 1) := by decide +kernel
theorem dX10_closeWith_6 : decode cX10_closeWith 6 = .ok (.dup, 1) := by decide +kernel
theorem dX10_closeWith_7 : decode cX10_closeWith 7 = .ok (.getfield 369, 3) := by decide +kernel
theorem dX10_closeWith_10 : decode cX10_closeWith 10 = .ok (.iconst 1, 1) := by decide +kernel
theorem dX10_closeWith_11 : decode cX10_closeWith 11 = .ok (.isub, 1) := by decide +kernel
theorem dX10_closeWith_12 : decode cX10_closeWith 12 = .ok (.putfield 369, 3) := by decide +kernel
theorem dX10_closeWith_15 : decode cX10_closeWith 15 = .ok (.return_, 1) := by decide +kernel
/-! AlgebraHouseModel.closeWith(I)V -/
def P_X10_closeWith (x1 : Int) (m : MM) (Q : Int → MM → Prop) : Prop := P_X10_sign x1 m (fun r1 m1 => ∀ m2 : MM, m2 = up m1 582 12 ((m1 582 12) - 1) → Q 0 m2)
theorem p_X10_closeWith {f : Nat} {Q : Int → MM → Prop} {T : MM → Prop} (hf : 4 ≤ f) (x1 : Int) (m : MM) (h : P_X10_closeWith x1 m Q) : CC f M_X10_closeWith [vR 582, vI x1] m Q T := by
  refine CC.of (plainFor_of_name (by decide)) (Nat.le_of_ble_eq_true rfl) (ls := [vR 582, vI x1]) rfl ?_
  have h : P_X10_sign x1 m (fun r1 m1 => ∀ m2 : MM, m2 = up m1 582 12 ((m1 582 12) - 1) → Q 0 m2) := h
  refine b_aload_n dX10_closeWith_0 rfl ?_
  refine b_iload_n dX10_closeWith_1 rfl ?_
  refine b_cVv (as := [vI x1]) (st := []) dX10_closeWith_2 mf_X10_sign qs103 lk_X10_372 ly_582 rfl (p_X10_sign (f := 3) (Nat.le_refl _) _ _ h) (by omega) rfl rfl (Nat.le_of_ble_eq_true rfl) (by decide) rfl (fun _ => rfl) (fun r1 m1 h => ?_) (fun _ h => h)
  refine b_aload_n dX10_closeWith_5 rfl ?_
  refine b_dup dX10_closeWith_6 rfl ?_
  refine b_getI dX10_closeWith_7 fk_X10_369 ly_582 ?_
  refine b_iconst dX10_closeWith_10 ?_
  refine b_isub dX10_closeWith_11 ?_
  refine b_putI dX10_closeWith_12 fk_X10_369 ly_582 (fun m2 em2 => ?_)
  have h := h m2 em2
  exact b_vret dX10_closeWith_15 rfl h
theorem dX10_count_0 : decode cX10_count 0 = .ok (.iload_n 1, 1) := by decide +kernel
theorem dX10_count_1 : decode cX10_count 1 = .ok (.ifCond .ne 10, 3) := by decide +kernel
theorem dX10_count_4 : decode cX10_count 4 = .ok (.aload_n 0, 1) := by decide +kernel
theorem dX10_count_5 : decode cX10_count 5 = .ok (.getfield 523, 3) := by decide +kernel
theorem dX10_count_8 : decode cX10_count 8 = .ok (.goto 40, 3) := by decide +kernel
theorem dX10_count_11 : decode cX10_count 11 = .ok (.iload_n 1, 1) := by decide +kernel
theorem dX10_count_12 : decode cX10_count 12 = .ok (.iconst 1, 1) := by decide +kernel
theorem dX10_count_13 : decode cX10_count 13 = .ok (.if_icmp .ne 10, 3) := by decide +kernel
theorem dX10_count_16 : decode cX10_count 16 = .ok (.aload_n 0, 1) := by decide +kernel
theorem dX10_count_17 : decode cX10_count 17 = .ok (.getfield 554, 3) := by decide +kernel
theorem dX10_count_20 : decode cX10_count 20 = .ok (.goto 28, 3) := by decide +kernel
theorem dX10_count_23 : decode cX10_count 23 = .ok (.iload_n 1, 1) := by decide +kernel
theorem dX10_count_24 : decode cX10_count 24 = .ok (.iconst 2, 1) := by decide +kernel
theorem dX10_count_25 : decode cX10_count 25 = .ok (.if_icmp .ne 10, 3) := by decide +kernel
theorem dX10_count_28 : decode cX10_count 28 = .ok (.aload_n 0, 1) := by decide +kernel
theorem dX10_count_29 : decode cX10_count 29 = .ok (.getfield 591, 3) := by decide +kernel
theorem dX10_count_32 : decode cX10_count 32 = .ok (.goto 16, 3) := by decide +kernel
theorem dX10_count_35 : decode cX10_count 35 = .ok (.iload_n 1, 1) := by decide +kernel
theorem dX10_count_36 : decode cX10_count 36 = .ok (.iconst 3, 1) := by decide +kernel
theorem dX10_count_37 : decode cX10_count 37 = .ok (.if_icmp .ne 10, 3) := by decide +kernel
theorem dX10_count_40 : decode cX10_count 40 = .ok (.aload_n 0, 1) := by decide +kernel
theorem dX10_count_41 : decode cX10_count 41 = .ok (.getfield 310, 3) := by decide +kernel
theorem dX10_count_44 : decode cX10_count 44 = .ok (.goto 4, 3) := by decide +kernel
theorem dX10_count_47 : decode cX10_count 47 = .ok (.iconst (-1), 1) := by decide +kernel
theorem dX10_count_48 : decode cX10_count 48 = .ok (.ireturn, 1) := by decide +kernel
/-! AlgebraHouseModel.count(I)I -/
def P_X10_count (x1 : Int) (m : MM) (Q : Int → MM → Prop) : Prop := (RI x1) ∧ (if x1 = 0 then Q (m 582 34) m else (if x1 = 1 then Q (m 582 33) m else (if x1 = 2 then Q (m 582 32) m else (if x1 = 3 then Q (m 582 4) m else Q (-1) m))))
theorem p_X10_count {f : Nat} {Q : Int → MM → Prop} {T : MM → Prop} (hf : 1 ≤ f) (x1 : Int) (m : MM) (h : P_X10_count x1 m Q) : CC f M_X10_count [vR 582, vI x1] m Q T := by
  refine CC.of (plainFor_of_name (by decide)) (Nat.le_of_ble_eq_true rfl) (ls := [vR 582, vI x1]) rfl ?_
  have h : (RI x1) ∧ (if x1 = 0 then Q (m 582 34) m else (if x1 = 1 then Q (m 582 33) m else (if x1 = 2 then Q (m 582 32) m else (if x1 = 3 then Q (m 582 4) m else Q (-1) m)))) := h
  refine b_iload_n dX10_count_0 rfl ?_
  obtain ⟨g1, h⟩ := h
  refine b_if_ne 11 dX10_count_1 g1 (by decide) (fun c1 => ?_) (fun c1 => ?_)
  · have h := ifF c1 h
    refine b_iload_n dX10_count_11 rfl ?_
    refine b_iconst dX10_count_12 ?_
    refine b_icmp_ne 23 dX10_count_13 g1 (by decide) (by decide) (fun c2 => ?_) (fun c2 => ?_)
    · have h := ifF c2 h
      refine b_iload_n dX10_count_23 rfl ?_
      refine b_iconst dX10_count_24 ?_
      refine b_icmp_ne 35 dX10_count_25 g1 (by decide) (by decide) (fun c3 => ?_) (fun c3 => ?_)
      · have h := ifF c3 h
        refine b_iload_n dX10_count_35 rfl ?_
        refine b_iconst dX10_count_36 ?_
        refine b_icmp_ne 47 dX10_count_37 g1 (by decide) (by decide) (fun c4 => ?_) (fun c4 => ?_)
        · have h := ifF c4 h
          refine b_iconst dX10_count_47 ?_
          exact b_iret dX10_count_48 rfl h
        · have h := ifT (Decidable.of_not_not c4) h
          refine b_aload_n dX10_count_40 rfl ?_
          refine b_getI dX10_count_41 fk_X10_310 ly_582 ?_
          refine b_goto 48 dX10_count_44 (by decide) ?_
          exact b_iret dX10_count_48 rfl h
      · have h := ifT (Decidable.of_not_not c3) h
        refine b_aload_n dX10_count_28 rfl ?_
        refine b_getI dX10_count_29 fk_X10_591 ly_582 ?_
        refine b_goto 48 dX10_count_32 (by decide) ?_
        exact b_iret dX10_count_48 rfl h
    · have h := ifT (Decidable.of_not_not c2) h
      refine b_aload_n dX10_count_16 rfl ?_
      refine b_getI dX10_count_17 fk_X10_554 ly_582 ?_
      refine b_goto 48 dX10_count_20 (by decide) ?_
      exact b_iret dX10_count_48 rfl h
  · have h := ifT (Decidable.of_not_not c1) h
    refine b_aload_n dX10_count_4 rfl ?_
    refine b_getI dX10_count_5 fk_X10_523 ly_582 ?_
    refine b_goto 48 dX10_count_8 (by decide) ?_
    exact b_iret dX10_count_48 rfl h
theorem dX10_isThere_0 : decode cX10_isThere 0 = .ok (.iload_n 1, 1) := by decide +kernel
theorem dX10_isThere_1 : decode cX10_isThere 1 = .ok (.ifCond .lt 19, 3) := by decide +kernel
theorem dX10_isThere_4 : decode cX10_isThere 4 = .ok (.iload_n 1, 1) := by decide +kernel
theorem dX10_isThere_5 : decode cX10_isThere 5 = .ok (.aload_n 0, 1) := by decide +kernel
theorem dX10_isThere_6 : decode cX10_isThere 6 = .ok (.getfield 523, 3) := by decide +kernel
theorem dX10_isThere_9 : decode cX10_isThere 9 = .ok (.if_icmp .ge 7, 3) := by decide +kernel
theorem dX10_isThere_12 : decode cX10_isThere 12 = .ok (.iconst 1, 1) := by decide +kernel
theorem dX10_isThere_13 : decode cX10_isThere 13 = .ok (.goto 27, 3) := by decide +kernel
theorem dX10_isThere_16 : decode cX10_isThere 16 = .ok (.iconst 0, 1) := by decide +kernel
theorem dX10_isThere_17 : decode cX10_isThere 17 = .ok (.goto 23, 3) := by decide +kernel
theorem dX10_isThere_20 : decode cX10_isThere 20 = .ok (.ldc2_w 926, 3) := by decide +kernel
theorem dX10_isThere_23 : decode cX10_isThere 23 = .ok (.iload_n 1, 1) := by decide +kernel
theorem dX10_isThere_24 : decode cX10_isThere 24 = .ok (.i2l, 1) := by decide +kernel
theorem dX10_isThere_25 : decode cX10_isThere 25 = .ok (.lsub, 1) := by decide +kernel
theorem dX10_isThere_26 : decode cX10_isThere 26 = .ok (.aload_n 0, 1) := by decide +kernel
theorem dX10_isThere_27 : decode cX10_isThere 27 = .ok (.getfield 554, 3) := by decide +kernel
theorem dX10_isThere_30 : decode cX10_isThere 30 = .ok (.i2l, 1) := by decide +kernel
theorem dX10_isThere_31 : decode cX10_isThere 31 = .ok (.lcmp, 1) := by decide +kernel
theorem dX10_isThere_32 : decode cX10_isThere 32 = .ok (.ifCond .ge 7, 3) := by decide +kernel
theorem dX10_isThere_35 : decode cX10_isThere 35 = .ok (.iconst 1, 1) := by decide +kernel
theorem dX10_isThere_36 : decode cX10_isThere 36 = .ok (.goto 4, 3) := by decide +kernel
theorem dX10_isThere_39 : decode cX10_isThere 39 = .ok (.iconst 0, 1) := by decide +kernel
theorem dX10_isThere_40 : decode cX10_isThere 40 = .ok (.ireturn, 1) := by decide +kernel
/-! AlgebraHouseModel.isThere(I)Z -/
def P_X10_isThere (x1 : Int) (m : MM) (Q : Int → MM → Prop) : Prop := (RI x1) ∧ (if x1 < 0 then (RI (m 582 33)) ∧ (RL ((-1) - x1)) ∧ (RL (m 582 33)) ∧ (if (m 582 33) ≤ ((-1) - x1) then Q 0 m else Q 1 m) else (RI (m 582 34)) ∧ (if (m 582 34) ≤ x1 then Q 0 m else Q 1 m))
theorem p_X10_isThere {f : Nat} {Q : Int → MM → Prop} {T : MM → Prop} (hf : 1 ≤ f) (x1 : Int) (m : MM) (h : P_X10_isThere x1 m Q) : CC f M_X10_isThere [vR 582, vI x1] m Q T := by
  refine CC.of (plainFor_of_name (by decide)) (Nat.le_of_ble_eq_true rfl) (ls := [vR 582, vI x1]) rfl ?_
  have h : (RI x1) ∧ (if x1 < 0 then (RI (m 582 33)) ∧ (RL ((-1) - x1)) ∧ (RL (m 582 33)) ∧ (if (m 582 33) ≤ ((-1) - x1) then Q 0 m else Q 1 m) else (RI (m 582 34)) ∧ (if (m 582 34) ≤ x1 then Q 0 m else Q 1 m)) := h
  refine b_iload_n dX10_isThere_0 rfl ?_
  obtain ⟨g1, h⟩ := h
  refine b_if_lt 20 dX10_isThere_1 g1 (by decide) (fun c1 => ?_) (fun c1 => ?_)
  · have h := ifT c1 h
    refine b_ldc2 (-1) dX10_isThere_20 q2587 (by decide) ?_
    refine b_iload_n dX10_isThere_23 rfl ?_
    refine b_i2l dX10_isThere_24 g1 ?_
    refine b_lsub dX10_isThere_25 ?_
    refine b_aload_n dX10_isThere_26 rfl ?_
    refine b_getI dX10_isThere_27 fk_X10_554 ly_582 ?_
    obtain ⟨g2, h⟩ := h
    refine b_i2l dX10_isThere_30 g2 ?_
    obtain ⟨g3, h⟩ := h
    obtain ⟨g4, h⟩ := h
    refine b_lc_ge 39 dX10_isThere_31 dX10_isThere_32 g3 g4 (by decide) (fun c2 => ?_) (fun c2 => ?_)
    · have h := ifT c2 h
      refine b_iconst dX10_isThere_39 ?_
      exact b_zret dX10_isThere_40 rfl (Or.inl rfl) h
    · have h := ifF c2 h
      refine b_iconst dX10_isThere_35 ?_
      refine b_goto 40 dX10_isThere_36 (by decide) ?_
      exact b_zret dX10_isThere_40 rfl (Or.inr rfl) h
  · have h := ifF c1 h
    refine b_iload_n dX10_isThere_4 rfl ?_
    refine b_aload_n dX10_isThere_5 rfl ?_
    refine b_getI dX10_isThere_6 fk_X10_523 ly_582 ?_
    obtain ⟨g5, h⟩ := h
    refine b_icmp_ge 16 dX10_isThere_9 g1 g5 (by decide) (fun c3 => ?_) (fun c3 => ?_)
    · have h := ifT c3 h
      refine b_iconst dX10_isThere_16 ?_
      refine b_goto 40 dX10_isThere_17 (by decide) ?_
      exact b_zret dX10_isThere_40 rfl (Or.inl rfl) h
    · have h := ifF c3 h
      refine b_iconst dX10_isThere_12 ?_
      refine b_goto 40 dX10_isThere_13 (by decide) ?_
      exact b_zret dX10_isThere_40 rfl (Or.inr rfl) h
theorem dX10_ring_0 : decode cX10_ring 0 = .ok (.aload_n 0, 1) := by decide +kernel
theorem dX10_ring_1 : decode cX10_ring 1 = .ok (.iload_n 1, 1) := by decide +kernel
theorem dX10_ring_2 : decode cX10_ring 2 = .ok (.invokevirtual 928, 3) := by decide +kernel
theorem dX10_ring_5 : decode cX10_ring 5 = .ok (.ifCond .eq 12, 3) := by decide +kernel
theorem dX10_ring_8 : decode cX10_ring 8 = .ok (.iload_n 2, 1) := by decide +kernel
theorem dX10_ring_9 : decode cX10_ring 9 = .ok (.ifCond .lt 8, 3) := by decide +kernel
theorem dX10_ring_12 : decode cX10_ring 12 = .ok (.iload_n 2, 1) := by decide +kernel
theorem dX10_ring_13 : decode cX10_ring 13 = .ok (.iconst 2, 1) := by decide +kernel
theorem dX10_ring_14 : decode cX10_ring 14 = .ok (.if_icmp .le 5, 3) := by decide +kernel
theorem dX10_ring_17 : decode cX10_ring 17 = .ok (.iconst (-1), 1) := by decide +kernel
theorem dX10_ring_18 : decode cX10_ring 18 = .ok (.ireturn, 1) := by decide +kernel
theorem dX10_ring_19 : decode cX10_ring 19 = .ok (.iload_n 1, 1) := by decide +kernel
theorem dX10_ring_20 : decode cX10_ring 20 = .ok (.ifCond .lt 7, 3) := by decide +kernel
theorem dX10_ring_23 : decode cX10_ring 23 = .ok (.iload_n 1, 1) := by decide +kernel
theorem dX10_ring_24 : decode cX10_ring 24 = .ok (.goto 6, 3) := by decide +kernel
theorem dX10_ring_27 : decode cX10_ring 27 = .ok (.iconst (-1), 1) := by decide +kernel
theorem dX10_ring_28 : decode cX10_ring 28 = .ok (.iload_n 1, 1) := by decide +kernel
theorem dX10_ring_29 : decode cX10_ring 29 = .ok (.isub, 1) := by decide +kernel
theorem dX10_ring_30 : decode cX10_ring 30 = .ok (.istore_n 3, 1) := by decide +kernel
theorem dX10_ring_31 : decode cX10_ring 31 = .ok (.iload_n 1, 1) := by decide +kernel
theorem dX10_ring_32 : decode cX10_ring 32 = .ok (.ifCond .lt 37, 3) := by decide +kernel
theorem dX10_ring_35 : decode cX10_ring 35 = .ok (.iload_n 2, 1) := by decide +kernel
theorem dX10_ring_36 : decode cX10_ring 36 = .ok (.ifCond .ne 12, 3) := by decide +kernel
theorem dX10_ring_39 : decode cX10_ring 39 = .ok (.aload_n 0, 1) := by decide +kernel
theorem dX10_ring_40 : decode cX10_ring 40 = .ok (.getfield 215, 3) := by decide +kernel
theorem dX10_ring_43 : decode cX10_ring 43 = .ok (.iload_n 3, 1) := by decide +kernel
theorem dX10_ring_44 : decode cX10_ring 44 = .ok (.iaload, 1) := by decide +kernel
theorem dX10_ring_45 : decode cX10_ring 45 = .ok (.goto 23, 3) := by decide +kernel
theorem dX10_ring_48 : decode cX10_ring 48 = .ok (.iload_n 2, 1) := by decide +kernel
theorem dX10_ring_49 : decode cX10_ring 49 = .ok (.iconst 1, 1) := by decide +kernel
theorem dX10_ring_50 : decode cX10_ring 50 = .ok (.if_icmp .ne 12, 3) := by decide +kernel
theorem dX10_ring_53 : decode cX10_ring 53 = .ok (.aload_n 0, 1) := by decide +kernel
theorem dX10_ring_54 : decode cX10_ring 54 = .ok (.getfield 218, 3) := by decide +kernel
theorem dX10_ring_57 : decode cX10_ring 57 = .ok (.iload_n 3, 1) := by decide +kernel
theorem dX10_ring_58 : decode cX10_ring 58 = .ok (.iaload, 1) := by decide +kernel
theorem dX10_ring_59 : decode cX10_ring 59 = .ok (.goto 9, 3) := by decide +kernel
theorem dX10_ring_62 : decode cX10_ring 62 = .ok (.aload_n 0, 1) := by decide +kernel
theorem dX10_ring_63 : decode cX10_ring 63 = .ok (.getfield 221, 3) := by decide +kernel
theorem dX10_ring_66 : decode cX10_ring 66 = .ok (.iload_n 3, 1) := by decide +kernel
theorem dX10_ring_67 : decode cX10_ring 67 = .ok (.iaload, 1) := by decide +kernel
theorem dX10_ring_68 : decode cX10_ring 68 = .ok (.ireturn, 1) := by decide +kernel
theorem dX10_ring_69 : decode cX10_ring 69 = .ok (.iload_n 2, 1) := by decide +kernel
theorem dX10_ring_70 : decode cX10_ring 70 = .ok (.ifCond .ne 12, 3) := by decide +kernel
theorem dX10_ring_73 : decode cX10_ring 73 = .ok (.aload_n 0, 1) := by decide +kernel
theorem dX10_ring_74 : decode cX10_ring 74 = .ok (.getfield 206, 3) := by decide +kernel
theorem dX10_ring_77 : decode cX10_ring 77 = .ok (.iload_n 3, 1) := by decide +kernel
theorem dX10_ring_78 : decode cX10_ring 78 = .ok (.iaload, 1) := by decide +kernel
theorem dX10_ring_79 : decode cX10_ring 79 = .ok (.goto 23, 3) := by decide +kernel
theorem dX10_ring_82 : decode cX10_ring 82 = .ok (.iload_n 2, 1) := by decide +kernel
theorem dX10_ring_83 : decode cX10_ring 83 = .ok (.iconst 1, 1) := by decide +kernel
theorem dX10_ring_84 : decode cX10_ring 84 = .ok (.if_icmp .ne 12, 3) := by decide +kernel
theorem dX10_ring_87 : decode cX10_ring 87 = .ok (.aload_n 0, 1) := by decide +kernel
theorem dX10_ring_88 : decode cX10_ring 88 = .ok (.getfield 209, 3) := by decide +kernel
theorem dX10_ring_91 : decode cX10_ring 91 = .ok (.iload_n 3, 1) := by decide +kernel
theorem dX10_ring_92 : decode cX10_ring 92 = .ok (.iaload, 1) := by decide +kernel
theorem dX10_ring_93 : decode cX10_ring 93 = .ok (.goto 9, 3) := by decide +kernel
theorem dX10_ring_96 : decode cX10_ring 96 = .ok (.aload_n 0, 1) := by decide +kernel
theorem dX10_ring_97 : decode cX10_ring 97 = .ok (.getfield 212, 3) := by decide +kernel
theorem dX10_ring_100 : decode cX10_ring 100 = .ok (.iload_n 3, 1) := by decide +kernel
theorem dX10_ring_101 : decode cX10_ring 101 = .ok (.iaload, 1) := by decide +kernel
theorem dX10_ring_102 : decode cX10_ring 102 = .ok (.ireturn, 1) := by decide +kernel
/-! AlgebraHouseModel.ring(II)I -/
def P_X10_ring (x1 : Int) (x2 : Int) (m : MM) (Q : Int → MM → Prop) : Prop := P_X10_isThere x1 m (fun r1 m1 => (RI r1) ∧ (if r1 = 0 then Q (-1) m1 else (RI x2) ∧ (if x2 < 0 then Q (-1) m1 else (if x2 ≤ 2 then ((RI x1)) ∧ (RI x1) ∧ (if x1 < 0 then (if x2 = 0 then (0 ≤ (if x1 < 0 then ((-1) - x1) else x1 : Int) ∧ (if x1 < 0 then ((-1) - x1) else x1 : Int) < 20) ∧ Q (m1 623 (if x1 < 0 then ((-1) - x1) else x1 : Int)) m1 else (if x2 = 1 then (0 ≤ (if x1 < 0 then ((-1) - x1) else x1 : Int) ∧ (if x1 < 0 then ((-1) - x1) else x1 : Int) < 20) ∧ Q (m1 624 (if x1 < 0 then ((-1) - x1) else x1 : Int)) m1 else (0 ≤ (if x1 < 0 then ((-1) - x1) else x1 : Int) ∧ (if x1 < 0 then ((-1) - x1) else x1 : Int) < 20) ∧ Q (m1 625 (if x1 < 0 then ((-1) - x1) else x1 : Int)) m1)) else (if x2 = 0 then (0 ≤ (if x1 < 0 then ((-1) - x1) else x1 : Int) ∧ (if x1 < 0 then ((-1) - x1) else x1 : Int) < 200) ∧ Q (m1 626 (if x1 < 0 then ((-1) - x1) else x1 : Int)) m1 else (if x2 = 1 then (0 ≤ (if x1 < 0 then ((-1) - x1) else x1 : Int) ∧ (if x1 < 0 then ((-1) - x1) else x1 : Int) < 200) ∧ Q (m1 627 (if x1 < 0 then ((-1) - x1) else x1 : Int)) m1 else (0 ≤ (if x1 < 0 then ((-1) - x1) else x1 : Int) ∧ (if x1 < 0 then ((-1) - x1) else x1 : Int) < 200) ∧ Q (m1 628 (if x1 < 0 then ((-1) - x1) else x1 : Int)) m1))) else Q (-1) m1))))
theorem p_X10_ring {f : Nat} {Q : Int → MM → Prop} {T : MM → Prop} (hf : 2 ≤ f) (x1 : Int) (x2 : Int) (m : MM) (h : P_X10_ring x1 x2 m Q) : CC f M_X10_ring [vR 582, vI x1, vI x2] m Q T := by
  refine CC.of (plainFor_of_name (by decide)) (Nat.le_of_ble_eq_true rfl) (ls := [vR 582, vI x1, vI x2, vU]) rfl ?_
  have h : P_X10_isThere x1 m (fun r1 m1 => (RI r1) ∧ (if r1 = 0 then Q (-1) m1 else (RI x2) ∧ (if x2 < 0 then Q (-1) m1 else (if x2 ≤ 2 then ((RI x1)) ∧ (RI x1) ∧ (if x1 < 0 then (if x2 = 0 then (0 ≤ (if x1 < 0 then ((-1) - x1) else x1 : Int) ∧ (if x1 < 0 then ((-1) - x1) else x1 : Int) < 20) ∧ Q (m1 623 (if x1 < 0 then ((-1) - x1) else x1 : Int)) m1 else (if x2 = 1 then (0 ≤ (if x1 < 0 then ((-1) - x1) else x1 : Int) ∧ (if x1 < 0 then ((-1) - x1) else x1 : Int) < 20) ∧ Q (m1 624 (if x1 < 0 then ((-1) - x1) else x1 : Int)) m1 else (0 ≤ (if x1 < 0 then ((-1) - x1) else x1 : Int) ∧ (if x1 < 0 then ((-1) - x1) else x1 : Int) < 20) ∧ Q (m1 625 (if x1 < 0 then ((-1) - x1) else x1 : Int)) m1)) else (if x2 = 0 then (0 ≤ (if x1 < 0 then ((-1) - x1) else x1 : Int) ∧ (if x1 < 0 then ((-1) - x1) else x1 : Int) < 200) ∧ Q (m1 626 (if x1 < 0 then ((-1) - x1) else x1 : Int)) m1 else (if x2 = 1 then (0 ≤ (if x1 < 0 then ((-1) - x1) else x1 : Int) ∧ (if x1 < 0 then ((-1) - x1) else x1 : Int) < 200) ∧ Q (m1 627 (if x1 < 0 then ((-1) - x1) else x1 : Int)) m1 else (0 ≤ (if x1 < 0 then ((-1) - x1) else x1 : Int) ∧ (if x1 < 0 then ((-1) - x1) else x1 : Int) < 200) ∧ Q (m1 628 (if x1 < 0 then ((-1) - x1) else x1 : Int)) m1))) else Q (-1) m1)))) := h
  refine b_aload_n dX10_ring_0 rfl ?_
  refine b_iload_n dX10_ring_1 rfl ?_
  refine b_cVi (as := [vI x1]) (st := []) dX10_ring_2 mf_X10_isThere qs216 lk_X10_928 ly_582 rfl (p_X10_isThere (f := 1) (Nat.le_refl _) _ _ h) (by omega) rfl rfl (Nat.le_of_ble_eq_true rfl) (by decide) rfl (fun _ => rfl) (fun r1 m1 h => ?_) (fun _ h => h)
  obtain ⟨g1, h⟩ := h
  refine b_if_eq 17 dX10_ring_5 g1 (by decide) (fun c1 => ?_) (fun c1 => ?_)
  · have h := ifT c1 h
    refine b_iconst dX10_ring_17 ?_
    exact b_iret dX10_ring_18 rfl h
  · have h := ifF c1 h
    refine b_iload_n dX10_ring_8 rfl ?_
    obtain ⟨g2, h⟩ := h
    refine b_if_lt 17 dX10_ring_9 g2 (by decide) (fun c2 => ?_) (fun c2 => ?_)
    · have h := ifT c2 h
      refine b_iconst dX10_ring_17 ?_
      exact b_iret dX10_ring_18 rfl h
    · have h := ifF c2 h
      refine b_iload_n dX10_ring_12 rfl ?_
      refine b_iconst dX10_ring_13 ?_
      refine b_icmp_le 19 dX10_ring_14 g2 (by decide) (by decide) (fun c3 => ?_) (fun c3 => ?_)
      · have h := ifT c3 h
        refine b_iload_n dX10_ring_19 rfl ?_
        obtain ⟨hs, h⟩ := h
        have K : B f M_X10_ring 30 [vR 582, vI x1, vI x2, vU] [vI (if x1 < 0 then ((-1) - x1) else x1 : Int)] m1 Q T := by
          clear hs
          refine b_istore_n (ls' := [vR 582, vI x1, vI x2, vI (if x1 < 0 then ((-1) - x1) else x1 : Int)]) dX10_ring_30 (Nat.le_of_ble_eq_true rfl) rfl ?_
          refine b_iload_n dX10_ring_31 rfl ?_
          obtain ⟨g4, h⟩ := h
          refine b_if_lt 69 dX10_ring_32 g4 (by decide) (fun c4 => ?_) (fun c4 => ?_)
          · have h := ifT c4 h
            refine b_iload_n dX10_ring_69 rfl ?_
            refine b_if_ne 82 dX10_ring_70 g2 (by decide) (fun c5 => ?_) (fun c5 => ?_)
            · have h := ifF c5 h
              refine b_iload_n dX10_ring_82 rfl ?_
              refine b_iconst dX10_ring_83 ?_
              refine b_icmp_ne 96 dX10_ring_84 g2 (by decide) (by decide) (fun c6 => ?_) (fun c6 => ?_)
              · have h := ifF c6 h
                refine b_aload_n dX10_ring_96 rfl ?_
                refine b_getR dX10_ring_97 fk_X10_212 ly_582 gg_582_54 ?_
                refine b_iload_n dX10_ring_100 rfl ?_
                obtain ⟨g5, h⟩ := h
                refine b_iald dX10_ring_101 ly_625 g5 ?_
                exact b_iret dX10_ring_102 rfl h
              · have h := ifT (Decidable.of_not_not c6) h
                refine b_aload_n dX10_ring_87 rfl ?_
                refine b_getR dX10_ring_88 fk_X10_209 ly_582 gg_582_53 ?_
                refine b_iload_n dX10_ring_91 rfl ?_
                obtain ⟨g6, h⟩ := h
                refine b_iald dX10_ring_92 ly_624 g6 ?_
                refine b_goto 102 dX10_ring_93 (by decide) ?_
                exact b_iret dX10_ring_102 rfl h
            · have h := ifT (Decidable.of_not_not c5) h
              refine b_aload_n dX10_ring_73 rfl ?_
              refine b_getR dX10_ring_74 fk_X10_206 ly_582 gg_582_52 ?_
              refine b_iload_n dX10_ring_77 rfl ?_
              obtain ⟨g7, h⟩ := h
              refine b_iald dX10_ring_78 ly_623 g7 ?_
              refine b_goto 102 dX10_ring_79 (by decide) ?_
              exact b_iret dX10_ring_102 rfl h
          · have h := ifF c4 h
            refine b_iload_n dX10_ring_35 rfl ?_
            refine b_if_ne 48 dX10_ring_36 g2 (by decide) (fun c7 => ?_) (fun c7 => ?_)
            · have h := ifF c7 h
              refine b_iload_n dX10_ring_48 rfl ?_
              refine b_iconst dX10_ring_49 ?_
              refine b_icmp_ne 62 dX10_ring_50 g2 (by decide) (by decide) (fun c8 => ?_) (fun c8 => ?_)
              · have h := ifF c8 h
                refine b_aload_n dX10_ring_62 rfl ?_
                refine b_getR dX10_ring_63 fk_X10_221 ly_582 gg_582_57 ?_
                refine b_iload_n dX10_ring_66 rfl ?_
                obtain ⟨g8, h⟩ := h
                refine b_iald dX10_ring_67 ly_628 g8 ?_
                exact b_iret dX10_ring_68 rfl h
              · have h := ifT (Decidable.of_not_not c8) h
                refine b_aload_n dX10_ring_53 rfl ?_
                refine b_getR dX10_ring_54 fk_X10_218 ly_582 gg_582_56 ?_
                refine b_iload_n dX10_ring_57 rfl ?_
                obtain ⟨g9, h⟩ := h
                refine b_iald dX10_ring_58 ly_627 g9 ?_
                refine b_goto 68 dX10_ring_59 (by decide) ?_
                exact b_iret dX10_ring_68 rfl h
            · have h := ifT (Decidable.of_not_not c7) h
              refine b_aload_n dX10_ring_39 rfl ?_
              refine b_getR dX10_ring_40 fk_X10_215 ly_582 gg_582_55 ?_
              refine b_iload_n dX10_ring_43 rfl ?_
              obtain ⟨g10, h⟩ := h
              refine b_iald dX10_ring_44 ly_626 g10 ?_
              refine b_goto 68 dX10_ring_45 (by decide) ?_
              exact b_iret dX10_ring_68 rfl h
        have g3 := hs
        refine b_if_lt 27 dX10_ring_20 g3 (by decide) (fun c9 => ?_) (fun c9 => ?_)
        ·
          refine b_iconst dX10_ring_27 ?_
          refine b_iload_n dX10_ring_28 rfl ?_
          refine b_isub dX10_ring_29 ?_
          exact Eq.mp (congrArg (fun z => B f M_X10_ring 30 [vR 582, vI x1, vI x2, vU] (vI z :: []) m1 Q T) (show (if x1 < 0 then ((-1) - x1) else x1 : Int) = ((-1) - x1) by rw [if_pos c9])) K
        ·
          refine b_iload_n dX10_ring_23 rfl ?_
          refine b_goto 30 dX10_ring_24 (by decide) ?_
          exact Eq.mp (congrArg (fun z => B f M_X10_ring 30 [vR 582, vI x1, vI x2, vU] (vI z :: []) m1 Q T) (show (if x1 < 0 then ((-1) - x1) else x1 : Int) = x1 by rw [if_neg c9])) K
      · have h := ifF c3 h
        refine b_iconst dX10_ring_17 ?_
        exact b_iret dX10_ring_18 rfl h
theorem dX10_entry_0 : decode cX10_entry 0 = .ok (.aload_n 0, 1) := by decide +kernel
theorem dX10_entry_1 : decode cX10_entry 1 = .ok (.iload_n 1, 1) := by decide +kernel
theorem dX10_entry_2 : decode cX10_entry 2 = .ok (.invokevirtual 928, 3) := by decide +kernel
theorem dX10_entry_5 : decode cX10_entry 5 = .ok (.ifCond .eq 14, 3) := by decide +kernel
theorem dX10_entry_8 : decode cX10_entry 8 = .ok (.iload 6, 2) := by decide +kernel
theorem dX10_entry_10 : decode cX10_entry 10 = .ok (.ifCond .lt 9, 3) := by decide +kernel
theorem dX10_entry_13 : decode cX10_entry 13 = .ok (.iload 6, 2) := by decide +kernel
theorem dX10_entry_15 : decode cX10_entry 15 = .ok (.iconst 1, 1) := by decide +kernel
theorem dX10_entry_16 : decode cX10_entry 16 = .ok (.if_icmp .le 5, 3) := by decide +kernel
theorem dX10_entry_19 : decode cX10_entry 19 = .ok (.iconst 0, 1) := by decide +kernel
theorem dX10_entry_20 : decode cX10_entry 20 = .ok (.ireturn, 1) := by decide +kernel
theorem dX10_entry_21 : decode cX10_entry 21 = .ok (.aload_n 0, 1) := by decide +kernel
theorem dX10_entry_22 : decode cX10_entry 22 = .ok (.iload_n 1, 1) := by decide +kernel
theorem dX10_entry_23 : decode cX10_entry 23 = .ok (.iconst 2, 1) := by decide +kernel
theorem dX10_entry_24 : decode cX10_entry 24 = .ok (.invokevirtual 931, 3) := by decide +kernel
theorem dX10_entry_27 : decode cX10_entry 27 = .ok (.invokestatic 674, 3) := by decide +kernel
theorem dX10_entry_30 : decode cX10_entry 30 = .ok (.istore 7, 2) := by decide +kernel
theorem dX10_entry_32 : decode cX10_entry 32 = .ok (.aload_n 0, 1) := by decide +kernel
theorem dX10_entry_33 : decode cX10_entry 33 = .ok (.iload_n 1, 1) := by decide +kernel
theorem dX10_entry_34 : decode cX10_entry 34 = .ok (.iconst 1, 1) := by decide +kernel
theorem dX10_entry_35 : decode cX10_entry 35 = .ok (.invokevirtual 931, 3) := by decide +kernel
theorem dX10_entry_38 : decode cX10_entry 38 = .ok (.istore 8, 2) := by decide +kernel
theorem dX10_entry_40 : decode cX10_entry 40 = .ok (.iload_n 2, 1) := by decide +kernel
theorem dX10_entry_41 : decode cX10_entry 41 = .ok (.ifCond .lt 62, 3) := by decide +kernel
theorem dX10_entry_44 : decode cX10_entry 44 = .ok (.iload_n 2, 1) := by decide +kernel
theorem dX10_entry_45 : decode cX10_entry 45 = .ok (.iload 7, 2) := by decide +kernel
theorem dX10_entry_47 : decode cX10_entry 47 = .ok (.if_icmp .ge 56, 3) := by decide +kernel
theorem dX10_entry_50 : decode cX10_entry 50 = .ok (.iload_n 3, 1) := by decide +kernel
theorem dX10_entry_51 : decode cX10_entry 51 = .ok (.ifCond .lt 52, 3) := by decide +kernel
theorem dX10_entry_54 : decode cX10_entry 54 = .ok (.iload_n 3, 1) := by decide +kernel
theorem dX10_entry_55 : decode cX10_entry 55 = .ok (.iload 7, 2) := by decide +kernel
theorem dX10_entry_57 : decode cX10_entry 57 = .ok (.if_icmp .ge 46, 3) := by decide +kernel
theorem dX10_entry_60 : decode cX10_entry 60 = .ok (.iload 4, 2) := by decide +kernel
theorem dX10_entry_62 : decode cX10_entry 62 = .ok (.ifCond .lt 41, 3) := by decide +kernel
theorem dX10_entry_65 : decode cX10_entry 65 = .ok (.iload 4, 2) := by decide +kernel
theorem dX10_entry_67 : decode cX10_entry 67 = .ok (.iload 8, 2) := by decide +kernel
theorem dX10_entry_69 : decode cX10_entry 69 = .ok (.ifCond .le 8, 3) := by decide +kernel
theorem dX10_entry_72 : decode cX10_entry 72 = .ok (.bipush 7, 2) := by decide +kernel
theorem dX10_entry_74 : decode cX10_entry 74 = .ok (.goto 4, 3) := by decide +kernel
theorem dX10_entry_77 : decode cX10_entry 77 = .ok (.iconst 1, 1) := by decide +kernel
theorem dX10_entry_78 : decode cX10_entry 78 = .ok (.if_icmp .ge 25, 3) := by decide +kernel
theorem dX10_entry_81 : decode cX10_entry 81 = .ok (.iload 5, 2) := by decide +kernel
theorem dX10_entry_83 : decode cX10_entry 83 = .ok (.ifCond .lt 20, 3) := by decide +kernel
theorem dX10_entry_86 : decode cX10_entry 86 = .ok (.iload 5, 2) := by decide +kernel
theorem dX10_entry_88 : decode cX10_entry 88 = .ok (.iload 8, 2) := by decide +kernel
theorem dX10_entry_90 : decode cX10_entry 90 = .ok (.iconst 1, 1) := by decide +kernel
theorem dX10_entry_91 : decode cX10_entry 91 = .ok (.if_icmp .le 8, 3) := by decide +kernel
theorem dX10_entry_94 : decode cX10_entry 94 = .ok (.bipush 7, 2) := by decide +kernel
theorem dX10_entry_96 : decode cX10_entry 96 = .ok (.goto 4, 3) := by decide +kernel
theorem dX10_entry_99 : decode cX10_entry 99 = .ok (.iconst 1, 1) := by decide +kernel
theorem dX10_entry_100 : decode cX10_entry 100 = .ok (.if_icmp .lt 5, 3) := by decide +kernel
theorem dX10_entry_103 : decode cX10_entry 103 = .ok (.iconst 0, 1) := by decide +kernel
theorem dX10_entry_104 : decode cX10_entry 104 = .ok (.ireturn, 1) := by decide +kernel
theorem dX10_entry_105 : decode cX10_entry 105 = .ok (.iconst 0, 1) := by decide +kernel
theorem dX10_entry_106 : decode cX10_entry 106 = .ok (.iload_n 2, 1) := by decide +kernel
theorem dX10_entry_107 : decode cX10_entry 107 = .ok (.iload_n 3, 1) := by decide +kernel
theorem dX10_entry_108 : decode cX10_entry 108 = .ok (.invokestatic 677, 3) := by decide +kernel
theorem dX10_entry_111 : decode cX10_entry 111 = .ok (.iconst 2, 1) := by decide +kernel
theorem dX10_entry_112 : decode cX10_entry 112 = .ok (.bipush 7, 2) := by decide +kernel
theorem dX10_entry_114 : decode cX10_entry 114 = .ok (.iload 5, 2) := by decide +kernel
theorem dX10_entry_116 : decode cX10_entry 116 = .ok (.imul, 1) := by decide +kernel
theorem dX10_entry_117 : decode cX10_entry 117 = .ok (.iload 4, 2) := by decide +kernel
theorem dX10_entry_119 : decode cX10_entry 119 = .ok (.iadd, 1) := by decide +kernel
theorem dX10_entry_120 : decode cX10_entry 120 = .ok (.imul, 1) := by decide +kernel
theorem dX10_entry_121 : decode cX10_entry 121 = .ok (.iadd, 1) := by decide +kernel
theorem dX10_entry_122 : decode cX10_entry 122 = .ok (.iload 6, 2) := by decide +kernel
theorem dX10_entry_124 : decode cX10_entry 124 = .ok (.iadd, 1) := by decide +kernel
theorem dX10_entry_125 : decode cX10_entry 125 = .ok (.istore 9, 2) := by decide +kernel
theorem dX10_entry_127 : decode cX10_entry 127 = .ok (.iload_n 1, 1) := by decide +kernel
theorem dX10_entry_128 : decode cX10_entry 128 = .ok (.ifCond .lt 19, 3) := by decide +kernel
theorem dX10_entry_131 : decode cX10_entry 131 = .ok (.aload_n 0, 1) := by decide +kernel
theorem dX10_entry_132 : decode cX10_entry 132 = .ok (.getfield 225, 3) := by decide +kernel
theorem dX10_entry_135 : decode cX10_entry 135 = .ok (.sipush 882, 3) := by decide +kernel
theorem dX10_entry_138 : decode cX10_entry 138 = .ok (.iload_n 1, 1) := by decide +kernel
theorem dX10_entry_139 : decode cX10_entry 139 = .ok (.imul, 1) := by decide +kernel
theorem dX10_entry_140 : decode cX10_entry 140 = .ok (.iload 9, 2) := by decide +kernel
theorem dX10_entry_142 : decode cX10_entry 142 = .ok (.iadd, 1) := by decide +kernel
theorem dX10_entry_143 : decode cX10_entry 143 = .ok (.laload, 1) := by decide +kernel
theorem dX10_entry_144 : decode cX10_entry 144 = .ok (.goto 18, 3) := by decide +kernel
theorem dX10_entry_147 : decode cX10_entry 147 = .ok (.aload_n 0, 1) := by decide +kernel
theorem dX10_entry_148 : decode cX10_entry 148 = .ok (.getfield 228, 3) := by decide +kernel
theorem dX10_entry_151 : decode cX10_entry 151 = .ok (.sipush 882, 3) := by decide +kernel
theorem dX10_entry_154 : decode cX10_entry 154 = .ok (.iconst (-1), 1) := by decide +kernel
theorem dX10_entry_155 : decode cX10_entry 155 = .ok (.iload_n 1, 1) := by decide +kernel
theorem dX10_entry_156 : decode cX10_entry 156 = .ok (.isub, 1) := by decide +kernel
theorem dX10_entry_157 : decode cX10_entry 157 = .ok (.imul, 1) := by decide +kernel
theorem dX10_entry_158 : decode cX10_entry 158 = .ok (.iload 9, 2) := by decide +kernel
theorem dX10_entry_160 : decode cX10_entry 160 = .ok (.iadd, 1) := by decide +kernel
theorem dX10_entry_161 : decode cX10_entry 161 = .ok (.laload, 1) := by decide +kernel
theorem dX10_entry_162 : decode cX10_entry 162 = .ok (.l2i, 1) := by decide +kernel
theorem dX10_entry_163 : decode cX10_entry 163 = .ok (.ireturn, 1) := by decide +kernel
/-! AlgebraHouseModel.entry(IIIIII)I -/
def P_X10_entry (x1 : Int) (x2 : Int) (x3 : Int) (x4 : Int) (x5 : Int) (x6 : Int) (m : MM) (Q : Int → MM → Prop) : Prop := P_X10_isThere x1 m (fun r1 m1 => (RI r1) ∧ (if r1 = 0 then Q 0 m1 else (RI x6) ∧ (if x6 < 0 then Q 0 m1 else (if x6 ≤ 1 then P_X10_ring x1 2 m1 (fun r2 m2 => P_X10_rows r2 m2 (fun r3 m3 => P_X10_ring x1 1 m3 (fun r4 m4 => (RI x2) ∧ (if x2 < 0 then Q 0 m4 else (RI r3) ∧ (if r3 ≤ x2 then Q 0 m4 else (RI x3) ∧ (if x3 < 0 then Q 0 m4 else (if r3 ≤ x3 then Q 0 m4 else (RI x4) ∧ (if x4 < 0 then Q 0 m4 else ((RI r4)) ∧ (RI (if r4 ≤ 0 then 1 else 7 : Int)) ∧ (if (if r4 ≤ 0 then 1 else 7 : Int) ≤ x4 then Q 0 m4 else (RI x5) ∧ (if x5 < 0 then Q 0 m4 else ((RI r4)) ∧ (RI (if r4 ≤ 1 then 1 else 7 : Int)) ∧ (if x5 < (if r4 ≤ 1 then 1 else 7 : Int) then P_X10_entryAt 0 x2 x3 m4 (fun r5 m5 => (RI x1) ∧ (if x1 < 0 then (0 ≤ ((882 * ((-1) - x1)) + ((r5 + (2 * ((7 * x5) + x4))) + x6)) ∧ ((882 * ((-1) - x1)) + ((r5 + (2 * ((7 * x5) + x4))) + x6)) < 17640) ∧ Q (m5 630 ((882 * ((-1) - x1)) + ((r5 + (2 * ((7 * x5) + x4))) + x6))) m5 else (0 ≤ ((882 * x1) + ((r5 + (2 * ((7 * x5) + x4))) + x6)) ∧ ((882 * x1) + ((r5 + (2 * ((7 * x5) + x4))) + x6)) < 176400) ∧ Q (m5 629 ((882 * x1) + ((r5 + (2 * ((7 * x5) + x4))) + x6))) m5)) else Q 0 m4))))))))))) else Q 0 m1))))
theorem p_X10_entry {f : Nat} {Q : Int → MM → Prop} {T : MM → Prop} (hf : 3 ≤ f) (x1 : Int) (x2 : Int) (x3 : Int) (x4 : Int) (x5 : Int) (x6 : Int) (m : MM) (h : P_X10_entry x1 x2 x3 x4 x5 x6 m Q) : CC f M_X10_entry [vR 582, vI x1, vI x2, vI x3, vI x4, vI x5, vI x6] m Q T := by
  refine CC.of (plainFor_of_name (by decide)) (Nat.le_of_ble_eq_true rfl) (ls := [vR 582, vI x1, vI x2, vI x3, vI x4, vI x5, vI x6, vU, vU, vU]) rfl ?_
  have h : P_X10_isThere x1 m (fun r1 m1 => (RI r1) ∧ (if r1 = 0 then Q 0 m1 else (RI x6) ∧ (if x6 < 0 then Q 0 m1 else (if x6 ≤ 1 then P_X10_ring x1 2 m1 (fun r2 m2 => P_X10_rows r2 m2 (fun r3 m3 => P_X10_ring x1 1 m3 (fun r4 m4 => (RI x2) ∧ (if x2 < 0 then Q 0 m4 else (RI r3) ∧ (if r3 ≤ x2 then Q 0 m4 else (RI x3) ∧ (if x3 < 0 then Q 0 m4 else (if r3 ≤ x3 then Q 0 m4 else (RI x4) ∧ (if x4 < 0 then Q 0 m4 else ((RI r4)) ∧ (RI (if r4 ≤ 0 then 1 else 7 : Int)) ∧ (if (if r4 ≤ 0 then 1 else 7 : Int) ≤ x4 then Q 0 m4 else (RI x5) ∧ (if x5 < 0 then Q 0 m4 else ((RI r4)) ∧ (RI (if r4 ≤ 1 then 1 else 7 : Int)) ∧ (if x5 < (if r4 ≤ 1 then 1 else 7 : Int) then P_X10_entryAt 0 x2 x3 m4 (fun r5 m5 => (RI x1) ∧ (if x1 < 0 then (0 ≤ ((882 * ((-1) - x1)) + ((r5 + (2 * ((7 * x5) + x4))) + x6)) ∧ ((882 * ((-1) - x1)) + ((r5 + (2 * ((7 * x5) + x4))) + x6)) < 17640) ∧ Q (m5 630 ((882 * ((-1) - x1)) + ((r5 + (2 * ((7 * x5) + x4))) + x6))) m5 else (0 ≤ ((882 * x1) + ((r5 + (2 * ((7 * x5) + x4))) + x6)) ∧ ((882 * x1) + ((r5 + (2 * ((7 * x5) + x4))) + x6)) < 176400) ∧ Q (m5 629 ((882 * x1) + ((r5 + (2 * ((7 * x5) + x4))) + x6))) m5)) else Q 0 m4))))))))))) else Q 0 m1)))) := h
  refine b_aload_n dX10_entry_0 rfl ?_
  refine b_iload_n dX10_entry_1 rfl ?_
  refine b_cVi (as := [vI x1]) (st := []) dX10_entry_2 mf_X10_isThere qs216 lk_X10_928 ly_582 rfl (p_X10_isThere (f := 1) (Nat.le_refl _) _ _ h) (by omega) rfl rfl (Nat.le_of_ble_eq_true rfl) (by decide) rfl (fun _ => rfl) (fun r1 m1 h => ?_) (fun _ h => h)
  obtain ⟨g1, h⟩ := h
  refine b_if_eq 19 dX10_entry_5 g1 (by decide) (fun c1 => ?_) (fun c1 => ?_)
  · have h := ifT c1 h
    refine b_iconst dX10_entry_19 ?_
    exact b_iret dX10_entry_20 rfl h
  · have h := ifF c1 h
    refine b_iload dX10_entry_8 rfl ?_
    obtain ⟨g2, h⟩ := h
    refine b_if_lt 19 dX10_entry_10 g2 (by decide) (fun c2 => ?_) (fun c2 => ?_)
    · have h := ifT c2 h
      refine b_iconst dX10_entry_19 ?_
      exact b_iret dX10_entry_20 rfl h
    · have h := ifF c2 h
      refine b_iload dX10_entry_13 rfl ?_
      refine b_iconst dX10_entry_15 ?_
      refine b_icmp_le 21 dX10_entry_16 g2 (by decide) (by decide) (fun c3 => ?_) (fun c3 => ?_)
      · have h := ifT c3 h
        refine b_aload_n dX10_entry_21 rfl ?_
        refine b_iload_n dX10_entry_22 rfl ?_
        refine b_iconst dX10_entry_23 ?_
        refine b_cVi (as := [vI x1, vI 2]) (st := []) dX10_entry_24 mf_X10_ring q2581 lk_X10_931 ly_582 rfl (p_X10_ring (f := 2) (Nat.le_refl _) _ _ _ h) (by omega) rfl rfl (Nat.le_of_ble_eq_true rfl) (by decide) rfl (fun _ => rfl) (fun r2 m2 h => ?_) (fun _ h => h)
        refine b_cSi (as := [vI r2]) (st := []) dX10_entry_27 mf_X10_rows lk_X10_674 (p_X10_rows (f := 1) (Nat.le_refl _) _ _ h) (by omega) rfl rfl (Nat.le_of_ble_eq_true rfl) (by decide) rfl (fun _ => rfl) (fun r3 m3 h => ?_) (fun _ h => h)
        refine b_istore (ls' := [vR 582, vI x1, vI x2, vI x3, vI x4, vI x5, vI x6, vI r3, vU, vU]) dX10_entry_30 (Nat.le_of_ble_eq_true rfl) rfl ?_
        refine b_aload_n dX10_entry_32 rfl ?_
        refine b_iload_n dX10_entry_33 rfl ?_
        refine b_iconst dX10_entry_34 ?_
        refine b_cVi (as := [vI x1, vI 1]) (st := []) dX10_entry_35 mf_X10_ring q2581 lk_X10_931 ly_582 rfl (p_X10_ring (f := 2) (Nat.le_refl _) _ _ _ h) (by omega) rfl rfl (Nat.le_of_ble_eq_true rfl) (by decide) rfl (fun _ => rfl) (fun r4 m4 h => ?_) (fun _ h => h)
        refine b_istore (ls' := [vR 582, vI x1, vI x2, vI x3, vI x4, vI x5, vI x6, vI r3, vI r4, vU]) dX10_entry_38 (Nat.le_of_ble_eq_true rfl) rfl ?_
        refine b_iload_n dX10_entry_40 rfl ?_
        obtain ⟨g3, h⟩ := h
        refine b_if_lt 103 dX10_entry_41 g3 (by decide) (fun c4 => ?_) (fun c4 => ?_)
        · have h := ifT c4 h
          refine b_iconst dX10_entry_103 ?_
          exact b_iret dX10_entry_104 rfl h
        · have h := ifF c4 h
          refine b_iload_n dX10_entry_44 rfl ?_
          refine b_iload dX10_entry_45 rfl ?_
          obtain ⟨g4, h⟩ := h
          refine b_icmp_ge 103 dX10_entry_47 g3 g4 (by decide) (fun c5 => ?_) (fun c5 => ?_)
          · have h := ifT c5 h
            refine b_iconst dX10_entry_103 ?_
            exact b_iret dX10_entry_104 rfl h
          · have h := ifF c5 h
            refine b_iload_n dX10_entry_50 rfl ?_
            obtain ⟨g5, h⟩ := h
            refine b_if_lt 103 dX10_entry_51 g5 (by decide) (fun c6 => ?_) (fun c6 => ?_)
            · have h := ifT c6 h
              refine b_iconst dX10_entry_103 ?_
              exact b_iret dX10_entry_104 rfl h
            · have h := ifF c6 h
              refine b_iload_n dX10_entry_54 rfl ?_
              refine b_iload dX10_entry_55 rfl ?_
              refine b_icmp_ge 103 dX10_entry_57 g5 g4 (by decide) (fun c7 => ?_) (fun c7 => ?_)
              · have h := ifT c7 h
                refine b_iconst dX10_entry_103 ?_
                exact b_iret dX10_entry_104 rfl h
              · have h := ifF c7 h
                refine b_iload dX10_entry_60 rfl ?_
                obtain ⟨g6, h⟩ := h
                refine b_if_lt 103 dX10_entry_62 g6 (by decide) (fun c8 => ?_) (fun c8 => ?_)
                · have h := ifT c8 h
                  refine b_iconst dX10_entry_103 ?_
                  exact b_iret dX10_entry_104 rfl h
                · have h := ifF c8 h
                  refine b_iload dX10_entry_65 rfl ?_
                  refine b_iload dX10_entry_67 rfl ?_
                  obtain ⟨hs, h⟩ := h
                  have K : B f M_X10_entry 78 [vR 582, vI x1, vI x2, vI x3, vI x4, vI x5, vI x6, vI r3, vI r4, vU] [vI (if r4 ≤ 0 then 1 else 7 : Int), vI x4] m4 Q T := by
                    clear hs
                    obtain ⟨g8, h⟩ := h
                    refine b_icmp_ge 103 dX10_entry_78 g6 g8 (by decide) (fun c9 => ?_) (fun c9 => ?_)
                    · have h := ifT c9 h
                      refine b_iconst dX10_entry_103 ?_
                      exact b_iret dX10_entry_104 rfl h
                    · have h := ifF c9 h
                      refine b_iload dX10_entry_81 rfl ?_
                      obtain ⟨g9, h⟩ := h
                      refine b_if_lt 103 dX10_entry_83 g9 (by decide) (fun c10 => ?_) (fun c10 => ?_)
                      · have h := ifT c10 h
                        refine b_iconst dX10_entry_103 ?_
                        exact b_iret dX10_entry_104 rfl h
                      · have h := ifF c10 h
                        refine b_iload dX10_entry_86 rfl ?_
                        refine b_iload dX10_entry_88 rfl ?_
                        refine b_iconst dX10_entry_90 ?_
                        obtain ⟨hs, h⟩ := h
                        have K : B f M_X10_entry 100 [vR 582, vI x1, vI x2, vI x3, vI x4, vI x5, vI x6, vI r3, vI r4, vU] [vI (if r4 ≤ 1 then 1 else 7 : Int), vI x5] m4 Q T := by
                          clear hs
                          obtain ⟨g11, h⟩ := h
                          refine b_icmp_lt 105 dX10_entry_100 g9 g11 (by decide) (fun c11 => ?_) (fun c11 => ?_)
                          · have h := ifT c11 h
                            refine b_iconst dX10_entry_105 ?_
                            refine b_iload_n dX10_entry_106 rfl ?_
                            refine b_iload_n dX10_entry_107 rfl ?_
                            refine b_cSi (as := [vI 0, vI x2, vI x3]) (st := []) dX10_entry_108 mf_X10_entryAt lk_X10_677 (p_X10_entryAt (f := 1) (Nat.le_refl _) _ _ _ _ h) (by omega) rfl rfl (Nat.le_of_ble_eq_true rfl) (by decide) rfl (fun _ => rfl) (fun r5 m5 h => ?_) (fun _ h => h)
                            refine b_iconst dX10_entry_111 ?_
                            refine b_bipush dX10_entry_112 (by decide) ?_
                            refine b_iload dX10_entry_114 rfl ?_
                            refine b_imul dX10_entry_116 ?_
                            refine b_iload dX10_entry_117 rfl ?_
                            refine b_iadd dX10_entry_119 ?_
                            refine b_imul dX10_entry_120 ?_
                            refine b_iadd dX10_entry_121 ?_
                            refine b_iload dX10_entry_122 rfl ?_
                            refine b_iadd dX10_entry_124 ?_
                            refine b_istore (ls' := [vR 582, vI x1, vI x2, vI x3, vI x4, vI x5, vI x6, vI r3, vI r4, vI ((r5 + (2 * ((7 * x5) + x4))) + x6)]) dX10_entry_125 (Nat.le_of_ble_eq_true rfl) rfl ?_
                            refine b_iload_n dX10_entry_127 rfl ?_
                            obtain ⟨g12, h⟩ := h
                            refine b_if_lt 147 dX10_entry_128 g12 (by decide) (fun c12 => ?_) (fun c12 => ?_)
                            · have h := ifT c12 h
                              refine b_aload_n dX10_entry_147 rfl ?_
                              refine b_getR dX10_entry_148 fk_X10_228 ly_582 gg_582_59 ?_
                              refine b_sipush dX10_entry_151 (by decide) ?_
                              refine b_iconst dX10_entry_154 ?_
                              refine b_iload_n dX10_entry_155 rfl ?_
                              refine b_isub dX10_entry_156 ?_
                              refine b_imul dX10_entry_157 ?_
                              refine b_iload dX10_entry_158 rfl ?_
                              refine b_iadd dX10_entry_160 ?_
                              obtain ⟨g13, h⟩ := h
                              refine b_lald dX10_entry_161 ly_630 g13 ?_
                              refine b_l2i dX10_entry_162 ?_
                              exact b_iret dX10_entry_163 rfl h
                            · have h := ifF c12 h
                              refine b_aload_n dX10_entry_131 rfl ?_
                              refine b_getR dX10_entry_132 fk_X10_225 ly_582 gg_582_58 ?_
                              refine b_sipush dX10_entry_135 (by decide) ?_
                              refine b_iload_n dX10_entry_138 rfl ?_
                              refine b_imul dX10_entry_139 ?_
                              refine b_iload dX10_entry_140 rfl ?_
                              refine b_iadd dX10_entry_142 ?_
                              obtain ⟨g14, h⟩ := h
                              refine b_lald dX10_entry_143 ly_629 g14 ?_
                              refine b_goto 162 dX10_entry_144 (by decide) ?_
                              refine b_l2i dX10_entry_162 ?_
                              exact b_iret dX10_entry_163 rfl h
                          · have h := ifF c11 h
                            refine b_iconst dX10_entry_103 ?_
                            exact b_iret dX10_entry_104 rfl h
                        have g10 := hs
                        refine b_icmp_le 99 dX10_entry_91 g10 (by decide) (by decide) (fun c13 => ?_) (fun c13 => ?_)
                        ·
                          refine b_iconst dX10_entry_99 ?_
                          exact Eq.mp (congrArg (fun z => B f M_X10_entry 100 [vR 582, vI x1, vI x2, vI x3, vI x4, vI x5, vI x6, vI r3, vI r4, vU] (vI z :: [vI x5]) m4 Q T) (show (if r4 ≤ 1 then 1 else 7 : Int) = 1 by rw [if_pos c13])) K
                        ·
                          refine b_bipush dX10_entry_94 (by decide) ?_
                          refine b_goto 100 dX10_entry_96 (by decide) ?_
                          exact Eq.mp (congrArg (fun z => B f M_X10_entry 100 [vR 582, vI x1, vI x2, vI x3, vI x4, vI x5, vI x6, vI r3, vI r4, vU] (vI z :: [vI x5]) m4 Q T) (show (if r4 ≤ 1 then 1 else 7 : Int) = 7 by rw [if_neg c13])) K
                  have g7 := hs
                  refine b_if_le 77 dX10_entry_69 g7 (by decide) (fun c14 => ?_) (fun c14 => ?_)
                  ·
                    refine b_iconst dX10_entry_77 ?_
                    exact Eq.mp (congrArg (fun z => B f M_X10_entry 78 [vR 582, vI x1, vI x2, vI x3, vI x4, vI x5, vI x6, vI r3, vI r4, vU] (vI z :: [vI x4]) m4 Q T) (show (if r4 ≤ 0 then 1 else 7 : Int) = 1 by rw [if_pos c14])) K
                  ·
                    refine b_bipush dX10_entry_72 (by decide) ?_
                    refine b_goto 78 dX10_entry_74 (by decide) ?_
                    exact Eq.mp (congrArg (fun z => B f M_X10_entry 78 [vR 582, vI x1, vI x2, vI x3, vI x4, vI x5, vI x6, vI r3, vI r4, vU] (vI z :: [vI x4]) m4 Q T) (show (if r4 ≤ 0 then 1 else 7 : Int) = 7 by rw [if_neg c14])) K
      · have h := ifF c3 h
        refine b_iconst dX10_entry_19 ?_
        exact b_iret dX10_entry_20 rfl h
theorem dX10_valueAt_0 : decode cX10_valueAt 0 = .ok (.sipush 882, 3) := by decide +kernel
theorem dX10_valueAt_3 : decode cX10_valueAt 3 = .ok (.iload_n 0, 1) := by decide +kernel
theorem dX10_valueAt_4 : decode cX10_valueAt 4 = .ok (.imul, 1) := by decide +kernel
theorem dX10_valueAt_5 : decode cX10_valueAt 5 = .ok (.ireturn, 1) := by decide +kernel
/-! AlgebraHouseModel.valueAt(I)I -/
def P_X10_valueAt (x0 : Int) (m : MM) (Q : Int → MM → Prop) : Prop := Q (882 * x0) m
theorem p_X10_valueAt {f : Nat} {Q : Int → MM → Prop} {T : MM → Prop} (hf : 1 ≤ f) (x0 : Int) (m : MM) (h : P_X10_valueAt x0 m Q) : CC f M_X10_valueAt [vI x0] m Q T := by
  refine CC.of (plainFor_of_name (by decide)) (Nat.le_of_ble_eq_true rfl) (ls := [vI x0]) rfl ?_
  have h : Q (882 * x0) m := h
  refine b_sipush dX10_valueAt_0 (by decide) ?_
  refine b_iload_n dX10_valueAt_3 rfl ?_
  refine b_imul dX10_valueAt_4 ?_
  exact b_iret dX10_valueAt_5 rfl h
theorem dX10_goLatest_0 : decode cX10_goLatest 0 = .ok (.aload_n 0, 1) := by decide +kernel
theorem dX10_goLatest_1 : decode cX10_goLatest 1 = .ok (.aload_n 0, 1) := by decide +kernel
theorem dX10_goLatest_2 : decode cX10_goLatest 2 = .ok (.getfield 718, 3) := by decide +kernel
theorem dX10_goLatest_5 : decode cX10_goLatest 5 = .ok (.iconst 1, 1) := by decide +kernel
theorem dX10_goLatest_6 : decode cX10_goLatest 6 = .ok (.isub, 1) := by decide +kernel
theorem dX10_goLatest_7 : decode cX10_goLatest 7 = .ok (.invokestatic 721, 3) := by decide +kernel
theorem dX10_goLatest_10 : decode cX10_goLatest 10 = .ok (.aload_n 0, 1) := by decide +kernel
theorem dX10_goLatest_11 : decode cX10_goLatest 11 = .ok (.getfield 130, 3) := by decide +kernel
theorem dX10_goLatest_14 : decode cX10_goLatest 14 = .ok (.iload_n 1, 1) := by decide +kernel
theorem dX10_goLatest_15 : decode cX10_goLatest 15 = .ok (.iaload, 1) := by decide +kernel
theorem dX10_goLatest_16 : decode cX10_goLatest 16 = .ok (.aload_n 0, 1) := by decide +kernel
theorem dX10_goLatest_17 : decode cX10_goLatest 17 = .ok (.getfield 133, 3) := by decide +kernel
theorem dX10_goLatest_20 : decode cX10_goLatest 20 = .ok (.iload_n 1, 1) := by decide +kernel
theorem dX10_goLatest_21 : decode cX10_goLatest 21 = .ok (.iaload, 1) := by decide +kernel
theorem dX10_goLatest_22 : decode cX10_goLatest 22 = .ok (.aload_n 0, 1) := by decide +kernel
theorem dX10_goLatest_23 : decode cX10_goLatest 23 = .ok (.getfield 136, 3) := by decide +kernel
theorem dX10_goLatest_26 : decode cX10_goLatest 26 = .ok (.iload_n 1, 1) := by decide +kernel
theorem dX10_goLatest_27 : decode cX10_goLatest 27 = .ok (.iaload, 1) := by decide +kernel
theorem dX10_goLatest_28 : decode cX10_goLatest 28 = .ok (.iload_n 2, 1) := by decide +kernel
theorem dX10_goLatest_29 : decode cX10_goLatest 29 = .ok (.iload_n 3, 1) := by decide +kernel
theorem dX10_goLatest_30 : decode cX10_goLatest 30 = .ok (.iload 4, 2) := by decide +kernel
theorem dX10_goLatest_32 : decode cX10_goLatest 32 = .ok (.invokevirtual 724, 3) := by decide +kernel
theorem dX10_goLatest_35 : decode cX10_goLatest 35 = .ok (.return_, 1) := by decide +kernel
/-! AlgebraHouseModel.goLatest(IIII)V -/
def P_X10_goLatest (x1 : Int) (x2 : Int) (x3 : Int) (x4 : Int) (m : MM) (Q : Int → MM → Prop) : Prop := P_X10_valueAt ((m 582 86) - 1) m (fun r1 m1 => (0 ≤ x1 ∧ x1 < 12000) ∧ P_X10_go r1 (m1 598 x1) (m1 599 x1) (m1 600 x1) x2 x3 x4 m1 (fun r2 m2 => Q 0 m2))
theorem p_X10_goLatest {f : Nat} {Q : Int → MM → Prop} {T : MM → Prop} (hf : 3 ≤ f) (x1 : Int) (x2 : Int) (x3 : Int) (x4 : Int) (m : MM) (h : P_X10_goLatest x1 x2 x3 x4 m Q) : CC f M_X10_goLatest [vR 582, vI x1, vI x2, vI x3, vI x4] m Q T := by
  refine CC.of (plainFor_of_name (by decide)) (Nat.le_of_ble_eq_true rfl) (ls := [vR 582, vI x1, vI x2, vI x3, vI x4]) rfl ?_
  have h : P_X10_valueAt ((m 582 86) - 1) m (fun r1 m1 => (0 ≤ x1 ∧ x1 < 12000) ∧ P_X10_go r1 (m1 598 x1) (m1 599 x1) (m1 600 x1) x2 x3 x4 m1 (fun r2 m2 => Q 0 m2)) := h
  refine b_aload_n dX10_goLatest_0 rfl ?_
  refine b_aload_n dX10_goLatest_1 rfl ?_
  refine b_getI dX10_goLatest_2 fk_X10_718 ly_582 ?_
  refine b_iconst dX10_goLatest_5 ?_
  refine b_isub dX10_goLatest_6 ?_
  refine b_cSi (as := [vI ((m 582 86) - 1)]) (st := [vR 582]) dX10_goLatest_7 mf_X10_valueAt lk_X10_721 (p_X10_valueAt (f := 1) (Nat.le_refl _) _ _ h) (by omega) rfl rfl (Nat.le_of_ble_eq_true rfl) (by decide) rfl (fun _ => rfl) (fun r1 m1 h => ?_) (fun _ h => h)
  refine b_aload_n dX10_goLatest_10 rfl ?_
  refine b_getR dX10_goLatest_11 fk_X10_130 ly_582 gg_582_24 ?_
  refine b_iload_n dX10_goLatest_14 rfl ?_
  obtain ⟨g1, h⟩ := h
  refine b_iald dX10_goLatest_15 ly_598 g1 ?_
  refine b_aload_n dX10_goLatest_16 rfl ?_
  refine b_getR dX10_goLatest_17 fk_X10_133 ly_582 gg_582_25 ?_
  refine b_iload_n dX10_goLatest_20 rfl ?_
  refine b_iald dX10_goLatest_21 ly_599 g1 ?_
  refine b_aload_n dX10_goLatest_22 rfl ?_
  refine b_getR dX10_goLatest_23 fk_X10_136 ly_582 gg_582_26 ?_
  refine b_iload_n dX10_goLatest_26 rfl ?_
  refine b_iald dX10_goLatest_27 ly_600 g1 ?_
  refine b_iload_n dX10_goLatest_28 rfl ?_
  refine b_iload_n dX10_goLatest_29 rfl ?_
  refine b_iload dX10_goLatest_30 rfl ?_
  refine b_cVv (as := [vI r1, vI (m1 598 x1), vI (m1 599 x1), vI (m1 600 x1), vI x2, vI x3, vI x4]) (st := []) dX10_goLatest_32 mf_X10_go qs181 lk_X10_724 ly_582 rfl (p_X10_go (f := 2) (Nat.le_refl _) _ _ _ _ _ _ _ _ h) (by omega) rfl rfl (Nat.le_of_ble_eq_true rfl) (by decide) rfl (fun _ => rfl) (fun r2 m2 h => ?_) (fun _ h => h)
  exact b_vret dX10_goLatest_35 rfl h
theorem dX10_evalEntry_0 : decode cX10_evalEntry 0 = .ok (.aload_n 0, 1) := by decide +kernel
theorem dX10_evalEntry_1 : decode cX10_evalEntry 1 = .ok (.aload_n 0, 1) := by decide +kernel
theorem dX10_evalEntry_2 : decode cX10_evalEntry 2 = .ok (.getfield 109, 3) := by decide +kernel
theorem dX10_evalEntry_5 : decode cX10_evalEntry 5 = .ok (.iload_n 3, 1) := by decide +kernel
theorem dX10_evalEntry_6 : decode cX10_evalEntry 6 = .ok (.iaload, 1) := by decide +kernel
theorem dX10_evalEntry_7 : decode cX10_evalEntry 7 = .ok (.aload_n 0, 1) := by decide +kernel
theorem dX10_evalEntry_8 : decode cX10_evalEntry 8 = .ok (.getfield 130, 3) := by decide +kernel
theorem dX10_evalEntry_11 : decode cX10_evalEntry 11 = .ok (.iload_n 1, 1) := by decide +kernel
theorem dX10_evalEntry_12 : decode cX10_evalEntry 12 = .ok (.iaload, 1) := by decide +kernel
theorem dX10_evalEntry_13 : decode cX10_evalEntry 13 = .ok (.aload_n 0, 1) := by decide +kernel
theorem dX10_evalEntry_14 : decode cX10_evalEntry 14 = .ok (.getfield 133, 3) := by decide +kernel
theorem dX10_evalEntry_17 : decode cX10_evalEntry 17 = .ok (.iload_n 1, 1) := by decide +kernel
theorem dX10_evalEntry_18 : decode cX10_evalEntry 18 = .ok (.iaload, 1) := by decide +kernel
theorem dX10_evalEntry_19 : decode cX10_evalEntry 19 = .ok (.iconst 0, 1) := by decide +kernel
theorem dX10_evalEntry_20 : decode cX10_evalEntry 20 = .ok (.invokevirtual 747, 3) := by decide +kernel
theorem dX10_evalEntry_23 : decode cX10_evalEntry 23 = .ok (.aload_n 0, 1) := by decide +kernel
theorem dX10_evalEntry_24 : decode cX10_evalEntry 24 = .ok (.getfield 601, 3) := by decide +kernel
theorem dX10_evalEntry_27 : decode cX10_evalEntry 27 = .ok (.ifCond .le 4, 3) := by decide +kernel
theorem dX10_evalEntry_30 : decode cX10_evalEntry 30 = .ok (.return_, 1) := by decide +kernel
theorem dX10_evalEntry_31 : decode cX10_evalEntry 31 = .ok (.aload_n 0, 1) := by decide +kernel
theorem dX10_evalEntry_32 : decode cX10_evalEntry 32 = .ok (.dup, 1) := by decide +kernel
theorem dX10_evalEntry_33 : decode cX10_evalEntry 33 = .ok (.getfield 718, 3) := by decide +kernel
theorem dX10_evalEntry_36 : decode cX10_evalEntry 36 = .ok (.iconst 1, 1) := by decide +kernel
theorem dX10_evalEntry_37 : decode cX10_evalEntry 37 = .ok (.isub, 1) := by decide +kernel
theorem dX10_evalEntry_38 : decode cX10_evalEntry 38 = .ok (.putfield 718, 3) := by decide +kernel
theorem dX10_evalEntry_41 : decode cX10_evalEntry 41 = .ok (.aload_n 0, 1) := by decide +kernel
theorem dX10_evalEntry_42 : decode cX10_evalEntry 42 = .ok (.aload_n 0, 1) := by decide +kernel
theorem dX10_evalEntry_43 : decode cX10_evalEntry 43 = .ok (.getfield 718, 3) := by decide +kernel
theorem dX10_evalEntry_46 : decode cX10_evalEntry 46 = .ok (.iconst 1, 1) := by decide +kernel
theorem dX10_evalEntry_47 : decode cX10_evalEntry 47 = .ok (.isub, 1) := by decide +kernel
theorem dX10_evalEntry_48 : decode cX10_evalEntry 48 = .ok (.invokestatic 721, 3) := by decide +kernel
theorem dX10_evalEntry_51 : decode cX10_evalEntry 51 = .ok (.iload 4, 2) := by decide +kernel
theorem dX10_evalEntry_53 : decode cX10_evalEntry 53 = .ok (.iconst 3, 1) := by decide +kernel
theorem dX10_evalEntry_54 : decode cX10_evalEntry 54 = .ok (.idiv, 1) := by decide +kernel
theorem dX10_evalEntry_55 : decode cX10_evalEntry 55 = .ok (.iload 4, 2) := by decide +kernel
theorem dX10_evalEntry_57 : decode cX10_evalEntry 57 = .ok (.iconst 3, 1) := by decide +kernel
theorem dX10_evalEntry_58 : decode cX10_evalEntry 58 = .ok (.irem, 1) := by decide +kernel
theorem dX10_evalEntry_59 : decode cX10_evalEntry 59 = .ok (.invokestatic 677, 3) := by decide +kernel
theorem dX10_evalEntry_62 : decode cX10_evalEntry 62 = .ok (.aload_n 0, 1) := by decide +kernel
theorem dX10_evalEntry_63 : decode cX10_evalEntry 63 = .ok (.getfield 718, 3) := by decide +kernel
theorem dX10_evalEntry_66 : decode cX10_evalEntry 66 = .ok (.invokestatic 721, 3) := by decide +kernel
theorem dX10_evalEntry_69 : decode cX10_evalEntry 69 = .ok (.bipush 98, 2) := by decide +kernel
theorem dX10_evalEntry_71 : decode cX10_evalEntry 71 = .ok (.invokevirtual 658, 3) := by decide +kernel
theorem dX10_evalEntry_74 : decode cX10_evalEntry 74 = .ok (.aload_n 0, 1) := by decide +kernel
theorem dX10_evalEntry_75 : decode cX10_evalEntry 75 = .ok (.getfield 118, 3) := by decide +kernel
theorem dX10_evalEntry_78 : decode cX10_evalEntry 78 = .ok (.iload_n 3, 1) := by decide +kernel
theorem dX10_evalEntry_79 : decode cX10_evalEntry 79 = .ok (.iaload, 1) := by decide +kernel
theorem dX10_evalEntry_80 : decode cX10_evalEntry 80 = .ok (.ifCond .lt 7, 3) := by decide +kernel
theorem dX10_evalEntry_83 : decode cX10_evalEntry 83 = .ok (.iload_n 2, 1) := by decide +kernel
theorem dX10_evalEntry_84 : decode cX10_evalEntry 84 = .ok (.goto 9, 3) := by decide +kernel
theorem dX10_evalEntry_87 : decode cX10_evalEntry 87 = .ok (.aload_n 0, 1) := by decide +kernel
theorem dX10_evalEntry_88 : decode cX10_evalEntry 88 = .ok (.getfield 118, 3) := by decide +kernel
theorem dX10_evalEntry_91 : decode cX10_evalEntry 91 = .ok (.iload_n 2, 1) := by decide +kernel
theorem dX10_evalEntry_92 : decode cX10_evalEntry 92 = .ok (.iaload, 1) := by decide +kernel
theorem dX10_evalEntry_93 : decode cX10_evalEntry 93 = .ok (.istore 5, 2) := by decide +kernel
theorem dX10_evalEntry_95 : decode cX10_evalEntry 95 = .ok (.iload 5, 2) := by decide +kernel
theorem dX10_evalEntry_97 : decode cX10_evalEntry 97 = .ok (.ifCond .ge 4, 3) := by decide +kernel
theorem dX10_evalEntry_100 : decode cX10_evalEntry 100 = .ok (.return_, 1) := by decide +kernel
theorem dX10_evalEntry_101 : decode cX10_evalEntry 101 = .ok (.iload 5, 2) := by decide +kernel
theorem dX10_evalEntry_103 : decode cX10_evalEntry 103 = .ok (.iload_n 2, 1) := by decide +kernel
theorem dX10_evalEntry_104 : decode cX10_evalEntry 104 = .ok (.if_icmp .ne 12, 3) := by decide +kernel
theorem dX10_evalEntry_107 : decode cX10_evalEntry 107 = .ok (.aload_n 0, 1) := by decide +kernel
theorem dX10_evalEntry_108 : decode cX10_evalEntry 108 = .ok (.getfield 118, 3) := by decide +kernel
theorem dX10_evalEntry_111 : decode cX10_evalEntry 111 = .ok (.iload_n 3, 1) := by decide +kernel
theorem dX10_evalEntry_112 : decode cX10_evalEntry 112 = .ok (.iaload, 1) := by decide +kernel
theorem dX10_evalEntry_113 : decode cX10_evalEntry 113 = .ok (.goto 10, 3) := by decide +kernel
theorem dX10_evalEntry_116 : decode cX10_evalEntry 116 = .ok (.aload_n 0, 1) := by decide +kernel
theorem dX10_evalEntry_117 : decode cX10_evalEntry 117 = .ok (.getfield 109, 3) := by decide +kernel
theorem dX10_evalEntry_120 : decode cX10_evalEntry 120 = .ok (.iload 5, 2) := by decide +kernel
theorem dX10_evalEntry_122 : decode cX10_evalEntry 122 = .ok (.iaload, 1) := by decide +kernel
theorem dX10_evalEntry_123 : decode cX10_evalEntry 123 = .ok (.istore 6, 2) := by decide +kernel
theorem dX10_evalEntry_125 : decode cX10_evalEntry 125 = .ok (.aload_n 0, 1) := by decide +kernel
theorem dX10_evalEntry_126 : decode cX10_evalEntry 126 = .ok (.bipush 7, 2) := by decide +kernel
theorem dX10_evalEntry_128 : decode cX10_evalEntry 128 = .ok (.iload_n 1, 1) := by decide +kernel
theorem dX10_evalEntry_129 : decode cX10_evalEntry 129 = .ok (.iload 5, 2) := by decide +kernel
theorem dX10_evalEntry_131 : decode cX10_evalEntry 131 = .ok (.iload 6, 2) := by decide +kernel
theorem dX10_evalEntry_133 : decode cX10_evalEntry 133 = .ok (.iload 5, 2) := by decide +kernel
theorem dX10_evalEntry_135 : decode cX10_evalEntry 135 = .ok (.iload_n 2, 1) := by decide +kernel
theorem dX10_evalEntry_136 : decode cX10_evalEntry 136 = .ok (.if_icmp .ne 10, 3) := by decide +kernel
theorem dX10_evalEntry_139 : decode cX10_evalEntry 139 = .ok (.iload 4, 2) := by decide +kernel
theorem dX10_evalEntry_141 : decode cX10_evalEntry 141 = .ok (.iconst 1, 1) := by decide +kernel
theorem dX10_evalEntry_142 : decode cX10_evalEntry 142 = .ok (.iadd, 1) := by decide +kernel
theorem dX10_evalEntry_143 : decode cX10_evalEntry 143 = .ok (.goto 11, 3) := by decide +kernel
theorem dX10_evalEntry_146 : decode cX10_evalEntry 146 = .ok (.iload 4, 2) := by decide +kernel
theorem dX10_evalEntry_148 : decode cX10_evalEntry 148 = .ok (.iconst 3, 1) := by decide +kernel
theorem dX10_evalEntry_149 : decode cX10_evalEntry 149 = .ok (.idiv, 1) := by decide +kernel
theorem dX10_evalEntry_150 : decode cX10_evalEntry 150 = .ok (.iconst 3, 1) := by decide +kernel
theorem dX10_evalEntry_151 : decode cX10_evalEntry 151 = .ok (.imul, 1) := by decide +kernel
theorem dX10_evalEntry_152 : decode cX10_evalEntry 152 = .ok (.iconst 3, 1) := by decide +kernel
theorem dX10_evalEntry_153 : decode cX10_evalEntry 153 = .ok (.iadd, 1) := by decide +kernel
theorem dX10_evalEntry_154 : decode cX10_evalEntry 154 = .ok (.invokevirtual 730, 3) := by decide +kernel
theorem dX10_evalEntry_157 : decode cX10_evalEntry 157 = .ok (.aload_n 0, 1) := by decide +kernel
theorem dX10_evalEntry_158 : decode cX10_evalEntry 158 = .ok (.aload_n 0, 1) := by decide +kernel
theorem dX10_evalEntry_159 : decode cX10_evalEntry 159 = .ok (.getfield 109, 3) := by decide +kernel
theorem dX10_evalEntry_162 : decode cX10_evalEntry 162 = .ok (.iload 6, 2) := by decide +kernel
theorem dX10_evalEntry_164 : decode cX10_evalEntry 164 = .ok (.iaload, 1) := by decide +kernel
theorem dX10_evalEntry_165 : decode cX10_evalEntry 165 = .ok (.invokevirtual 733, 3) := by decide +kernel
theorem dX10_evalEntry_168 : decode cX10_evalEntry 168 = .ok (.return_, 1) := by decide +kernel
/-! AlgebraHouseModel.evalEntry(IIII)V -/
def P_X10_evalEntry (x1 : Int) (x2 : Int) (x3 : Int) (x4 : Int) (m : MM) (Q : Int → MM → Prop) : Prop := (0 ≤ x3 ∧ x3 < 12000) ∧ (0 ≤ x1 ∧ x1 < 12000) ∧ P_X10_goLatest (m 591 x3) (m 598 x1) (m 599 x1) 0 m (fun r1 m1 => (RI (m1 582 84)) ∧ (if (m1 582 84) ≤ 0 then ∀ m2 : MM, m2 = up m1 582 86 ((m1 582 86) - 1) → P_X10_valueAt ((m2 582 86) - 1) m2 (fun r2 m3 => (RI x4) ∧ P_X10_entryAt r2 (Int.tdiv x4 3) (Int.tmod x4 3) m3 (fun r3 m4 => P_X10_valueAt (m4 582 86) m4 (fun r4 m5 => P_X10_copy r3 r4 98 m5 (fun r5 m6 => ((RI (m6 594 x3)) ∧ (if (m6 594 x3) < 0 then ((0 ≤ x2 ∧ x2 < 12000)) else True)) ∧ (RI (if (m6 594 x3) < 0 then (m6 594 x2) else x2 : Int)) ∧ (if 0 ≤ (if (m6 594 x3) < 0 then (m6 594 x2) else x2 : Int) then ((RI x2) ∧ (if (if (m6 594 x3) < 0 then (m6 594 x2) else x2 : Int) = x2 then True else ((0 ≤ (if (m6 594 x3) < 0 then (m6 594 x2) else x2 : Int) ∧ (if (m6 594 x3) < 0 then (m6 594 x2) else x2 : Int) < 12000)))) ∧ ((RI x2)) ∧ P_X10_later_2 7 x1 (if (m6 594 x3) < 0 then (m6 594 x2) else x2 : Int) (if (if (m6 594 x3) < 0 then (m6 594 x2) else x2 : Int) = x2 then (m6 594 x3) else (m6 591 (if (m6 594 x3) < 0 then (m6 594 x2) else x2 : Int)) : Int) (if (if (m6 594 x3) < 0 then (m6 594 x2) else x2 : Int) = x2 then (x4 + 1) else (((Int.tdiv x4 3) * 3) + 3) : Int) m6 (fun r6 m7 => (0 ≤ (if (if (m6 594 x3) < 0 then (m6 594 x2) else x2 : Int) = x2 then (m6 594 x3) else (m6 591 (if (m6 594 x3) < 0 then (m6 594 x2) else x2 : Int)) : Int) ∧ (if (if (m6 594 x3) < 0 then (m6 594 x2) else x2 : Int) = x2 then (m6 594 x3) else (m6 591 (if (m6 594 x3) < 0 then (m6 594 x2) else x2 : Int)) : Int) < 12000) ∧ P_X10_later (m7 591 (if (if (m6 594 x3) < 0 then (m6 594 x2) else x2 : Int) = x2 then (m6 594 x3) else (m6 591 (if (m6 594 x3) < 0 then (m6 594 x2) else x2 : Int)) : Int)) m7 (fun r7 m8 => Q 0 m8)) else Q 0 m6))))) else Q 0 m1))
theorem p_X10_evalEntry {f : Nat} {Q : Int → MM → Prop} {T : MM → Prop} (hf : 4 ≤ f) (x1 : Int) (x2 : Int) (x3 : Int) (x4 : Int) (m : MM) (h : P_X10_evalEntry x1 x2 x3 x4 m Q) : CC f M_X10_evalEntry [vR 582, vI x1, vI x2, vI x3, vI x4] m Q T := by
  refine CC.of (plainFor_of_name (by decide)) (Nat.le_of_ble_eq_true rfl) (ls := [vR 582, vI x1, vI x2, vI x3, vI x4, vU, vU]) rfl ?_
  have h : (0 ≤ x3 ∧ x3 < 12000) ∧ (0 ≤ x1 ∧ x1 < 12000) ∧ P_X10_goLatest (m 591 x3) (m 598 x1) (m 599 x1) 0 m (fun r1 m1 => (RI (m1 582 84)) ∧ (if (m1 582 84) ≤ 0 then ∀ m2 : MM, m2 = up m1 582 86 ((m1 582 86) - 1) → P_X10_valueAt ((m2 582 86) - 1) m2 (fun r2 m3 => (RI x4) ∧ P_X10_entryAt r2 (Int.tdiv x4 3) (Int.tmod x4 3) m3 (fun r3 m4 => P_X10_valueAt (m4 582 86) m4 (fun r4 m5 => P_X10_copy r3 r4 98 m5 (fun r5 m6 => ((RI (m6 594 x3)) ∧ (if (m6 594 x3) < 0 then ((0 ≤ x2 ∧ x2 < 12000)) else True)) ∧ (RI (if (m6 594 x3) < 0 then (m6 594 x2) else x2 : Int)) ∧ (if 0 ≤ (if (m6 594 x3) < 0 then (m6 594 x2) else x2 : Int) then ((RI x2) ∧ (if (if (m6 594 x3) < 0 then (m6 594 x2) else x2 : Int) = x2 then True else ((0 ≤ (if (m6 594 x3) < 0 then (m6 594 x2) else x2 : Int) ∧ (if (m6 594 x3) < 0 then (m6 594 x2) else x2 : Int) < 12000)))) ∧ ((RI x2)) ∧ P_X10_later_2 7 x1 (if (m6 594 x3) < 0 then (m6 594 x2) else x2 : Int) (if (if (m6 594 x3) < 0 then (m6 594 x2) else x2 : Int) = x2 then (m6 594 x3) else (m6 591 (if (m6 594 x3) < 0 then (m6 594 x2) else x2 : Int)) : Int) (if (if (m6 594 x3) < 0 then (m6 594 x2) else x2 : Int) = x2 then (x4 + 1) else (((Int.tdiv x4 3) * 3) + 3) : Int) m6 (fun r6 m7 => (0 ≤ (if (if (m6 594 x3) < 0 then (m6 594 x2) else x2 : Int) = x2 then (m6 594 x3) else (m6 591 (if (m6 594 x3) < 0 then (m6 594 x2) else x2 : Int)) : Int) ∧ (if (if (m6 594 x3) < 0 then (m6 594 x2) else x2 : Int) = x2 then (m6 594 x3) else (m6 591 (if (m6 594 x3) < 0 then (m6 594 x2) else x2 : Int)) : Int) < 12000) ∧ P_X10_later (m7 591 (if (if (m6 594 x3) < 0 then (m6 594 x2) else x2 : Int) = x2 then (m6 594 x3) else (m6 591 (if (m6 594 x3) < 0 then (m6 594 x2) else x2 : Int)) : Int)) m7 (fun r7 m8 => Q 0 m8)) else Q 0 m6))))) else Q 0 m1)) := h
  refine b_aload_n dX10_evalEntry_0 rfl ?_
  refine b_aload_n dX10_evalEntry_1 rfl ?_
  refine b_getR dX10_evalEntry_2 fk_X10_109 ly_582 gg_582_17 ?_
  refine b_iload_n dX10_evalEntry_5 rfl ?_
  obtain ⟨g1, h⟩ := h
  refine b_iald dX10_evalEntry_6 ly_591 g1 ?_
  refine b_aload_n dX10_evalEntry_7 rfl ?_
  refine b_getR dX10_evalEntry_8 fk_X10_130 ly_582 gg_582_24 ?_
  refine b_iload_n dX10_evalEntry_11 rfl ?_
  obtain ⟨g2, h⟩ := h
  refine b_iald dX10_evalEntry_12 ly_598 g2 ?_
  refine b_aload_n dX10_evalEntry_13 rfl ?_
  refine b_getR dX10_evalEntry_14 fk_X10_133 ly_582 gg_582_25 ?_
  refine b_iload_n dX10_evalEntry_17 rfl ?_
  refine b_iald dX10_evalEntry_18 ly_599 g2 ?_
  refine b_iconst dX10_evalEntry_19 ?_
  refine b_cVv (as := [vI (m 591 x3), vI (m 598 x1), vI (m 599 x1), vI 0]) (st := []) dX10_evalEntry_20 mf_X10_goLatest qs180 lk_X10_747 ly_582 rfl (p_X10_goLatest (f := 3) (Nat.le_refl _) _ _ _ _ _ h) (by omega) rfl rfl (Nat.le_of_ble_eq_true rfl) (by decide) rfl (fun _ => rfl) (fun r1 m1 h => ?_) (fun _ h => h)
  refine b_aload_n dX10_evalEntry_23 rfl ?_
  refine b_getI dX10_evalEntry_24 fk_X10_601 ly_582 ?_
  obtain ⟨g3, h⟩ := h
  refine b_if_le 31 dX10_evalEntry_27 g3 (by decide) (fun c1 => ?_) (fun c1 => ?_)
  · have h := ifT c1 h
    refine b_aload_n dX10_evalEntry_31 rfl ?_
    refine b_dup dX10_evalEntry_32 rfl ?_
    refine b_getI dX10_evalEntry_33 fk_X10_718 ly_582 ?_
    refine b_iconst dX10_evalEntry_36 ?_
    refine b_isub dX10_evalEntry_37 ?_
    refine b_putI dX10_evalEntry_38 fk_X10_718 ly_582 (fun m2 em2 => ?_)
    have h := h m2 em2
    refine b_aload_n dX10_evalEntry_41 rfl ?_
    refine b_aload_n dX10_evalEntry_42 rfl ?_
    refine b_getI dX10_evalEntry_43 fk_X10_718 ly_582 ?_
    refine b_iconst dX10_evalEntry_46 ?_
    refine b_isub dX10_evalEntry_47 ?_
    refine b_cSi (as := [vI ((m2 582 86) - 1)]) (st := [vR 582]) dX10_evalEntry_48 mf_X10_valueAt lk_X10_721 (p_X10_valueAt (f := 1) (Nat.le_refl _) _ _ h) (by omega) rfl rfl (Nat.le_of_ble_eq_true rfl) (by decide) rfl (fun _ => rfl) (fun r2 m3 h => ?_) (fun _ h => h)
    refine b_iload dX10_evalEntry_51 rfl ?_
    refine b_iconst dX10_evalEntry_53 ?_
    obtain ⟨g4, h⟩ := h
    refine b_idiv dX10_evalEntry_54 g4 (by decide) (by decide) ?_
    refine b_iload dX10_evalEntry_55 rfl ?_
    refine b_iconst dX10_evalEntry_57 ?_
    refine b_irem dX10_evalEntry_58 g4 (by decide) (by decide) ?_
    refine b_cSi (as := [vI r2, vI (Int.tdiv x4 3), vI (Int.tmod x4 3)]) (st := [vR 582]) dX10_evalEntry_59 mf_X10_entryAt lk_X10_677 (p_X10_entryAt (f := 1) (Nat.le_refl _) _ _ _ _ h) (by omega) rfl rfl (Nat.le_of_ble_eq_true rfl) (by decide) rfl (fun _ => rfl) (fun r3 m4 h => ?_) (fun _ h => h)
    refine b_aload_n dX10_evalEntry_62 rfl ?_
    refine b_getI dX10_evalEntry_63 fk_X10_718 ly_582 ?_
    refine b_cSi (as := [vI (m4 582 86)]) (st := [vI r3, vR 582]) dX10_evalEntry_66 mf_X10_valueAt lk_X10_721 (p_X10_valueAt (f := 1) (Nat.le_refl _) _ _ h) (by omega) rfl rfl (Nat.le_of_ble_eq_true rfl) (by decide) rfl (fun _ => rfl) (fun r4 m5 h => ?_) (fun _ h => h)
    refine b_bipush dX10_evalEntry_69 (by decide) ?_
    refine b_cVv (as := [vI r3, vI r4, vI 98]) (st := []) dX10_evalEntry_71 mf_X10_copy qs164 lk_X10_658 ly_582 rfl (p_X10_copy (f := 1) (Nat.le_refl _) _ _ _ _ h) (by omega) rfl rfl (Nat.le_of_ble_eq_true rfl) (by decide) rfl (fun _ => rfl) (fun r5 m6 h => ?_) (fun _ h => h)
    refine b_aload_n dX10_evalEntry_74 rfl ?_
    refine b_getR dX10_evalEntry_75 fk_X10_118 ly_582 gg_582_20 ?_
    refine b_iload_n dX10_evalEntry_78 rfl ?_
    refine b_iald dX10_evalEntry_79 ly_594 g1 ?_
    obtain ⟨hs, h⟩ := h
    have K : B f M_X10_evalEntry 93 [vR 582, vI x1, vI x2, vI x3, vI x4, vU, vU] [vI (if (m6 594 x3) < 0 then (m6 594 x2) else x2 : Int)] m6 Q T := by
      clear hs
      refine b_istore (ls' := [vR 582, vI x1, vI x2, vI x3, vI x4, vI (if (m6 594 x3) < 0 then (m6 594 x2) else x2 : Int), vU]) dX10_evalEntry_93 (Nat.le_of_ble_eq_true rfl) rfl ?_
      refine b_iload dX10_evalEntry_95 rfl ?_
      obtain ⟨g7, h⟩ := h
      refine b_if_ge 101 dX10_evalEntry_97 g7 (by decide) (fun c2 => ?_) (fun c2 => ?_)
      · have h := ifT c2 h
        refine b_iload dX10_evalEntry_101 rfl ?_
        refine b_iload_n dX10_evalEntry_103 rfl ?_
        obtain ⟨hs, h⟩ := h
        have K : B f M_X10_evalEntry 123 [vR 582, vI x1, vI x2, vI x3, vI x4, vI (if (m6 594 x3) < 0 then (m6 594 x2) else x2 : Int), vU] [vI (if (if (m6 594 x3) < 0 then (m6 594 x2) else x2 : Int) = x2 then (m6 594 x3) else (m6 591 (if (m6 594 x3) < 0 then (m6 594 x2) else x2 : Int)) : Int)] m6 Q T := by
          clear hs
          refine b_istore (ls' := [vR 582, vI x1, vI x2, vI x3, vI x4, vI (if (m6 594 x3) < 0 then (m6 594 x2) else x2 : Int), vI (if (if (m6 594 x3) < 0 then (m6 594 x2) else x2 : Int) = x2 then (m6 594 x3) else (m6 591 (if (m6 594 x3) < 0 then (m6 594 x2) else x2 : Int)) : Int)]) dX10_evalEntry_123 (Nat.le_of_ble_eq_true rfl) rfl ?_
          refine b_aload_n dX10_evalEntry_125 rfl ?_
          refine b_bipush dX10_evalEntry_126 (by decide) ?_
          refine b_iload_n dX10_evalEntry_128 rfl ?_
          refine b_iload dX10_evalEntry_129 rfl ?_
          refine b_iload dX10_evalEntry_131 rfl ?_
          refine b_iload dX10_evalEntry_133 rfl ?_
          refine b_iload_n dX10_evalEntry_135 rfl ?_
          obtain ⟨hs, h⟩ := h
          have K : B f M_X10_evalEntry 154 [vR 582, vI x1, vI x2, vI x3, vI x4, vI (if (m6 594 x3) < 0 then (m6 594 x2) else x2 : Int), vI (if (if (m6 594 x3) < 0 then (m6 594 x2) else x2 : Int) = x2 then (m6 594 x3) else (m6 591 (if (m6 594 x3) < 0 then (m6 594 x2) else x2 : Int)) : Int)] [vI (if (if (m6 594 x3) < 0 then (m6 594 x2) else x2 : Int) = x2 then (x4 + 1) else (((Int.tdiv x4 3) * 3) + 3) : Int), vI (if (if (m6 594 x3) < 0 then (m6 594 x2) else x2 : Int) = x2 then (m6 594 x3) else (m6 591 (if (m6 594 x3) < 0 then (m6 594 x2) else x2 : Int)) : Int), vI (if (m6 594 x3) < 0 then (m6 594 x2) else x2 : Int), vI x1, vI 7, vR 582] m6 Q T := by
            clear hs
            refine b_cVv (as := [vI 7, vI x1, vI (if (m6 594 x3) < 0 then (m6 594 x2) else x2 : Int), vI (if (if (m6 594 x3) < 0 then (m6 594 x2) else x2 : Int) = x2 then (m6 594 x3) else (m6 591 (if (m6 594 x3) < 0 then (m6 594 x2) else x2 : Int)) : Int), vI (if (if (m6 594 x3) < 0 then (m6 594 x2) else x2 : Int) = x2 then (x4 + 1) else (((Int.tdiv x4 3) * 3) + 3) : Int)]) (st := []) dX10_evalEntry_154 mf_X10_later_2 qs155 lk_X10_730 ly_582 rfl (p_X10_later_2 (f := 1) (Nat.le_refl _) _ _ _ _ _ _ h) (by omega) rfl rfl (Nat.le_of_ble_eq_true rfl) (by decide) rfl (fun _ => rfl) (fun r6 m7 h => ?_) (fun _ h => h)
            refine b_aload_n dX10_evalEntry_157 rfl ?_
            refine b_aload_n dX10_evalEntry_158 rfl ?_
            refine b_getR dX10_evalEntry_159 fk_X10_109 ly_582 gg_582_17 ?_
            refine b_iload dX10_evalEntry_162 rfl ?_
            obtain ⟨g11, h⟩ := h
            refine b_iald dX10_evalEntry_164 ly_591 g11 ?_
            refine b_cVv (as := [vI (m7 591 (if (if (m6 594 x3) < 0 then (m6 594 x2) else x2 : Int) = x2 then (m6 594 x3) else (m6 591 (if (m6 594 x3) < 0 then (m6 594 x2) else x2 : Int)) : Int))]) (st := []) dX10_evalEntry_165 mf_X10_later qs154 lk_X10_733 ly_582 rfl (p_X10_later (f := 2) (Nat.le_refl _) _ _ h) (by omega) rfl rfl (Nat.le_of_ble_eq_true rfl) (by decide) rfl (fun _ => rfl) (fun r7 m8 h => ?_) (fun _ h => h)
            exact b_vret dX10_evalEntry_168 rfl h
          have g10 := hs
          refine b_icmp_ne 146 dX10_evalEntry_136 g7 g10 (by decide) (fun c3 => ?_) (fun c3 => ?_)
          ·
            refine b_iload dX10_evalEntry_146 rfl ?_
            refine b_iconst dX10_evalEntry_148 ?_
            refine b_idiv dX10_evalEntry_149 g4 (by decide) (by decide) ?_
            refine b_iconst dX10_evalEntry_150 ?_
            refine b_imul dX10_evalEntry_151 ?_
            refine b_iconst dX10_evalEntry_152 ?_
            refine b_iadd dX10_evalEntry_153 ?_
            exact Eq.mp (congrArg (fun z => B f M_X10_evalEntry 154 [vR 582, vI x1, vI x2, vI x3, vI x4, vI (if (m6 594 x3) < 0 then (m6 594 x2) else x2 : Int), vI (if (if (m6 594 x3) < 0 then (m6 594 x2) else x2 : Int) = x2 then (m6 594 x3) else (m6 591 (if (m6 594 x3) < 0 then (m6 594 x2) else x2 : Int)) : Int)] (vI z :: [vI (if (if (m6 594 x3) < 0 then (m6 594 x2) else x2 : Int) = x2 then (m6 594 x3) else (m6 591 (if (m6 594 x3) < 0 then (m6 594 x2) else x2 : Int)) : Int), vI (if (m6 594 x3) < 0 then (m6 594 x2) else x2 : Int), vI x1, vI 7, vR 582]) m6 Q T) (show (if (if (m6 594 x3) < 0 then (m6 594 x2) else x2 : Int) = x2 then (x4 + 1) else (((Int.tdiv x4 3) * 3) + 3) : Int) = (((Int.tdiv x4 3) * 3) + 3) by rw [if_neg c3])) K
          ·
            have c3 := Decidable.of_not_not c3
            refine b_iload dX10_evalEntry_139 rfl ?_
            refine b_iconst dX10_evalEntry_141 ?_
            refine b_iadd dX10_evalEntry_142 ?_
            refine b_goto 154 dX10_evalEntry_143 (by decide) ?_
            exact Eq.mp (congrArg (fun z => B f M_X10_evalEntry 154 [vR 582, vI x1, vI x2, vI x3, vI x4, vI (if (m6 594 x3) < 0 then (m6 594 x2) else x2 : Int), vI (if (if (m6 594 x3) < 0 then (m6 594 x2) else x2 : Int) = x2 then (m6 594 x3) else (m6 591 (if (m6 594 x3) < 0 then (m6 594 x2) else x2 : Int)) : Int)] (vI z :: [vI (if (if (m6 594 x3) < 0 then (m6 594 x2) else x2 : Int) = x2 then (m6 594 x3) else (m6 591 (if (m6 594 x3) < 0 then (m6 594 x2) else x2 : Int)) : Int), vI (if (m6 594 x3) < 0 then (m6 594 x2) else x2 : Int), vI x1, vI 7, vR 582]) m6 Q T) (show (if (if (m6 594 x3) < 0 then (m6 594 x2) else x2 : Int) = x2 then (x4 + 1) else (((Int.tdiv x4 3) * 3) + 3) : Int) = (x4 + 1) by rw [if_pos c3])) K
        obtain ⟨g8, hs⟩ := hs
        refine b_icmp_ne 116 dX10_evalEntry_104 g7 g8 (by decide) (fun c4 => ?_) (fun c4 => ?_)
        ·
          have hs := ifF c4 hs
          have g9 := hs
          refine b_aload_n dX10_evalEntry_116 rfl ?_
          refine b_getR dX10_evalEntry_117 fk_X10_109 ly_582 gg_582_17 ?_
          refine b_iload dX10_evalEntry_120 rfl ?_
          refine b_iald dX10_evalEntry_122 ly_591 g9 ?_
          exact Eq.mp (congrArg (fun z => B f M_X10_evalEntry 123 [vR 582, vI x1, vI x2, vI x3, vI x4, vI (if (m6 594 x3) < 0 then (m6 594 x2) else x2 : Int), vU] (vI z :: []) m6 Q T) (show (if (if (m6 594 x3) < 0 then (m6 594 x2) else x2 : Int) = x2 then (m6 594 x3) else (m6 591 (if (m6 594 x3) < 0 then (m6 594 x2) else x2 : Int)) : Int) = (m6 591 (if (m6 594 x3) < 0 then (m6 594 x2) else x2 : Int)) by rw [if_neg c4])) K
        ·
          have c4 := Decidable.of_not_not c4
          refine b_aload_n dX10_evalEntry_107 rfl ?_
          refine b_getR dX10_evalEntry_108 fk_X10_118 ly_582 gg_582_20 ?_
          refine b_iload_n dX10_evalEntry_111 rfl ?_
          refine b_iald dX10_evalEntry_112 ly_594 g1 ?_
          refine b_goto 123 dX10_evalEntry_113 (by decide) ?_
          exact Eq.mp (congrArg (fun z => B f M_X10_evalEntry 123 [vR 582, vI x1, vI x2, vI x3, vI x4, vI (if (m6 594 x3) < 0 then (m6 594 x2) else x2 : Int), vU] (vI z :: []) m6 Q T) (show (if (if (m6 594 x3) < 0 then (m6 594 x2) else x2 : Int) = x2 then (m6 594 x3) else (m6 591 (if (m6 594 x3) < 0 then (m6 594 x2) else x2 : Int)) : Int) = (m6 594 x3) by rw [if_pos c4])) K
      · have h := ifF c2 h
        exact b_vret dX10_evalEntry_100 rfl h
    obtain ⟨g5, hs⟩ := hs
    refine b_if_lt 87 dX10_evalEntry_80 g5 (by decide) (fun c5 => ?_) (fun c5 => ?_)
    ·
      have hs := ifT c5 hs
      have g6 := hs
      refine b_aload_n dX10_evalEntry_87 rfl ?_
      refine b_getR dX10_evalEntry_88 fk_X10_118 ly_582 gg_582_20 ?_
      refine b_iload_n dX10_evalEntry_91 rfl ?_
      refine b_iald dX10_evalEntry_92 ly_594 g6 ?_
      exact Eq.mp (congrArg (fun z => B f M_X10_evalEntry 93 [vR 582, vI x1, vI x2, vI x3, vI x4, vU, vU] (vI z :: []) m6 Q T) (show (if (m6 594 x3) < 0 then (m6 594 x2) else x2 : Int) = (m6 594 x2) by rw [if_pos c5])) K
    ·
      refine b_iload_n dX10_evalEntry_83 rfl ?_
      refine b_goto 93 dX10_evalEntry_84 (by decide) ?_
      exact Eq.mp (congrArg (fun z => B f M_X10_evalEntry 93 [vR 582, vI x1, vI x2, vI x3, vI x4, vU, vU] (vI z :: []) m6 Q T) (show (if (m6 594 x3) < 0 then (m6 594 x2) else x2 : Int) = x2 by rw [if_neg c5])) K
  · have h := ifF c1 h
    exact b_vret dX10_evalEntry_30 rfl h
theorem dX10_evalFirst_0 : decode cX10_evalFirst 0 = .ok (.aload_n 0, 1) := by decide +kernel
theorem dX10_evalFirst_1 : decode cX10_evalFirst 1 = .ok (.getfield 109, 3) := by decide +kernel
theorem dX10_evalFirst_4 : decode cX10_evalFirst 4 = .ok (.aload_n 0, 1) := by decide +kernel
theorem dX10_evalFirst_5 : decode cX10_evalFirst 5 = .ok (.getfield 109, 3) := by decide +kernel
theorem dX10_evalFirst_8 : decode cX10_evalFirst 8 = .ok (.iload_n 1, 1) := by decide +kernel
theorem dX10_evalFirst_9 : decode cX10_evalFirst 9 = .ok (.iaload, 1) := by decide +kernel
theorem dX10_evalFirst_10 : decode cX10_evalFirst 10 = .ok (.iaload, 1) := by decide +kernel
theorem dX10_evalFirst_11 : decode cX10_evalFirst 11 = .ok (.istore_n 2, 1) := by decide +kernel
theorem dX10_evalFirst_12 : decode cX10_evalFirst 12 = .ok (.aload_n 0, 1) := by decide +kernel
theorem dX10_evalFirst_13 : decode cX10_evalFirst 13 = .ok (.getfield 118, 3) := by decide +kernel
theorem dX10_evalFirst_16 : decode cX10_evalFirst 16 = .ok (.aload_n 0, 1) := by decide +kernel
theorem dX10_evalFirst_17 : decode cX10_evalFirst 17 = .ok (.getfield 109, 3) := by decide +kernel
theorem dX10_evalFirst_20 : decode cX10_evalFirst 20 = .ok (.iload_n 1, 1) := by decide +kernel
theorem dX10_evalFirst_21 : decode cX10_evalFirst 21 = .ok (.iaload, 1) := by decide +kernel
theorem dX10_evalFirst_22 : decode cX10_evalFirst 22 = .ok (.iaload, 1) := by decide +kernel
theorem dX10_evalFirst_23 : decode cX10_evalFirst 23 = .ok (.istore_n 3, 1) := by decide +kernel
theorem dX10_evalFirst_24 : decode cX10_evalFirst 24 = .ok (.aload_n 0, 1) := by decide +kernel
theorem dX10_evalFirst_25 : decode cX10_evalFirst 25 = .ok (.getfield 127, 3) := by decide +kernel
theorem dX10_evalFirst_28 : decode cX10_evalFirst 28 = .ok (.iload_n 1, 1) := by decide +kernel
theorem dX10_evalFirst_29 : decode cX10_evalFirst 29 = .ok (.iaload, 1) := by decide +kernel
theorem dX10_evalFirst_30 : decode cX10_evalFirst 30 = .ok (.ifCond .ne 26, 3) := by decide +kernel
theorem dX10_evalFirst_33 : decode cX10_evalFirst 33 = .ok (.aload_n 0, 1) := by decide +kernel
theorem dX10_evalFirst_34 : decode cX10_evalFirst 34 = .ok (.iload_n 2, 1) := by decide +kernel
theorem dX10_evalFirst_35 : decode cX10_evalFirst 35 = .ok (.aload_n 0, 1) := by decide +kernel
theorem dX10_evalFirst_36 : decode cX10_evalFirst 36 = .ok (.getfield 130, 3) := by decide +kernel
theorem dX10_evalFirst_39 : decode cX10_evalFirst 39 = .ok (.iload_n 1, 1) := by decide +kernel
theorem dX10_evalFirst_40 : decode cX10_evalFirst 40 = .ok (.iaload, 1) := by decide +kernel
theorem dX10_evalFirst_41 : decode cX10_evalFirst 41 = .ok (.aload_n 0, 1) := by decide +kernel
theorem dX10_evalFirst_42 : decode cX10_evalFirst 42 = .ok (.getfield 133, 3) := by decide +kernel
theorem dX10_evalFirst_45 : decode cX10_evalFirst 45 = .ok (.iload_n 1, 1) := by decide +kernel
theorem dX10_evalFirst_46 : decode cX10_evalFirst 46 = .ok (.iaload, 1) := by decide +kernel
theorem dX10_evalFirst_47 : decode cX10_evalFirst 47 = .ok (.aload_n 0, 1) := by decide +kernel
theorem dX10_evalFirst_48 : decode cX10_evalFirst 48 = .ok (.getfield 136, 3) := by decide +kernel
theorem dX10_evalFirst_51 : decode cX10_evalFirst 51 = .ok (.iload_n 1, 1) := by decide +kernel
theorem dX10_evalFirst_52 : decode cX10_evalFirst 52 = .ok (.iaload, 1) := by decide +kernel
theorem dX10_evalFirst_53 : decode cX10_evalFirst 53 = .ok (.invokevirtual 747, 3) := by decide +kernel
theorem dX10_evalFirst_56 : decode cX10_evalFirst 56 = .ok (.aload_n 0, 1) := by decide +kernel
theorem dX10_evalFirst_57 : decode cX10_evalFirst 57 = .ok (.getfield 601, 3) := by decide +kernel
theorem dX10_evalFirst_60 : decode cX10_evalFirst 60 = .ok (.ifCond .le 4, 3) := by decide +kernel
theorem dX10_evalFirst_63 : decode cX10_evalFirst 63 = .ok (.return_, 1) := by decide +kernel
theorem dX10_evalFirst_64 : decode cX10_evalFirst 64 = .ok (.iload_n 3, 1) := by decide +kernel
theorem dX10_evalFirst_65 : decode cX10_evalFirst 65 = .ok (.ifCond .ge 26, 3) := by decide +kernel
theorem dX10_evalFirst_68 : decode cX10_evalFirst 68 = .ok (.aload_n 0, 1) := by decide +kernel
theorem dX10_evalFirst_69 : decode cX10_evalFirst 69 = .ok (.iload_n 1, 1) := by decide +kernel
theorem dX10_evalFirst_70 : decode cX10_evalFirst 70 = .ok (.aload_n 0, 1) := by decide +kernel
theorem dX10_evalFirst_71 : decode cX10_evalFirst 71 = .ok (.getfield 127, 3) := by decide +kernel
theorem dX10_evalFirst_74 : decode cX10_evalFirst 74 = .ok (.iload_n 1, 1) := by decide +kernel
theorem dX10_evalFirst_75 : decode cX10_evalFirst 75 = .ok (.iaload, 1) := by decide +kernel
theorem dX10_evalFirst_76 : decode cX10_evalFirst 76 = .ok (.iload_n 2, 1) := by decide +kernel
theorem dX10_evalFirst_77 : decode cX10_evalFirst 77 = .ok (.aload_n 0, 1) := by decide +kernel
theorem dX10_evalFirst_78 : decode cX10_evalFirst 78 = .ok (.getfield 718, 3) := by decide +kernel
theorem dX10_evalFirst_81 : decode cX10_evalFirst 81 = .ok (.iconst 1, 1) := by decide +kernel
theorem dX10_evalFirst_82 : decode cX10_evalFirst 82 = .ok (.isub, 1) := by decide +kernel
theorem dX10_evalFirst_83 : decode cX10_evalFirst 83 = .ok (.invokestatic 721, 3) := by decide +kernel
theorem dX10_evalFirst_86 : decode cX10_evalFirst 86 = .ok (.iconst 0, 1) := by decide +kernel
theorem dX10_evalFirst_87 : decode cX10_evalFirst 87 = .ok (.invokevirtual 823, 3) := by decide +kernel
theorem dX10_evalFirst_90 : decode cX10_evalFirst 90 = .ok (.return_, 1) := by decide +kernel
theorem dX10_evalFirst_91 : decode cX10_evalFirst 91 = .ok (.aload_n 0, 1) := by decide +kernel
theorem dX10_evalFirst_92 : decode cX10_evalFirst 92 = .ok (.bipush 11, 2) := by decide +kernel
theorem dX10_evalFirst_94 : decode cX10_evalFirst 94 = .ok (.iload_n 1, 1) := by decide +kernel
theorem dX10_evalFirst_95 : decode cX10_evalFirst 95 = .ok (.iconst 0, 1) := by decide +kernel
theorem dX10_evalFirst_96 : decode cX10_evalFirst 96 = .ok (.iconst 0, 1) := by decide +kernel
theorem dX10_evalFirst_97 : decode cX10_evalFirst 97 = .ok (.iconst 0, 1) := by decide +kernel
theorem dX10_evalFirst_98 : decode cX10_evalFirst 98 = .ok (.invokevirtual 730, 3) := by decide +kernel
theorem dX10_evalFirst_101 : decode cX10_evalFirst 101 = .ok (.aload_n 0, 1) := by decide +kernel
theorem dX10_evalFirst_102 : decode cX10_evalFirst 102 = .ok (.aload_n 0, 1) := by decide +kernel
theorem dX10_evalFirst_103 : decode cX10_evalFirst 103 = .ok (.getfield 109, 3) := by decide +kernel
theorem dX10_evalFirst_106 : decode cX10_evalFirst 106 = .ok (.iload_n 3, 1) := by decide +kernel
theorem dX10_evalFirst_107 : decode cX10_evalFirst 107 = .ok (.iaload, 1) := by decide +kernel
theorem dX10_evalFirst_108 : decode cX10_evalFirst 108 = .ok (.invokevirtual 733, 3) := by decide +kernel
theorem dX10_evalFirst_111 : decode cX10_evalFirst 111 = .ok (.return_, 1) := by decide +kernel
/-! AlgebraHouseModel.evalFirst(I)V -/
def P_X10_evalFirst_56 (Q : Int → MM → Prop) (x1 : Int) (x2 : Int) (x3 : Int) (m : MM) : Prop := (RI (m 582 84)) ∧ (if (m 582 84) ≤ 0 then (RI x3) ∧ (if 0 ≤ x3 then P_X10_later_2 11 x1 0 0 0 m (fun r1 m1 => (0 ≤ x3 ∧ x3 < 12000) ∧ P_X10_later (m1 591 x3) m1 (fun r2 m2 => Q 0 m2)) else (0 ≤ x1 ∧ x1 < 12000) ∧ P_X10_valueAt ((m 582 86) - 1) m (fun r3 m3 => P_X10_built x1 (m 597 x1) x2 r3 0 m3 (fun r4 m4 => Q 0 m4))) else Q 0 m)
def P_X10_evalFirst (x1 : Int) (m : MM) (Q : Int → MM → Prop) : Prop := (0 ≤ x1 ∧ x1 < 12000) ∧ (0 ≤ (m 591 x1) ∧ (m 591 x1) < 12000) ∧ (RI (m 597 x1)) ∧ (if (m 597 x1) = 0 then P_X10_goLatest (m 591 (m 591 x1)) (m 598 x1) (m 599 x1) (m 600 x1) m (fun r1 m1 => P_X10_evalFirst_56 Q x1 (m 591 (m 591 x1)) (m 594 (m 591 x1)) m1) else P_X10_evalFirst_56 Q x1 (m 591 (m 591 x1)) (m 594 (m 591 x1)) m)
theorem pl_X10_evalFirst_56 {f : Nat} {Q : Int → MM → Prop} {T : MM → Prop} (hf : 10 ≤ f) : ∀ (x1 : Int) (x2 : Int) (x3 : Int) (m : MM), P_X10_evalFirst_56 Q x1 x2 x3 m → B f M_X10_evalFirst 56 [vR 582, vI x1, vI x2, vI x3] [] m Q T := by
  intro x1 x2 x3 m h
  have h : (RI (m 582 84)) ∧ (if (m 582 84) ≤ 0 then (RI x3) ∧ (if 0 ≤ x3 then P_X10_later_2 11 x1 0 0 0 m (fun r1 m1 => (0 ≤ x3 ∧ x3 < 12000) ∧ P_X10_later (m1 591 x3) m1 (fun r2 m2 => Q 0 m2)) else (0 ≤ x1 ∧ x1 < 12000) ∧ P_X10_valueAt ((m 582 86) - 1) m (fun r3 m3 => P_X10_built x1 (m 597 x1) x2 r3 0 m3 (fun r4 m4 => Q 0 m4))) else Q 0 m) := h
  refine b_aload_n dX10_evalFirst_56 rfl ?_
  refine b_getI dX10_evalFirst_57 fk_X10_601 ly_582 ?_
  obtain ⟨g1, h⟩ := h
  refine b_if_le 64 dX10_evalFirst_60 g1 (by decide) (fun c1 => ?_) (fun c1 => ?_)
  · have h := ifT c1 h
    refine b_iload_n dX10_evalFirst_64 rfl ?_
    obtain ⟨g2, h⟩ := h
    refine b_if_ge 91 dX10_evalFirst_65 g2 (by decide) (fun c2 => ?_) (fun c2 => ?_)
    · have h := ifT c2 h
      refine b_aload_n dX10_evalFirst_91 rfl ?_
      refine b_bipush dX10_evalFirst_92 (by decide) ?_
      refine b_iload_n dX10_evalFirst_94 rfl ?_
      refine b_iconst dX10_evalFirst_95 ?_
      refine b_iconst dX10_evalFirst_96 ?_
      refine b_iconst dX10_evalFirst_97 ?_
      refine b_cVv (as := [vI 11, vI x1, vI 0, vI 0, vI 0]) (st := []) dX10_evalFirst_98 mf_X10_later_2 qs155 lk_X10_730 ly_582 rfl (p_X10_later_2 (f := 1) (Nat.le_refl _) _ _ _ _ _ _ h) (by omega) rfl rfl (Nat.le_of_ble_eq_true rfl) (by decide) rfl (fun _ => rfl) (fun r1 m1 h => ?_) (fun _ h => h)
      refine b_aload_n dX10_evalFirst_101 rfl ?_
      refine b_aload_n dX10_evalFirst_102 rfl ?_
      refine b_getR dX10_evalFirst_103 fk_X10_109 ly_582 gg_582_17 ?_
      refine b_iload_n dX10_evalFirst_106 rfl ?_
      obtain ⟨g3, h⟩ := h
      refine b_iald dX10_evalFirst_107 ly_591 g3 ?_
      refine b_cVv (as := [vI (m1 591 x3)]) (st := []) dX10_evalFirst_108 mf_X10_later qs154 lk_X10_733 ly_582 rfl (p_X10_later (f := 2) (Nat.le_refl _) _ _ h) (by omega) rfl rfl (Nat.le_of_ble_eq_true rfl) (by decide) rfl (fun _ => rfl) (fun r2 m2 h => ?_) (fun _ h => h)
      exact b_vret dX10_evalFirst_111 rfl h
    · have h := ifF c2 h
      refine b_aload_n dX10_evalFirst_68 rfl ?_
      refine b_iload_n dX10_evalFirst_69 rfl ?_
      refine b_aload_n dX10_evalFirst_70 rfl ?_
      refine b_getR dX10_evalFirst_71 fk_X10_127 ly_582 gg_582_23 ?_
      refine b_iload_n dX10_evalFirst_74 rfl ?_
      obtain ⟨g4, h⟩ := h
      refine b_iald dX10_evalFirst_75 ly_597 g4 ?_
      refine b_iload_n dX10_evalFirst_76 rfl ?_
      refine b_aload_n dX10_evalFirst_77 rfl ?_
      refine b_getI dX10_evalFirst_78 fk_X10_718 ly_582 ?_
      refine b_iconst dX10_evalFirst_81 ?_
      refine b_isub dX10_evalFirst_82 ?_
      refine b_cSi (as := [vI ((m 582 86) - 1)]) (st := [vI x2, vI (m 597 x1), vI x1, vR 582]) dX10_evalFirst_83 mf_X10_valueAt lk_X10_721 (p_X10_valueAt (f := 1) (Nat.le_refl _) _ _ h) (by omega) rfl rfl (Nat.le_of_ble_eq_true rfl) (by decide) rfl (fun _ => rfl) (fun r3 m3 h => ?_) (fun _ h => h)
      refine b_iconst dX10_evalFirst_86 ?_
      refine b_cVv (as := [vI x1, vI (m 597 x1), vI x2, vI r3, vI 0]) (st := []) dX10_evalFirst_87 mf_X10_built qs196 lk_X10_823 ly_582 rfl (p_X10_built (f := 9) (Nat.le_refl _) _ _ _ _ _ _ h) (by omega) rfl rfl (Nat.le_of_ble_eq_true rfl) (by decide) rfl (fun _ => rfl) (fun r4 m4 h => ?_) (fun _ h => h)
      exact b_vret dX10_evalFirst_90 rfl h
  · have h := ifF c1 h
    exact b_vret dX10_evalFirst_63 rfl h
theorem p_X10_evalFirst {f : Nat} {Q : Int → MM → Prop} {T : MM → Prop} (hf : 10 ≤ f) (x1 : Int) (m : MM) (h : P_X10_evalFirst x1 m Q) : CC f M_X10_evalFirst [vR 582, vI x1] m Q T := by
  refine CC.of (plainFor_of_name (by decide)) (Nat.le_of_ble_eq_true rfl) (ls := [vR 582, vI x1, vU, vU]) rfl ?_
  have h : (0 ≤ x1 ∧ x1 < 12000) ∧ (0 ≤ (m 591 x1) ∧ (m 591 x1) < 12000) ∧ (RI (m 597 x1)) ∧ (if (m 597 x1) = 0 then P_X10_goLatest (m 591 (m 591 x1)) (m 598 x1) (m 599 x1) (m 600 x1) m (fun r1 m1 => P_X10_evalFirst_56 Q x1 (m 591 (m 591 x1)) (m 594 (m 591 x1)) m1) else P_X10_evalFirst_56 Q x1 (m 591 (m 591 x1)) (m 594 (m 591 x1)) m) := h
  refine b_aload_n dX10_evalFirst_0 rfl ?_
  refine b_getR dX10_evalFirst_1 fk_X10_109 ly_582 gg_582_17 ?_
  refine b_aload_n dX10_evalFirst_4 rfl ?_
  refine b_getR dX10_evalFirst_5 fk_X10_109 ly_582 gg_582_17 ?_
  refine b_iload_n dX10_evalFirst_8 rfl ?_
  obtain ⟨g1, h⟩ := h
  refine b_iald dX10_evalFirst_9 ly_591 g1 ?_
  obtain ⟨g2, h⟩ := h
  refine b_iald dX10_evalFirst_10 ly_591 g2 ?_
  refine b_istore_n (ls' := [vR 582, vI x1, vI (m 591 (m 591 x1)), vU]) dX10_evalFirst_11 (Nat.le_of_ble_eq_true rfl) rfl ?_
  refine b_aload_n dX10_evalFirst_12 rfl ?_
  refine b_getR dX10_evalFirst_13 fk_X10_118 ly_582 gg_582_20 ?_
  refine b_aload_n dX10_evalFirst_16 rfl ?_
  refine b_getR dX10_evalFirst_17 fk_X10_109 ly_582 gg_582_17 ?_
  refine b_iload_n dX10_evalFirst_20 rfl ?_
  refine b_iald dX10_evalFirst_21 ly_591 g1 ?_
  refine b_iald dX10_evalFirst_22 ly_594 g2 ?_
  refine b_istore_n (ls' := [vR 582, vI x1, vI (m 591 (m 591 x1)), vI (m 594 (m 591 x1))]) dX10_evalFirst_23 (Nat.le_of_ble_eq_true rfl) rfl ?_
  refine b_aload_n dX10_evalFirst_24 rfl ?_
  refine b_getR dX10_evalFirst_25 fk_X10_127 ly_582 gg_582_23 ?_
  refine b_iload_n dX10_evalFirst_28 rfl ?_
  refine b_iald dX10_evalFirst_29 ly_597 g1 ?_
  obtain ⟨g3, h⟩ := h
  refine b_if_ne 56 dX10_evalFirst_30 g3 (by decide) (fun c1 => ?_) (fun c1 => ?_)
  · have h := ifF c1 h
    exact pl_X10_evalFirst_56 hf _ _ _ _ h
  · have h := ifT (Decidable.of_not_not c1) h
    refine b_aload_n dX10_evalFirst_33 rfl ?_
    refine b_iload_n dX10_evalFirst_34 rfl ?_
    refine b_aload_n dX10_evalFirst_35 rfl ?_
    refine b_getR dX10_evalFirst_36 fk_X10_130 ly_582 gg_582_24 ?_
    refine b_iload_n dX10_evalFirst_39 rfl ?_
    refine b_iald dX10_evalFirst_40 ly_598 g1 ?_
    refine b_aload_n dX10_evalFirst_41 rfl ?_
    refine b_getR dX10_evalFirst_42 fk_X10_133 ly_582 gg_582_25 ?_
    refine b_iload_n dX10_evalFirst_45 rfl ?_
    refine b_iald dX10_evalFirst_46 ly_599 g1 ?_
    refine b_aload_n dX10_evalFirst_47 rfl ?_
    refine b_getR dX10_evalFirst_48 fk_X10_136 ly_582 gg_582_26 ?_
    refine b_iload_n dX10_evalFirst_51 rfl ?_
    refine b_iald dX10_evalFirst_52 ly_600 g1 ?_
    refine b_cVv (as := [vI (m 591 (m 591 x1)), vI (m 598 x1), vI (m 599 x1), vI (m 600 x1)]) (st := []) dX10_evalFirst_53 mf_X10_goLatest qs180 lk_X10_747 ly_582 rfl (p_X10_goLatest (f := 3) (Nat.le_refl _) _ _ _ _ _ h) (by omega) rfl rfl (Nat.le_of_ble_eq_true rfl) (by decide) rfl (fun _ => rfl) (fun r1 m1 h => ?_) (fun _ h => h)
    exact pl_X10_evalFirst_56 hf _ _ _ _ h
theorem dX10_setOne_0 : decode cX10_setOne 0 = .ok (.aload_n 0, 1) := by decide +kernel
theorem dX10_setOne_1 : decode cX10_setOne 1 = .ok (.iload_n 1, 1) := by decide +kernel
theorem dX10_setOne_2 : decode cX10_setOne 2 = .ok (.sipush 882, 3) := by decide +kernel
theorem dX10_setOne_5 : decode cX10_setOne 5 = .ok (.invokevirtual 685, 3) := by decide +kernel
theorem dX10_setOne_8 : decode cX10_setOne 8 = .ok (.iconst 0, 1) := by decide +kernel
theorem dX10_setOne_9 : decode cX10_setOne 9 = .ok (.istore_n 3, 1) := by decide +kernel
theorem dX10_setOne_10 : decode cX10_setOne 10 = .ok (.iload_n 3, 1) := by decide +kernel
theorem dX10_setOne_11 : decode cX10_setOne 11 = .ok (.iload_n 2, 1) := by decide +kernel
theorem dX10_setOne_12 : decode cX10_setOne 12 = .ok (.invokestatic 674, 3) := by decide +kernel
theorem dX10_setOne_15 : decode cX10_setOne 15 = .ok (.if_icmp .ge 20, 3) := by decide +kernel
theorem dX10_setOne_18 : decode cX10_setOne 18 = .ok (.aload_n 0, 1) := by decide +kernel
theorem dX10_setOne_19 : decode cX10_setOne 19 = .ok (.iload_n 1, 1) := by decide +kernel
theorem dX10_setOne_20 : decode cX10_setOne 20 = .ok (.iload_n 3, 1) := by decide +kernel
theorem dX10_setOne_21 : decode cX10_setOne 21 = .ok (.iload_n 3, 1) := by decide +kernel
theorem dX10_setOne_22 : decode cX10_setOne 22 = .ok (.invokestatic 677, 3) := by decide +kernel
theorem dX10_setOne_25 : decode cX10_setOne 25 = .ok (.lconst 1, 1) := by decide +kernel
theorem dX10_setOne_26 : decode cX10_setOne 26 = .ok (.invokevirtual 633, 3) := by decide +kernel
theorem dX10_setOne_29 : decode cX10_setOne 29 = .ok (.iinc 3 1, 3) := by decide +kernel
theorem dX10_setOne_32 : decode cX10_setOne 32 = .ok (.goto (-22), 3) := by decide +kernel
theorem dX10_setOne_35 : decode cX10_setOne 35 = .ok (.return_, 1) := by decide +kernel
/-! AlgebraHouseModel.setOne(II)V -/
def P_X10_setOne_10 (Q : Int → MM → Prop) : Nat → Int → Int → Int → MM → Prop
  | 0, _, _, _, _ => False
  | n + 1, x1, x2, x3, m => P_X10_rows x2 m (fun r1 m1 => (RI x3) ∧ (RI r1) ∧ (if r1 ≤ x3 then Q 0 m1 else P_X10_entryAt x1 x3 x3 m1 (fun r2 m2 => P_X10_set r2 1 m2 (fun r3 m3 => P_X10_setOne_10 Q n x1 x2 (x3 + 1) m3))))
def P_X10_setOne (x1 : Int) (x2 : Int) (m : MM) (Q : Int → MM → Prop) : Prop := P_X10_clear x1 882 m (fun r1 m1 => ∃ nn, P_X10_setOne_10 Q nn x1 x2 0 m1)
theorem pl_X10_setOne_10 {f : Nat} {Q : Int → MM → Prop} {T : MM → Prop} (hf : 3 ≤ f) : ∀ (n : Nat) (x1 : Int) (x2 : Int) (x3 : Int) (m : MM), P_X10_setOne_10 Q n x1 x2 x3 m → B f M_X10_setOne 10 [vR 582, vI x1, vI x2, vI x3] [] m Q T := by
  intro n
  induction n with
  | zero => intro x1 x2 x3 m h; exact h.elim
  | succ n ih =>
    intro x1 x2 x3 m h
    have h : P_X10_rows x2 m (fun r1 m1 => (RI x3) ∧ (RI r1) ∧ (if r1 ≤ x3 then Q 0 m1 else P_X10_entryAt x1 x3 x3 m1 (fun r2 m2 => P_X10_set r2 1 m2 (fun r3 m3 => P_X10_setOne_10 Q n x1 x2 (x3 + 1) m3)))) := h
    refine b_iload_n dX10_setOne_10 rfl ?_
    refine b_iload_n dX10_setOne_11 rfl ?_
    refine b_cSi (as := [vI x2]) (st := [vI x3]) dX10_setOne_12 mf_X10_rows lk_X10_674 (p_X10_rows (f := 1) (Nat.le_refl _) _ _ h) (by omega) rfl rfl (Nat.le_of_ble_eq_true rfl) (by decide) rfl (fun _ => rfl) (fun r1 m1 h => ?_) (fun _ h => h)
    obtain ⟨g1, h⟩ := h
    obtain ⟨g2, h⟩ := h
    refine b_icmp_ge 35 dX10_setOne_15 g1 g2 (by decide) (fun c1 => ?_) (fun c1 => ?_)
    · have h := ifT c1 h
      exact b_vret dX10_setOne_35 rfl h
    · have h := ifF c1 h
      refine b_aload_n dX10_setOne_18 rfl ?_
      refine b_iload_n dX10_setOne_19 rfl ?_
      refine b_iload_n dX10_setOne_20 rfl ?_
      refine b_iload_n dX10_setOne_21 rfl ?_
      refine b_cSi (as := [vI x1, vI x3, vI x3]) (st := [vR 582]) dX10_setOne_22 mf_X10_entryAt lk_X10_677 (p_X10_entryAt (f := 1) (Nat.le_refl _) _ _ _ _ h) (by omega) rfl rfl (Nat.le_of_ble_eq_true rfl) (by decide) rfl (fun _ => rfl) (fun r2 m2 h => ?_) (fun _ h => h)
      refine b_lconst 1 dX10_setOne_25 (by decide) ?_
      refine b_cVv (as := [vI r2, vL 1]) (st := []) dX10_setOne_26 mf_X10_set qs163 lk_X10_633 ly_582 rfl (p_X10_set (f := 1) (Nat.le_refl _) _ _ _ h) (by omega) rfl rfl (Nat.le_of_ble_eq_true rfl) (by decide) rfl (fun _ => rfl) (fun r3 m3 h => ?_) (fun _ h => h)
      refine b_iinc (ls' := [vR 582, vI x1, vI x2, vI (x3 + 1)]) dX10_setOne_29 rfl rfl ?_
      refine b_goto 10 dX10_setOne_32 (by decide) ?_
      exact ih _ _ _ _ h
theorem p_X10_setOne {f : Nat} {Q : Int → MM → Prop} {T : MM → Prop} (hf : 3 ≤ f) (x1 : Int) (x2 : Int) (m : MM) (h : P_X10_setOne x1 x2 m Q) : CC f M_X10_setOne [vR 582, vI x1, vI x2] m Q T := by
  refine CC.of (plainFor_of_name (by decide)) (Nat.le_of_ble_eq_true rfl) (ls := [vR 582, vI x1, vI x2, vU]) rfl ?_
  have h : P_X10_clear x1 882 m (fun r1 m1 => ∃ nn, P_X10_setOne_10 Q nn x1 x2 0 m1) := h
  refine b_aload_n dX10_setOne_0 rfl ?_
  refine b_iload_n dX10_setOne_1 rfl ?_
  refine b_sipush dX10_setOne_2 (by decide) ?_
  refine b_cVv (as := [vI x1, vI 882]) (st := []) dX10_setOne_5 mf_X10_clear qs162 lk_X10_685 ly_582 rfl (p_X10_clear (f := 2) (Nat.le_refl _) _ _ _ h) (by omega) rfl rfl (Nat.le_of_ble_eq_true rfl) (by decide) rfl (fun _ => rfl) (fun r1 m1 h => ?_) (fun _ h => h)
  refine b_iconst dX10_setOne_8 ?_
  refine b_istore_n (ls' := [vR 582, vI x1, vI x2, vI 0]) dX10_setOne_9 (Nat.le_of_ble_eq_true rfl) rfl ?_
  obtain ⟨nn, h⟩ := h
  exact pl_X10_setOne_10 hf nn _ _ _ _ h
theorem dX10_evalPower_0 : decode cX10_evalPower 0 = .ok (.aload_n 0, 1) := by decide +kernel
theorem dX10_evalPower_1 : decode cX10_evalPower 1 = .ok (.ldc_w 750, 3) := by decide +kernel
theorem dX10_evalPower_4 : decode cX10_evalPower 4 = .ok (.iload_n 2, 1) := by decide +kernel
theorem dX10_evalPower_5 : decode cX10_evalPower 5 = .ok (.sipush 882, 3) := by decide +kernel
theorem dX10_evalPower_8 : decode cX10_evalPower 8 = .ok (.invokevirtual 658, 3) := by decide +kernel
theorem dX10_evalPower_11 : decode cX10_evalPower 11 = .ok (.aload_n 0, 1) := by decide +kernel
theorem dX10_evalPower_12 : decode cX10_evalPower 12 = .ok (.iload_n 2, 1) := by decide +kernel
theorem dX10_evalPower_13 : decode cX10_evalPower 13 = .ok (.aload_n 0, 1) := by decide +kernel
theorem dX10_evalPower_14 : decode cX10_evalPower 14 = .ok (.getfield 136, 3) := by decide +kernel
theorem dX10_evalPower_17 : decode cX10_evalPower 17 = .ok (.iload_n 1, 1) := by decide +kernel
theorem dX10_evalPower_18 : decode cX10_evalPower 18 = .ok (.iaload, 1) := by decide +kernel
theorem dX10_evalPower_19 : decode cX10_evalPower 19 = .ok (.invokevirtual 776, 3) := by decide +kernel
theorem dX10_evalPower_22 : decode cX10_evalPower 22 = .ok (.lconst 0, 1) := by decide +kernel
theorem dX10_evalPower_23 : decode cX10_evalPower 23 = .ok (.lstore_n 3, 1) := by decide +kernel
theorem dX10_evalPower_24 : decode cX10_evalPower 24 = .ok (.lload_n 3, 1) := by decide +kernel
theorem dX10_evalPower_25 : decode cX10_evalPower 25 = .ok (.aload_n 0, 1) := by decide +kernel
theorem dX10_evalPower_26 : decode cX10_evalPower 26 = .ok (.getfield 152, 3) := by decide +kernel
theorem dX10_evalPower_29 : decode cX10_evalPower 29 = .ok (.iload_n 1, 1) := by decide +kernel
theorem dX10_evalPower_30 : decode cX10_evalPower 30 = .ok (.laload, 1) := by decide +kernel
theorem dX10_evalPower_31 : decode cX10_evalPower 31 = .ok (.lcmp, 1) := by decide +kernel
theorem dX10_evalPower_32 : decode cX10_evalPower 32 = .ok (.ifCond .ge 44, 3) := by decide +kernel
theorem dX10_evalPower_35 : decode cX10_evalPower 35 = .ok (.aload_n 0, 1) := by decide +kernel
theorem dX10_evalPower_36 : decode cX10_evalPower 36 = .ok (.getfield 601, 3) := by decide +kernel
theorem dX10_evalPower_39 : decode cX10_evalPower 39 = .ok (.ifCond .ne 37, 3) := by decide +kernel
theorem dX10_evalPower_42 : decode cX10_evalPower 42 = .ok (.aload_n 0, 1) := by decide +kernel
theorem dX10_evalPower_43 : decode cX10_evalPower 43 = .ok (.iload_n 2, 1) := by decide +kernel
theorem dX10_evalPower_44 : decode cX10_evalPower 44 = .ok (.iload_n 2, 1) := by decide +kernel
theorem dX10_evalPower_45 : decode cX10_evalPower 45 = .ok (.ldc_w 750, 3) := by decide +kernel
theorem dX10_evalPower_48 : decode cX10_evalPower 48 = .ok (.aload_n 0, 1) := by decide +kernel
theorem dX10_evalPower_49 : decode cX10_evalPower 49 = .ok (.getfield 130, 3) := by decide +kernel
theorem dX10_evalPower_52 : decode cX10_evalPower 52 = .ok (.iload_n 1, 1) := by decide +kernel
theorem dX10_evalPower_53 : decode cX10_evalPower 53 = .ok (.iaload, 1) := by decide +kernel
theorem dX10_evalPower_54 : decode cX10_evalPower 54 = .ok (.aload_n 0, 1) := by decide +kernel
theorem dX10_evalPower_55 : decode cX10_evalPower 55 = .ok (.getfield 133, 3) := by decide +kernel
theorem dX10_evalPower_58 : decode cX10_evalPower 58 = .ok (.iload_n 1, 1) := by decide +kernel
theorem dX10_evalPower_59 : decode cX10_evalPower 59 = .ok (.iaload, 1) := by decide +kernel
theorem dX10_evalPower_60 : decode cX10_evalPower 60 = .ok (.aload_n 0, 1) := by decide +kernel
theorem dX10_evalPower_61 : decode cX10_evalPower 61 = .ok (.getfield 136, 3) := by decide +kernel
theorem dX10_evalPower_64 : decode cX10_evalPower 64 = .ok (.iload_n 1, 1) := by decide +kernel
theorem dX10_evalPower_65 : decode cX10_evalPower 65 = .ok (.iaload, 1) := by decide +kernel
theorem dX10_evalPower_66 : decode cX10_evalPower 66 = .ok (.invokevirtual 779, 3) := by decide +kernel
theorem dX10_evalPower_69 : decode cX10_evalPower 69 = .ok (.lload_n 3, 1) := by decide +kernel
theorem dX10_evalPower_70 : decode cX10_evalPower 70 = .ok (.lconst 1, 1) := by decide +kernel
theorem dX10_evalPower_71 : decode cX10_evalPower 71 = .ok (.ladd, 1) := by decide +kernel
theorem dX10_evalPower_72 : decode cX10_evalPower 72 = .ok (.lstore_n 3, 1) := by decide +kernel
theorem dX10_evalPower_73 : decode cX10_evalPower 73 = .ok (.goto (-49), 3) := by decide +kernel
theorem dX10_evalPower_76 : decode cX10_evalPower 76 = .ok (.return_, 1) := by decide +kernel
/-! AlgebraHouseModel.evalPower(II)V -/
def P_X10_evalPower_24 (Q : Int → MM → Prop) : Nat → Int → Int → Int → MM → Prop
  | 0, _, _, _, _ => False
  | n + 1, x1, x2, x3, m => (0 ≤ x1 ∧ x1 < 12000) ∧ (RL x3) ∧ (RL (m 605 x1)) ∧ (if (m 605 x1) ≤ x3 then Q 0 m else (RI (m 582 84)) ∧ (if (m 582 84) = 0 then P_X10_multiplyValues x2 x2 1593000 (m 598 x1) (m 599 x1) (m 600 x1) m (fun r1 m1 => P_X10_evalPower_24 Q n x1 x2 (x3 + 1) m1) else Q 0 m))
def P_X10_evalPower (x1 : Int) (x2 : Int) (m : MM) (Q : Int → MM → Prop) : Prop := P_X10_copy 1593000 x2 882 m (fun r1 m1 => (0 ≤ x1 ∧ x1 < 12000) ∧ P_X10_setOne x2 (m1 600 x1) m1 (fun r2 m2 => ∃ nn, P_X10_evalPower_24 Q nn x1 x2 0 m2))
theorem pl_X10_evalPower_24 {f : Nat} {Q : Int → MM → Prop} {T : MM → Prop} (hf : 7 ≤ f) : ∀ (n : Nat) (x1 : Int) (x2 : Int) (x3 : Int) (m : MM), P_X10_evalPower_24 Q n x1 x2 x3 m → B f M_X10_evalPower 24 [vR 582, vI x1, vI x2, vL x3, vU] [] m Q T := by
  intro n
  induction n with
  | zero => intro x1 x2 x3 m h; exact h.elim
  | succ n ih =>
    intro x1 x2 x3 m h
    have h : (0 ≤ x1 ∧ x1 < 12000) ∧ (RL x3) ∧ (RL (m 605 x1)) ∧ (if (m 605 x1) ≤ x3 then Q 0 m else (RI (m 582 84)) ∧ (if (m 582 84) = 0 then P_X10_multiplyValues x2 x2 1593000 (m 598 x1) (m 599 x1) (m 600 x1) m (fun r1 m1 => P_X10_evalPower_24 Q n x1 x2 (x3 + 1) m1) else Q 0 m)) := h
    refine b_lload_n dX10_evalPower_24 rfl ?_
    refine b_aload_n dX10_evalPower_25 rfl ?_
    refine b_getR dX10_evalPower_26 fk_X10_152 ly_582 gg_582_31 ?_
    refine b_iload_n dX10_evalPower_29 rfl ?_
    obtain ⟨g1, h⟩ := h
    refine b_lald dX10_evalPower_30 ly_605 g1 ?_
    obtain ⟨g2, h⟩ := h
    obtain ⟨g3, h⟩ := h
    refine b_lc_ge 76 dX10_evalPower_31 dX10_evalPower_32 g2 g3 (by decide) (fun c1 => ?_) (fun c1 => ?_)
    · have h := ifT c1 h
      exact b_vret dX10_evalPower_76 rfl h
    · have h := ifF c1 h
      refine b_aload_n dX10_evalPower_35 rfl ?_
      refine b_getI dX10_evalPower_36 fk_X10_601 ly_582 ?_
      obtain ⟨g4, h⟩ := h
      refine b_if_ne 76 dX10_evalPower_39 g4 (by decide) (fun c2 => ?_) (fun c2 => ?_)
      · have h := ifF c2 h
        exact b_vret dX10_evalPower_76 rfl h
      · have h := ifT (Decidable.of_not_not c2) h
        refine b_aload_n dX10_evalPower_42 rfl ?_
        refine b_iload_n dX10_evalPower_43 rfl ?_
        refine b_iload_n dX10_evalPower_44 rfl ?_
        refine b_ldcw (1593000) dX10_evalPower_45 q2347 (by decide) ?_
        refine b_aload_n dX10_evalPower_48 rfl ?_
        refine b_getR dX10_evalPower_49 fk_X10_130 ly_582 gg_582_24 ?_
        refine b_iload_n dX10_evalPower_52 rfl ?_
        refine b_iald dX10_evalPower_53 ly_598 g1 ?_
        refine b_aload_n dX10_evalPower_54 rfl ?_
        refine b_getR dX10_evalPower_55 fk_X10_133 ly_582 gg_582_25 ?_
        refine b_iload_n dX10_evalPower_58 rfl ?_
        refine b_iald dX10_evalPower_59 ly_599 g1 ?_
        refine b_aload_n dX10_evalPower_60 rfl ?_
        refine b_getR dX10_evalPower_61 fk_X10_136 ly_582 gg_582_26 ?_
        refine b_iload_n dX10_evalPower_64 rfl ?_
        refine b_iald dX10_evalPower_65 ly_600 g1 ?_
        refine b_cVv (as := [vI x2, vI x2, vI 1593000, vI (m 598 x1), vI (m 599 x1), vI (m 600 x1)]) (st := []) dX10_evalPower_66 mf_X10_multiplyValues qs170 lk_X10_779 ly_582 rfl (p_X10_multiplyValues (f := 6) (Nat.le_refl _) _ _ _ _ _ _ _ h) (by omega) rfl rfl (Nat.le_of_ble_eq_true rfl) (by decide) rfl (fun _ => rfl) (fun r1 m1 h => ?_) (fun _ h => h)
        refine b_lload_n dX10_evalPower_69 rfl ?_
        refine b_lconst 1 dX10_evalPower_70 (by decide) ?_
        refine b_ladd dX10_evalPower_71 ?_
        refine b_lstore_n (ls' := [vR 582, vI x1, vI x2, vL (x3 + 1), vU]) dX10_evalPower_72 (Nat.le_of_ble_eq_true rfl) rfl ?_
        refine b_goto 24 dX10_evalPower_73 (by decide) ?_
        exact ih _ _ _ _ h
theorem p_X10_evalPower {f : Nat} {Q : Int → MM → Prop} {T : MM → Prop} (hf : 7 ≤ f) (x1 : Int) (x2 : Int) (m : MM) (h : P_X10_evalPower x1 x2 m Q) : CC f M_X10_evalPower [vR 582, vI x1, vI x2] m Q T := by
  refine CC.of (plainFor_of_name (by decide)) (Nat.le_of_ble_eq_true rfl) (ls := [vR 582, vI x1, vI x2, vU, vU]) rfl ?_
  have h : P_X10_copy 1593000 x2 882 m (fun r1 m1 => (0 ≤ x1 ∧ x1 < 12000) ∧ P_X10_setOne x2 (m1 600 x1) m1 (fun r2 m2 => ∃ nn, P_X10_evalPower_24 Q nn x1 x2 0 m2)) := h
  refine b_aload_n dX10_evalPower_0 rfl ?_
  refine b_ldcw (1593000) dX10_evalPower_1 q2347 (by decide) ?_
  refine b_iload_n dX10_evalPower_4 rfl ?_
  refine b_sipush dX10_evalPower_5 (by decide) ?_
  refine b_cVv (as := [vI 1593000, vI x2, vI 882]) (st := []) dX10_evalPower_8 mf_X10_copy qs164 lk_X10_658 ly_582 rfl (p_X10_copy (f := 1) (Nat.le_refl _) _ _ _ _ h) (by omega) rfl rfl (Nat.le_of_ble_eq_true rfl) (by decide) rfl (fun _ => rfl) (fun r1 m1 h => ?_) (fun _ h => h)
  refine b_aload_n dX10_evalPower_11 rfl ?_
  refine b_iload_n dX10_evalPower_12 rfl ?_
  refine b_aload_n dX10_evalPower_13 rfl ?_
  refine b_getR dX10_evalPower_14 fk_X10_136 ly_582 gg_582_26 ?_
  refine b_iload_n dX10_evalPower_17 rfl ?_
  obtain ⟨g1, h⟩ := h
  refine b_iald dX10_evalPower_18 ly_600 g1 ?_
  refine b_cVv (as := [vI x2, vI (m1 600 x1)]) (st := []) dX10_evalPower_19 mf_X10_setOne qs169 lk_X10_776 ly_582 rfl (p_X10_setOne (f := 3) (Nat.le_refl _) _ _ _ h) (by omega) rfl rfl (Nat.le_of_ble_eq_true rfl) (by decide) rfl (fun _ => rfl) (fun r2 m2 h => ?_) (fun _ h => h)
  refine b_lconst 0 dX10_evalPower_22 (by decide) ?_
  refine b_lstore_n (ls' := [vR 582, vI x1, vI x2, vL 0, vU]) dX10_evalPower_23 (Nat.le_of_ble_eq_true rfl) rfl ?_
  obtain ⟨nn, h⟩ := h
  exact pl_X10_evalPower_24 hf nn _ _ _ _ h
theorem dX10_goBack_0 : decode cX10_goBack 0 = .ok (.iload 4, 2) := by decide +kernel
theorem dX10_goBack_2 : decode cX10_goBack 2 = .ok (.iload 7, 2) := by decide +kernel
theorem dX10_goBack_4 : decode cX10_goBack 4 = .ok (.if_icmp .le 158, 3) := by decide +kernel
theorem dX10_goBack_7 : decode cX10_goBack 7 = .ok (.iconst 0, 1) := by decide +kernel
theorem dX10_goBack_8 : decode cX10_goBack 8 = .ok (.istore 8, 2) := by decide +kernel
theorem dX10_goBack_10 : decode cX10_goBack 10 = .ok (.iload 8, 2) := by decide +kernel
theorem dX10_goBack_12 : decode cX10_goBack 12 = .ok (.iload 4, 2) := by decide +kernel
theorem dX10_goBack_14 : decode cX10_goBack 14 = .ok (.if_icmp .ge 110, 3) := by decide +kernel
theorem dX10_goBack_17 : decode cX10_goBack 17 = .ok (.iconst 0, 1) := by decide +kernel
theorem dX10_goBack_18 : decode cX10_goBack 18 = .ok (.istore 9, 2) := by decide +kernel
theorem dX10_goBack_20 : decode cX10_goBack 20 = .ok (.iload 9, 2) := by decide +kernel
theorem dX10_goBack_22 : decode cX10_goBack 22 = .ok (.iload 4, 2) := by decide +kernel
theorem dX10_goBack_24 : decode cX10_goBack 24 = .ok (.if_icmp .ge 94, 3) := by decide +kernel
theorem dX10_goBack_27 : decode cX10_goBack 27 = .ok (.iconst 1, 1) := by decide +kernel
theorem dX10_goBack_28 : decode cX10_goBack 28 = .ok (.istore 10, 2) := by decide +kernel
theorem dX10_goBack_30 : decode cX10_goBack 30 = .ok (.iconst 0, 1) := by decide +kernel
theorem dX10_goBack_31 : decode cX10_goBack 31 = .ok (.istore 11, 2) := by decide +kernel
theorem dX10_goBack_33 : decode cX10_goBack 33 = .ok (.iload 11, 2) := by decide +kernel
theorem dX10_goBack_35 : decode cX10_goBack 35 = .ok (.bipush 98, 2) := by decide +kernel
theorem dX10_goBack_37 : decode cX10_goBack 37 = .ok (.if_icmp .ge 65, 3) := by decide +kernel
theorem dX10_goBack_40 : decode cX10_goBack 40 = .ok (.iload 10, 2) := by decide +kernel
theorem dX10_goBack_42 : decode cX10_goBack 42 = .ok (.ifCond .eq 60, 3) := by decide +kernel
theorem dX10_goBack_45 : decode cX10_goBack 45 = .ok (.aload_n 0, 1) := by decide +kernel
theorem dX10_goBack_46 : decode cX10_goBack 46 = .ok (.getfield 250, 3) := by decide +kernel
theorem dX10_goBack_49 : decode cX10_goBack 49 = .ok (.iload_n 1, 1) := by decide +kernel
theorem dX10_goBack_50 : decode cX10_goBack 50 = .ok (.iload 8, 2) := by decide +kernel
theorem dX10_goBack_52 : decode cX10_goBack 52 = .ok (.iload 9, 2) := by decide +kernel
theorem dX10_goBack_54 : decode cX10_goBack 54 = .ok (.invokestatic 677, 3) := by decide +kernel
theorem dX10_goBack_57 : decode cX10_goBack 57 = .ok (.iload 11, 2) := by decide +kernel
theorem dX10_goBack_59 : decode cX10_goBack 59 = .ok (.iadd, 1) := by decide +kernel
theorem dX10_goBack_60 : decode cX10_goBack 60 = .ok (.laload, 1) := by decide +kernel
theorem dX10_goBack_61 : decode cX10_goBack 61 = .ok (.iload 8, 2) := by decide +kernel
theorem dX10_goBack_63 : decode cX10_goBack 63 = .ok (.iload 9, 2) := by decide +kernel
theorem dX10_goBack_65 : decode cX10_goBack 65 = .ok (.if_icmp .ne 15, 3) := by decide +kernel
theorem dX10_goBack_68 : decode cX10_goBack 68 = .ok (.aload_n 0, 1) := by decide +kernel
theorem dX10_goBack_69 : decode cX10_goBack 69 = .ok (.getfield 250, 3) := by decide +kernel
theorem dX10_goBack_72 : decode cX10_goBack 72 = .ok (.iload_n 1, 1) := by decide +kernel
theorem dX10_goBack_73 : decode cX10_goBack 73 = .ok (.iload 11, 2) := by decide +kernel
theorem dX10_goBack_75 : decode cX10_goBack 75 = .ok (.iadd, 1) := by decide +kernel
theorem dX10_goBack_76 : decode cX10_goBack 76 = .ok (.laload, 1) := by decide +kernel
theorem dX10_goBack_77 : decode cX10_goBack 77 = .ok (.goto 8, 3) := by decide +kernel
theorem dX10_goBack_80 : decode cX10_goBack 80 = .ok (.iload 11, 2) := by decide +kernel
theorem dX10_goBack_82 : decode cX10_goBack 82 = .ok (.iconst 2, 1) := by decide +kernel
theorem dX10_goBack_83 : decode cX10_goBack 83 = .ok (.irem, 1) := by decide +kernel
theorem dX10_goBack_84 : decode cX10_goBack 84 = .ok (.i2l, 1) := by decide +kernel
theorem dX10_goBack_85 : decode cX10_goBack 85 = .ok (.lcmp, 1) := by decide +kernel
theorem dX10_goBack_86 : decode cX10_goBack 86 = .ok (.ifCond .ne 7, 3) := by decide +kernel
theorem dX10_goBack_89 : decode cX10_goBack 89 = .ok (.iconst 1, 1) := by decide +kernel
theorem dX10_goBack_90 : decode cX10_goBack 90 = .ok (.goto 4, 3) := by decide +kernel
theorem dX10_goBack_93 : decode cX10_goBack 93 = .ok (.iconst 0, 1) := by decide +kernel
theorem dX10_goBack_94 : decode cX10_goBack 94 = .ok (.istore 10, 2) := by decide +kernel
theorem dX10_goBack_96 : decode cX10_goBack 96 = .ok (.iinc 11 1, 3) := by decide +kernel
theorem dX10_goBack_99 : decode cX10_goBack 99 = .ok (.goto (-66), 3) := by decide +kernel
theorem dX10_goBack_102 : decode cX10_goBack 102 = .ok (.iload 10, 2) := by decide +kernel
theorem dX10_goBack_104 : decode cX10_goBack 104 = .ok (.ifCond .ne 8, 3) := by decide +kernel
theorem dX10_goBack_107 : decode cX10_goBack 107 = .ok (.aload_n 0, 1) := by decide +kernel
theorem dX10_goBack_108 : decode cX10_goBack 108 = .ok (.iconst 3, 1) := by decide +kernel
theorem dX10_goBack_109 : decode cX10_goBack 109 = .ok (.putfield 601, 3) := by decide +kernel
theorem dX10_goBack_112 : decode cX10_goBack 112 = .ok (.iinc 9 1, 3) := by decide +kernel
theorem dX10_goBack_115 : decode cX10_goBack 115 = .ok (.goto (-95), 3) := by decide +kernel
theorem dX10_goBack_118 : decode cX10_goBack 118 = .ok (.iinc 8 1, 3) := by decide +kernel
theorem dX10_goBack_121 : decode cX10_goBack 121 = .ok (.goto (-111), 3) := by decide +kernel
theorem dX10_goBack_124 : decode cX10_goBack 124 = .ok (.aload_n 0, 1) := by decide +kernel
theorem dX10_goBack_125 : decode cX10_goBack 125 = .ok (.getfield 601, 3) := by decide +kernel
theorem dX10_goBack_128 : decode cX10_goBack 128 = .ok (.ifCond .le 4, 3) := by decide +kernel
theorem dX10_goBack_131 : decode cX10_goBack 131 = .ok (.return_, 1) := by decide +kernel
theorem dX10_goBack_132 : decode cX10_goBack 132 = .ok (.iconst 1, 1) := by decide +kernel
theorem dX10_goBack_133 : decode cX10_goBack 133 = .ok (.istore 8, 2) := by decide +kernel
theorem dX10_goBack_135 : decode cX10_goBack 135 = .ok (.iload 8, 2) := by decide +kernel
theorem dX10_goBack_137 : decode cX10_goBack 137 = .ok (.iload 4, 2) := by decide +kernel
theorem dX10_goBack_139 : decode cX10_goBack 139 = .ok (.if_icmp .ge 23, 3) := by decide +kernel
theorem dX10_goBack_142 : decode cX10_goBack 142 = .ok (.aload_n 0, 1) := by decide +kernel
theorem dX10_goBack_143 : decode cX10_goBack 143 = .ok (.iload_n 1, 1) := by decide +kernel
theorem dX10_goBack_144 : decode cX10_goBack 144 = .ok (.iload 8, 2) := by decide +kernel
theorem dX10_goBack_146 : decode cX10_goBack 146 = .ok (.iload 8, 2) := by decide +kernel
theorem dX10_goBack_148 : decode cX10_goBack 148 = .ok (.invokestatic 677, 3) := by decide +kernel
theorem dX10_goBack_151 : decode cX10_goBack 151 = .ok (.bipush 98, 2) := by decide +kernel
theorem dX10_goBack_153 : decode cX10_goBack 153 = .ok (.invokevirtual 685, 3) := by decide +kernel
theorem dX10_goBack_156 : decode cX10_goBack 156 = .ok (.iinc 8 1, 3) := by decide +kernel
theorem dX10_goBack_159 : decode cX10_goBack 159 = .ok (.goto (-24), 3) := by decide +kernel
theorem dX10_goBack_162 : decode cX10_goBack 162 = .ok (.iconst 0, 1) := by decide +kernel
theorem dX10_goBack_163 : decode cX10_goBack 163 = .ok (.istore 8, 2) := by decide +kernel
theorem dX10_goBack_165 : decode cX10_goBack 165 = .ok (.iload 8, 2) := by decide +kernel
theorem dX10_goBack_167 : decode cX10_goBack 167 = .ok (.iload 7, 2) := by decide +kernel
theorem dX10_goBack_169 : decode cX10_goBack 169 = .ok (.invokestatic 674, 3) := by decide +kernel
theorem dX10_goBack_172 : decode cX10_goBack 172 = .ok (.if_icmp .ge 121, 3) := by decide +kernel
theorem dX10_goBack_175 : decode cX10_goBack 175 = .ok (.aload_n 0, 1) := by decide +kernel
theorem dX10_goBack_176 : decode cX10_goBack 176 = .ok (.getfield 601, 3) := by decide +kernel
theorem dX10_goBack_179 : decode cX10_goBack 179 = .ok (.ifCond .ne 114, 3) := by decide +kernel
theorem dX10_goBack_182 : decode cX10_goBack 182 = .ok (.iconst 0, 1) := by decide +kernel
theorem dX10_goBack_183 : decode cX10_goBack 183 = .ok (.istore 9, 2) := by decide +kernel
theorem dX10_goBack_185 : decode cX10_goBack 185 = .ok (.iload 9, 2) := by decide +kernel
theorem dX10_goBack_187 : decode cX10_goBack 187 = .ok (.iload 7, 2) := by decide +kernel
theorem dX10_goBack_189 : decode cX10_goBack 189 = .ok (.invokestatic 674, 3) := by decide +kernel
theorem dX10_goBack_192 : decode cX10_goBack 192 = .ok (.if_icmp .ge 95, 3) := by decide +kernel
theorem dX10_goBack_195 : decode cX10_goBack 195 = .ok (.iload_n 1, 1) := by decide +kernel
theorem dX10_goBack_196 : decode cX10_goBack 196 = .ok (.iload 8, 2) := by decide +kernel
theorem dX10_goBack_198 : decode cX10_goBack 198 = .ok (.iload 9, 2) := by decide +kernel
theorem dX10_goBack_200 : decode cX10_goBack 200 = .ok (.invokestatic 677, 3) := by decide +kernel
theorem dX10_goBack_203 : decode cX10_goBack 203 = .ok (.istore 10, 2) := by decide +kernel
theorem dX10_goBack_205 : decode cX10_goBack 205 = .ok (.aload_n 0, 1) := by decide +kernel
theorem dX10_goBack_206 : decode cX10_goBack 206 = .ok (.iload 10, 2) := by decide +kernel
theorem dX10_goBack_208 : decode cX10_goBack 208 = .ok (.iload 6, 2) := by decide +kernel
theorem dX10_goBack_210 : decode cX10_goBack 210 = .ok (.invokestatic 637, 3) := by decide +kernel
theorem dX10_goBack_213 : decode cX10_goBack 213 = .ok (.iadd, 1) := by decide +kernel
theorem dX10_goBack_214 : decode cX10_goBack 214 = .ok (.bipush 98, 2) := by decide +kernel
theorem dX10_goBack_216 : decode cX10_goBack 216 = .ok (.iload 6, 2) := by decide +kernel
theorem dX10_goBack_218 : decode cX10_goBack 218 = .ok (.invokestatic 637, 3) := by decide +kernel
theorem dX10_goBack_221 : decode cX10_goBack 221 = .ok (.isub, 1) := by decide +kernel
theorem dX10_goBack_222 : decode cX10_goBack 222 = .ok (.invokevirtual 671, 3) := by decide +kernel
theorem dX10_goBack_225 : decode cX10_goBack 225 = .ok (.ifCond .ne 8, 3) := by decide +kernel
theorem dX10_goBack_228 : decode cX10_goBack 228 = .ok (.aload_n 0, 1) := by decide +kernel
theorem dX10_goBack_229 : decode cX10_goBack 229 = .ok (.iconst 3, 1) := by decide +kernel
theorem dX10_goBack_230 : decode cX10_goBack 230 = .ok (.putfield 601, 3) := by decide +kernel
theorem dX10_goBack_233 : decode cX10_goBack 233 = .ok (.iconst 0, 1) := by decide +kernel
theorem dX10_goBack_234 : decode cX10_goBack 234 = .ok (.istore 11, 2) := by decide +kernel
theorem dX10_goBack_236 : decode cX10_goBack 236 = .ok (.iload 11, 2) := by decide +kernel
theorem dX10_goBack_238 : decode cX10_goBack 238 = .ok (.bipush 98, 2) := by decide +kernel
theorem dX10_goBack_240 : decode cX10_goBack 240 = .ok (.if_icmp .ge 41, 3) := by decide +kernel
theorem dX10_goBack_243 : decode cX10_goBack 243 = .ok (.iload_n 2, 1) := by decide +kernel
theorem dX10_goBack_244 : decode cX10_goBack 244 = .ok (.iconst 1, 1) := by decide +kernel
theorem dX10_goBack_245 : decode cX10_goBack 245 = .ok (.if_icmp .ne 36, 3) := by decide +kernel
theorem dX10_goBack_248 : decode cX10_goBack 248 = .ok (.iload 5, 2) := by decide +kernel
theorem dX10_goBack_250 : decode cX10_goBack 250 = .ok (.ifCond .ne 31, 3) := by decide +kernel
theorem dX10_goBack_253 : decode cX10_goBack 253 = .ok (.aload_n 0, 1) := by decide +kernel
theorem dX10_goBack_254 : decode cX10_goBack 254 = .ok (.getfield 250, 3) := by decide +kernel
theorem dX10_goBack_257 : decode cX10_goBack 257 = .ok (.iload 10, 2) := by decide +kernel
theorem dX10_goBack_259 : decode cX10_goBack 259 = .ok (.iload 11, 2) := by decide +kernel
theorem dX10_goBack_261 : decode cX10_goBack 261 = .ok (.iadd, 1) := by decide +kernel
theorem dX10_goBack_262 : decode cX10_goBack 262 = .ok (.iconst 1, 1) := by decide +kernel
theorem dX10_goBack_263 : decode cX10_goBack 263 = .ok (.iadd, 1) := by decide +kernel
theorem dX10_goBack_264 : decode cX10_goBack 264 = .ok (.laload, 1) := by decide +kernel
theorem dX10_goBack_265 : decode cX10_goBack 265 = .ok (.lconst 1, 1) := by decide +kernel
theorem dX10_goBack_266 : decode cX10_goBack 266 = .ok (.lcmp, 1) := by decide +kernel
theorem dX10_goBack_267 : decode cX10_goBack 267 = .ok (.ifCond .eq 8, 3) := by decide +kernel
theorem dX10_goBack_270 : decode cX10_goBack 270 = .ok (.aload_n 0, 1) := by decide +kernel
theorem dX10_goBack_271 : decode cX10_goBack 271 = .ok (.iconst 3, 1) := by decide +kernel
theorem dX10_goBack_272 : decode cX10_goBack 272 = .ok (.putfield 601, 3) := by decide +kernel
theorem dX10_goBack_275 : decode cX10_goBack 275 = .ok (.iinc 11 2, 3) := by decide +kernel
theorem dX10_goBack_278 : decode cX10_goBack 278 = .ok (.goto (-42), 3) := by decide +kernel
theorem dX10_goBack_281 : decode cX10_goBack 281 = .ok (.iinc 9 1, 3) := by decide +kernel
theorem dX10_goBack_284 : decode cX10_goBack 284 = .ok (.goto (-99), 3) := by decide +kernel
theorem dX10_goBack_287 : decode cX10_goBack 287 = .ok (.iinc 8 1, 3) := by decide +kernel
theorem dX10_goBack_290 : decode cX10_goBack 290 = .ok (.goto (-125), 3) := by decide +kernel
theorem dX10_goBack_293 : decode cX10_goBack 293 = .ok (.return_, 1) := by decide +kernel
/-! AlgebraHouseModel.goBack(IIIIIII)V -/
def P_X10_goBack_102 (Q : Int → MM → Prop) (K10 : Int → Int → Int → Int → Int → Int → Int → MM → Prop) (K20 : Int → Int → Int → Int → Int → Int → Int → Int → MM → Prop) (x1 : Int) (x2 : Int) (x4 : Int) (x5 : Int) (x6 : Int) (x7 : Int) (x8 : Int) (x9 : Int) (x10 : Int) (m : MM) : Prop := (RI x10) ∧ (if x10 = 0 then ∀ m1 : MM, m1 = up m 582 84 3 → K20 x1 x2 x4 x5 x6 x7 x8 (x9 + 1) m1 else K20 x1 x2 x4 x5 x6 x7 x8 (x9 + 1) m)
def P_X10_goBack_33 (Q : Int → MM → Prop) (K10 : Int → Int → Int → Int → Int → Int → Int → MM → Prop) (K20 : Int → Int → Int → Int → Int → Int → Int → Int → MM → Prop) : Nat → Int → Int → Int → Int → Int → Int → Int → Int → Int → Int → MM → Prop
  | 0, _, _, _, _, _, _, _, _, _, _, _ => False
  | n + 1, x1, x2, x4, x5, x6, x7, x8, x9, x10, x11, m => (RI x11) ∧ (if 98 ≤ x11 then P_X10_goBack_102 Q K10 K20 x1 x2 x4 x5 x6 x7 x8 x9 x10 m else (RI x10) ∧ (if x10 = 0 then P_X10_goBack_102 Q K10 K20 x1 x2 x4 x5 x6 x7 x8 x9 x10 m else P_X10_entryAt x1 x8 x9 m (fun r1 m1 => (0 ≤ (r1 + x11) ∧ (r1 + x11) < 1600000) ∧ ((RI x8) ∧ (RI x9) ∧ (if x8 = x9 then ((0 ≤ (x1 + x11) ∧ (x1 + x11) < 1600000)) else ((RI (Int.tmod x11 2))))) ∧ (RL (m1 635 (r1 + x11))) ∧ (RL (if x8 = x9 then (m1 635 (x1 + x11)) else (Int.tmod x11 2) : Int)) ∧ (if (m1 635 (r1 + x11)) = (if x8 = x9 then (m1 635 (x1 + x11)) else (Int.tmod x11 2) : Int) then P_X10_goBack_33 Q K10 K20 n x1 x2 x4 x5 x6 x7 x8 x9 1 (x11 + 1) m1 else P_X10_goBack_33 Q K10 K20 n x1 x2 x4 x5 x6 x7 x8 x9 0 (x11 + 1) m1))))
def P_X10_goBack_20 (Q : Int → MM → Prop) (K10 : Int → Int → Int → Int → Int → Int → Int → MM → Prop) : Nat → Int → Int → Int → Int → Int → Int → Int → Int → MM → Prop
  | 0, _, _, _, _, _, _, _, _, _ => False
  | n + 1, x1, x2, x4, x5, x6, x7, x8, x9, m => (RI x9) ∧ (RI x4) ∧ (if x4 ≤ x9 then K10 x1 x2 x4 x5 x6 x7 (x8 + 1) m else ∃ nn, P_X10_goBack_33 Q K10 (fun z0 z1 z2 z3 z4 z5 z6 z7 z8 => P_X10_goBack_20 Q K10 n z0 z1 z2 z3 z4 z5 z6 z7 z8) nn x1 x2 x4 x5 x6 x7 x8 x9 1 0 m)
def P_X10_goBack_236 (Q : Int → MM → Prop) (K165 : Int → Int → Int → Int → Int → Int → MM → Prop) (K185 : Int → Int → Int → Int → Int → Int → Int → MM → Prop) : Nat → Int → Int → Int → Int → Int → Int → Int → Int → Int → MM → Prop
  | 0, _, _, _, _, _, _, _, _, _, _ => False
  | n + 1, x1, x2, x5, x6, x7, x8, x9, x10, x11, m => (RI x11) ∧ (if 98 ≤ x11 then K185 x1 x2 x5 x6 x7 x8 (x9 + 1) m else (RI x2) ∧ (if x2 = 1 then (RI x5) ∧ (if x5 = 0 then (0 ≤ ((x10 + x11) + 1) ∧ ((x10 + x11) + 1) < 1600000) ∧ (RL (m 635 ((x10 + x11) + 1))) ∧ (if (m 635 ((x10 + x11) + 1)) = 1 then P_X10_goBack_236 Q K165 K185 n x1 x2 x5 x6 x7 x8 x9 x10 (x11 + 2) m else ∀ m1 : MM, m1 = up m 582 84 3 → P_X10_goBack_236 Q K165 K185 n x1 x2 x5 x6 x7 x8 x9 x10 (x11 + 2) m1) else K185 x1 x2 x5 x6 x7 x8 (x9 + 1) m) else K185 x1 x2 x5 x6 x7 x8 (x9 + 1) m))
def P_X10_goBack_185 (Q : Int → MM → Prop) (K165 : Int → Int → Int → Int → Int → Int → MM → Prop) : Nat → Int → Int → Int → Int → Int → Int → Int → MM → Prop
  | 0, _, _, _, _, _, _, _, _ => False
  | n + 1, x1, x2, x5, x6, x7, x8, x9, m => P_X10_rows x7 m (fun r1 m1 => (RI x9) ∧ (RI r1) ∧ (if r1 ≤ x9 then K165 x1 x2 x5 x6 x7 (x8 + 1) m1 else P_X10_entryAt x1 x8 x9 m1 (fun r2 m2 => P_X10_width x6 m2 (fun r3 m3 => P_X10_width x6 m3 (fun r4 m4 => P_X10_isZero (r2 + r3) (98 - r4) m4 (fun r5 m5 => (RI r5) ∧ (if r5 = 0 then ∀ m6 : MM, m6 = up m5 582 84 3 → ∃ nn, P_X10_goBack_236 Q K165 (fun z0 z1 z2 z3 z4 z5 z6 z7 => P_X10_goBack_185 Q K165 n z0 z1 z2 z3 z4 z5 z6 z7) nn x1 x2 x5 x6 x7 x8 x9 r2 0 m6 else ∃ nn, P_X10_goBack_236 Q K165 (fun z0 z1 z2 z3 z4 z5 z6 z7 => P_X10_goBack_185 Q K165 n z0 z1 z2 z3 z4 z5 z6 z7) nn x1 x2 x5 x6 x7 x8 x9 r2 0 m5)))))))
def P_X10_goBack_165 (Q : Int → MM → Prop) : Nat → Int → Int → Int → Int → Int → Int → MM → Prop
  | 0, _, _, _, _, _, _, _ => False
  | n + 1, x1, x2, x5, x6, x7, x8, m => P_X10_rows x7 m (fun r1 m1 => (RI x8) ∧ (RI r1) ∧ (if r1 ≤ x8 then Q 0 m1 else (RI (m1 582 84)) ∧ (if (m1 582 84) = 0 then ∃ nn, P_X10_goBack_185 Q (fun z0 z1 z2 z3 z4 z5 z6 => P_X10_goBack_165 Q n z0 z1 z2 z3 z4 z5 z6) nn x1 x2 x5 x6 x7 x8 0 m1 else Q 0 m1)))
def P_X10_goBack_135 (Q : Int → MM → Prop) : Nat → Int → Int → Int → Int → Int → Int → Int → MM → Prop
  | 0, _, _, _, _, _, _, _, _ => False
  | n + 1, x1, x2, x4, x5, x6, x7, x8, m => (RI x8) ∧ (RI x4) ∧ (if x4 ≤ x8 then ∃ nn, P_X10_goBack_165 Q nn x1 x2 x5 x6 x7 0 m else P_X10_entryAt x1 x8 x8 m (fun r1 m1 => P_X10_clear r1 98 m1 (fun r2 m2 => P_X10_goBack_135 Q n x1 x2 x4 x5 x6 x7 (x8 + 1) m2)))
def P_X10_goBack_124 (Q : Int → MM → Prop) (x1 : Int) (x2 : Int) (x4 : Int) (x5 : Int) (x6 : Int) (x7 : Int) (m : MM) : Prop := (RI (m 582 84)) ∧ (if (m 582 84) ≤ 0 then ∃ nn, P_X10_goBack_135 Q nn x1 x2 x4 x5 x6 x7 1 m else Q 0 m)
def P_X10_goBack_10 (Q : Int → MM → Prop) : Nat → Int → Int → Int → Int → Int → Int → Int → MM → Prop
  | 0, _, _, _, _, _, _, _, _ => False
  | n + 1, x1, x2, x4, x5, x6, x7, x8, m => (RI x8) ∧ (RI x4) ∧ (if x4 ≤ x8 then P_X10_goBack_124 Q x1 x2 x4 x5 x6 x7 m else ∃ nn, P_X10_goBack_20 Q (fun z0 z1 z2 z3 z4 z5 z6 z7 => P_X10_goBack_10 Q n z0 z1 z2 z3 z4 z5 z6 z7) nn x1 x2 x4 x5 x6 x7 x8 0 m)
def P_X10_goBack (x1 : Int) (x2 : Int) (x3 : Int) (x4 : Int) (x5 : Int) (x6 : Int) (x7 : Int) (m : MM) (Q : Int → MM → Prop) : Prop := (RI x4) ∧ (RI x7) ∧ (if x4 ≤ x7 then ∃ nn, P_X10_goBack_165 Q nn x1 x2 x5 x6 x7 0 m else ∃ nn, P_X10_goBack_10 Q nn x1 x2 x4 x5 x6 x7 0 m)
theorem pl_X10_goBack_102 {f : Nat} {Q : Int → MM → Prop} {T : MM → Prop} (hf : 3 ≤ f) {K10 : Int → Int → Int → Int → Int → Int → Int → MM → Prop} {K20 : Int → Int → Int → Int → Int → Int → Int → Int → MM → Prop} (hK10 : ∀ (x1 : Int) (x2 : Int) (x4 : Int) (x5 : Int) (x6 : Int) (x7 : Int) (x8 : Int) (m : MM), K10 x1 x2 x4 x5 x6 x7 x8 m → B f M_X10_goBack 10 [vR 582, vI x1, vI x2, vU, vI x4, vI x5, vI x6, vI x7, vI x8, vU, vU, vU] [] m Q T) (hK20 : ∀ (x1 : Int) (x2 : Int) (x4 : Int) (x5 : Int) (x6 : Int) (x7 : Int) (x8 : Int) (x9 : Int) (m : MM), K20 x1 x2 x4 x5 x6 x7 x8 x9 m → B f M_X10_goBack 20 [vR 582, vI x1, vI x2, vU, vI x4, vI x5, vI x6, vI x7, vI x8, vI x9, vU, vU] [] m Q T) : ∀ (x1 : Int) (x2 : Int) (x4 : Int) (x5 : Int) (x6 : Int) (x7 : Int) (x8 : Int) (x9 : Int) (x10 : Int) (m : MM), P_X10_goBack_102 Q K10 K20 x1 x2 x4 x5 x6 x7 x8 x9 x10 m → B f M_X10_goBack 102 [vR 582, vI x1, vI x2, vU, vI x4, vI x5, vI x6, vI x7, vI x8, vI x9, vI x10, vU] [] m Q T := by
  intro x1 x2 x4 x5 x6 x7 x8 x9 x10 m h
  have h : (RI x10) ∧ (if x10 = 0 then ∀ m1 : MM, m1 = up m 582 84 3 → K20 x1 x2 x4 x5 x6 x7 x8 (x9 + 1) m1 else K20 x1 x2 x4 x5 x6 x7 x8 (x9 + 1) m) := h
  refine b_iload dX10_goBack_102 rfl ?_
  obtain ⟨g1, h⟩ := h
  refine b_if_ne 112 dX10_goBack_104 g1 (by decide) (fun c1 => ?_) (fun c1 => ?_)
  · have h := ifF c1 h
    refine b_iinc (ls' := [vR 582, vI x1, vI x2, vU, vI x4, vI x5, vI x6, vI x7, vI x8, vI (x9 + 1), vI x10, vU]) dX10_goBack_112 rfl rfl ?_
    refine b_goto 20 dX10_goBack_115 (by decide) ?_
    refine b_fgt [true, true, true, false, true, true, true, true, true, true, false, false] (ls' := [vR 582, vI x1, vI x2, vU, vI x4, vI x5, vI x6, vI x7, vI x8, vI (x9 + 1), vU, vU]) rfl rfl ?_
    exact hK20 _ _ _ _ _ _ _ _ _ h
  · have h := ifT (Decidable.of_not_not c1) h
    refine b_aload_n dX10_goBack_107 rfl ?_
    refine b_iconst dX10_goBack_108 ?_
    refine b_putI dX10_goBack_109 fk_X10_601 ly_582 (fun m1 em1 => ?_)
    have h := h m1 em1
    refine b_iinc (ls' := [vR 582, vI x1, vI x2, vU, vI x4, vI x5, vI x6, vI x7, vI x8, vI (x9 + 1), vI x10, vU]) dX10_goBack_112 rfl rfl ?_
    refine b_goto 20 dX10_goBack_115 (by decide) ?_
    refine b_fgt [true, true, true, false, true, true, true, true, true, true, false, false] (ls' := [vR 582, vI x1, vI x2, vU, vI x4, vI x5, vI x6, vI x7, vI x8, vI (x9 + 1), vU, vU]) rfl rfl ?_
    exact hK20 _ _ _ _ _ _ _ _ _ h
theorem pl_X10_goBack_33 {f : Nat} {Q : Int → MM → Prop} {T : MM → Prop} (hf : 3 ≤ f) {K10 : Int → Int → Int → Int → Int → Int → Int → MM → Prop} {K20 : Int → Int → Int → Int → Int → Int → Int → Int → MM → Prop} (hK10 : ∀ (x1 : Int) (x2 : Int) (x4 : Int) (x5 : Int) (x6 : Int) (x7 : Int) (x8 : Int) (m : MM), K10 x1 x2 x4 x5 x6 x7 x8 m → B f M_X10_goBack 10 [vR 582, vI x1, vI x2, vU, vI x4, vI x5, vI x6, vI x7, vI x8, vU, vU, vU] [] m Q T) (hK20 : ∀ (x1 : Int) (x2 : Int) (x4 : Int) (x5 : Int) (x6 : Int) (x7 : Int) (x8 : Int) (x9 : Int) (m : MM), K20 x1 x2 x4 x5 x6 x7 x8 x9 m → B f M_X10_goBack 20 [vR 582, vI x1, vI x2, vU, vI x4, vI x5, vI x6, vI x7, vI x8, vI x9, vU, vU] [] m Q T) : ∀ (n : Nat) (x1 : Int) (x2 : Int) (x4 : Int) (x5 : Int) (x6 : Int) (x7 : Int) (x8 : Int) (x9 : Int) (x10 : Int) (x11 : Int) (m : MM), P_X10_goBack_33 Q K10 K20 n x1 x2 x4 x5 x6 x7 x8 x9 x10 x11 m → B f M_X10_goBack 33 [vR 582, vI x1, vI x2, vU, vI x4, vI x5, vI x6, vI x7, vI x8, vI x9, vI x10, vI x11] [] m Q T := by
  intro n
  induction n with
  | zero => intro x1 x2 x4 x5 x6 x7 x8 x9 x10 x11 m h; exact h.elim
  | succ n ih =>
    intro x1 x2 x4 x5 x6 x7 x8 x9 x10 x11 m h
    have h : (RI x11) ∧ (if 98 ≤ x11 then P_X10_goBack_102 Q K10 K20 x1 x2 x4 x5 x6 x7 x8 x9 x10 m else (RI x10) ∧ (if x10 = 0 then P_X10_goBack_102 Q K10 K20 x1 x2 x4 x5 x6 x7 x8 x9 x10 m else P_X10_entryAt x1 x8 x9 m (fun r1 m1 => (0 ≤ (r1 + x11) ∧ (r1 + x11) < 1600000) ∧ ((RI x8) ∧ (RI x9) ∧ (if x8 = x9 then ((0 ≤ (x1 + x11) ∧ (x1 + x11) < 1600000)) else ((RI (Int.tmod x11 2))))) ∧ (RL (m1 635 (r1 + x11))) ∧ (RL (if x8 = x9 then (m1 635 (x1 + x11)) else (Int.tmod x11 2) : Int)) ∧ (if (m1 635 (r1 + x11)) = (if x8 = x9 then (m1 635 (x1 + x11)) else (Int.tmod x11 2) : Int) then P_X10_goBack_33 Q K10 K20 n x1 x2 x4 x5 x6 x7 x8 x9 1 (x11 + 1) m1 else P_X10_goBack_33 Q K10 K20 n x1 x2 x4 x5 x6 x7 x8 x9 0 (x11 + 1) m1)))) := h
    refine b_iload dX10_goBack_33 rfl ?_
    refine b_bipush dX10_goBack_35 (by decide) ?_
    obtain ⟨g1, h⟩ := h
    refine b_icmp_ge 102 dX10_goBack_37 g1 (by decide) (by decide) (fun c1 => ?_) (fun c1 => ?_)
    · have h := ifT c1 h
      refine b_fgt [true, true, true, false, true, true, true, true, true, true, true, false] (ls' := [vR 582, vI x1, vI x2, vU, vI x4, vI x5, vI x6, vI x7, vI x8, vI x9, vI x10, vU]) rfl rfl ?_
      exact pl_X10_goBack_102 hf hK10 hK20 _ _ _ _ _ _ _ _ _ _ h
    · have h := ifF c1 h
      refine b_iload dX10_goBack_40 rfl ?_
      obtain ⟨g2, h⟩ := h
      refine b_if_eq 102 dX10_goBack_42 g2 (by decide) (fun c2 => ?_) (fun c2 => ?_)
      · have h := ifT c2 h
        refine b_fgt [true, true, true, false, true, true, true, true, true, true, true, false] (ls' := [vR 582, vI x1, vI x2, vU, vI x4, vI x5, vI x6, vI x7, vI x8, vI x9, vI x10, vU]) rfl rfl ?_
        exact pl_X10_goBack_102 hf hK10 hK20 _ _ _ _ _ _ _ _ _ _ h
      · have h := ifF c2 h
        refine b_aload_n dX10_goBack_45 rfl ?_
        refine b_getR dX10_goBack_46 fk_X10_250 ly_582 gg_582_85 ?_
        refine b_iload_n dX10_goBack_49 rfl ?_
        refine b_iload dX10_goBack_50 rfl ?_
        refine b_iload dX10_goBack_52 rfl ?_
        refine b_cSi (as := [vI x1, vI x8, vI x9]) (st := [vR 635]) dX10_goBack_54 mf_X10_entryAt lk_X10_677 (p_X10_entryAt (f := 1) (Nat.le_refl _) _ _ _ _ h) (by omega) rfl rfl (Nat.le_of_ble_eq_true rfl) (by decide) rfl (fun _ => rfl) (fun r1 m1 h => ?_) (fun _ h => h)
        refine b_iload dX10_goBack_57 rfl ?_
        refine b_iadd dX10_goBack_59 ?_
        obtain ⟨g3, h⟩ := h
        refine b_lald dX10_goBack_60 ly_635 g3 ?_
        refine b_iload dX10_goBack_61 rfl ?_
        refine b_iload dX10_goBack_63 rfl ?_
        obtain ⟨hs, h⟩ := h
        have K : B f M_X10_goBack 85 [vR 582, vI x1, vI x2, vU, vI x4, vI x5, vI x6, vI x7, vI x8, vI x9, vI x10, vI x11] [vL (if x8 = x9 then (m1 635 (x1 + x11)) else (Int.tmod x11 2) : Int), vL (m1 635 (r1 + x11))] m1 Q T := by
          clear hs
          obtain ⟨g8, h⟩ := h
          obtain ⟨g9, h⟩ := h
          refine b_lc_ne 93 dX10_goBack_85 dX10_goBack_86 g8 g9 (by decide) (fun c3 => ?_) (fun c3 => ?_)
          · have h := ifF c3 h
            refine b_iconst dX10_goBack_93 ?_
            refine b_istore (ls' := [vR 582, vI x1, vI x2, vU, vI x4, vI x5, vI x6, vI x7, vI x8, vI x9, vI 0, vI x11]) dX10_goBack_94 (Nat.le_of_ble_eq_true rfl) rfl ?_
            refine b_iinc (ls' := [vR 582, vI x1, vI x2, vU, vI x4, vI x5, vI x6, vI x7, vI x8, vI x9, vI 0, vI (x11 + 1)]) dX10_goBack_96 rfl rfl ?_
            refine b_goto 33 dX10_goBack_99 (by decide) ?_
            exact ih _ _ _ _ _ _ _ _ _ _ _ h
          · have h := ifT (Decidable.of_not_not c3) h
            refine b_iconst dX10_goBack_89 ?_
            refine b_goto 94 dX10_goBack_90 (by decide) ?_
            refine b_istore (ls' := [vR 582, vI x1, vI x2, vU, vI x4, vI x5, vI x6, vI x7, vI x8, vI x9, vI 1, vI x11]) dX10_goBack_94 (Nat.le_of_ble_eq_true rfl) rfl ?_
            refine b_iinc (ls' := [vR 582, vI x1, vI x2, vU, vI x4, vI x5, vI x6, vI x7, vI x8, vI x9, vI 1, vI (x11 + 1)]) dX10_goBack_96 rfl rfl ?_
            refine b_goto 33 dX10_goBack_99 (by decide) ?_
            exact ih _ _ _ _ _ _ _ _ _ _ _ h
        obtain ⟨g4, g5, hs⟩ := hs
        refine b_icmp_ne 80 dX10_goBack_65 g4 g5 (by decide) (fun c4 => ?_) (fun c4 => ?_)
        ·
          have hs := ifF c4 hs
          have g6 := hs
          refine b_iload dX10_goBack_80 rfl ?_
          refine b_iconst dX10_goBack_82 ?_
          refine b_irem dX10_goBack_83 g1 (by decide) (by decide) ?_
          refine b_i2l dX10_goBack_84 g6 ?_
          exact Eq.mp (congrArg (fun z => B f M_X10_goBack 85 [vR 582, vI x1, vI x2, vU, vI x4, vI x5, vI x6, vI x7, vI x8, vI x9, vI x10, vI x11] (vL z :: [vL (m1 635 (r1 + x11))]) m1 Q T) (show (if x8 = x9 then (m1 635 (x1 + x11)) else (Int.tmod x11 2) : Int) = (Int.tmod x11 2) by rw [if_neg c4])) K
        ·
          have c4 := Decidable.of_not_not c4
          have hs := ifT c4 hs
          have g7 := hs
          refine b_aload_n dX10_goBack_68 rfl ?_
          refine b_getR dX10_goBack_69 fk_X10_250 ly_582 gg_582_85 ?_
          refine b_iload_n dX10_goBack_72 rfl ?_
          refine b_iload dX10_goBack_73 rfl ?_
          refine b_iadd dX10_goBack_75 ?_
          refine b_lald dX10_goBack_76 ly_635 g7 ?_
          refine b_goto 85 dX10_goBack_77 (by decide) ?_
          exact Eq.mp (congrArg (fun z => B f M_X10_goBack 85 [vR 582, vI x1, vI x2, vU, vI x4, vI x5, vI x6, vI x7, vI x8, vI x9, vI x10, vI x11] (vL z :: [vL (m1 635 (r1 + x11))]) m1 Q T) (show (if x8 = x9 then (m1 635 (x1 + x11)) else (Int.tmod x11 2) : Int) = (m1 635 (x1 + x11)) by rw [if_pos c4])) K
theorem pl_X10_goBack_20 {f : Nat} {Q : Int → MM → Prop} {T : MM → Prop} (hf : 3 ≤ f) {K10 : Int → Int → Int → Int → Int → Int → Int → MM → Prop} (hK10 : ∀ (x1 : Int) (x2 : Int) (x4 : Int) (x5 : Int) (x6 : Int) (x7 : Int) (x8 : Int) (m : MM), K10 x1 x2 x4 x5 x6 x7 x8 m → B f M_X10_goBack 10 [vR 582, vI x1, vI x2, vU, vI x4, vI x5, vI x6, vI x7, vI x8, vU, vU, vU] [] m Q T) : ∀ (n : Nat) (x1 : Int) (x2 : Int) (x4 : Int) (x5 : Int) (x6 : Int) (x7 : Int) (x8 : Int) (x9 : Int) (m : MM), P_X10_goBack_20 Q K10 n x1 x2 x4 x5 x6 x7 x8 x9 m → B f M_X10_goBack 20 [vR 582, vI x1, vI x2, vU, vI x4, vI x5, vI x6, vI x7, vI x8, vI x9, vU, vU] [] m Q T := by
  intro n
  induction n with
  | zero => intro x1 x2 x4 x5 x6 x7 x8 x9 m h; exact h.elim
  | succ n ih =>
    intro x1 x2 x4 x5 x6 x7 x8 x9 m h
    have h : (RI x9) ∧ (RI x4) ∧ (if x4 ≤ x9 then K10 x1 x2 x4 x5 x6 x7 (x8 + 1) m else ∃ nn, P_X10_goBack_33 Q K10 (fun z0 z1 z2 z3 z4 z5 z6 z7 z8 => P_X10_goBack_20 Q K10 n z0 z1 z2 z3 z4 z5 z6 z7 z8) nn x1 x2 x4 x5 x6 x7 x8 x9 1 0 m) := h
    refine b_iload dX10_goBack_20 rfl ?_
    refine b_iload dX10_goBack_22 rfl ?_
    obtain ⟨g1, h⟩ := h
    obtain ⟨g2, h⟩ := h
    refine b_icmp_ge 118 dX10_goBack_24 g1 g2 (by decide) (fun c1 => ?_) (fun c1 => ?_)
    · have h := ifT c1 h
      refine b_iinc (ls' := [vR 582, vI x1, vI x2, vU, vI x4, vI x5, vI x6, vI x7, vI (x8 + 1), vI x9, vU, vU]) dX10_goBack_118 rfl rfl ?_
      refine b_goto 10 dX10_goBack_121 (by decide) ?_
      refine b_fgt [true, true, true, false, true, true, true, true, true, false, false, false] (ls' := [vR 582, vI x1, vI x2, vU, vI x4, vI x5, vI x6, vI x7, vI (x8 + 1), vU, vU, vU]) rfl rfl ?_
      exact hK10 _ _ _ _ _ _ _ _ h
    · have h := ifF c1 h
      refine b_iconst dX10_goBack_27 ?_
      refine b_istore (ls' := [vR 582, vI x1, vI x2, vU, vI x4, vI x5, vI x6, vI x7, vI x8, vI x9, vI 1, vU]) dX10_goBack_28 (Nat.le_of_ble_eq_true rfl) rfl ?_
      refine b_iconst dX10_goBack_30 ?_
      refine b_istore (ls' := [vR 582, vI x1, vI x2, vU, vI x4, vI x5, vI x6, vI x7, vI x8, vI x9, vI 1, vI 0]) dX10_goBack_31 (Nat.le_of_ble_eq_true rfl) rfl ?_
      obtain ⟨nn, h⟩ := h
      exact pl_X10_goBack_33 hf hK10 (fun _ _ _ _ _ _ _ _ _ h => ih _ _ _ _ _ _ _ _ _ h) nn _ _ _ _ _ _ _ _ _ _ _ h
theorem pl_X10_goBack_236 {f : Nat} {Q : Int → MM → Prop} {T : MM → Prop} (hf : 3 ≤ f) {K165 : Int → Int → Int → Int → Int → Int → MM → Prop} {K185 : Int → Int → Int → Int → Int → Int → Int → MM → Prop} (hK165 : ∀ (x1 : Int) (x2 : Int) (x5 : Int) (x6 : Int) (x7 : Int) (x8 : Int) (m : MM), K165 x1 x2 x5 x6 x7 x8 m → B f M_X10_goBack 165 [vR 582, vI x1, vI x2, vU, vU, vI x5, vI x6, vI x7, vI x8, vU, vU, vU] [] m Q T) (hK185 : ∀ (x1 : Int) (x2 : Int) (x5 : Int) (x6 : Int) (x7 : Int) (x8 : Int) (x9 : Int) (m : MM), K185 x1 x2 x5 x6 x7 x8 x9 m → B f M_X10_goBack 185 [vR 582, vI x1, vI x2, vU, vU, vI x5, vI x6, vI x7, vI x8, vI x9, vU, vU] [] m Q T) : ∀ (n : Nat) (x1 : Int) (x2 : Int) (x5 : Int) (x6 : Int) (x7 : Int) (x8 : Int) (x9 : Int) (x10 : Int) (x11 : Int) (m : MM), P_X10_goBack_236 Q K165 K185 n x1 x2 x5 x6 x7 x8 x9 x10 x11 m → B f M_X10_goBack 236 [vR 582, vI x1, vI x2, vU, vU, vI x5, vI x6, vI x7, vI x8, vI x9, vI x10, vI x11] [] m Q T := by
  intro n
  induction n with
  | zero => intro x1 x2 x5 x6 x7 x8 x9 x10 x11 m h; exact h.elim
  | succ n ih =>
    intro x1 x2 x5 x6 x7 x8 x9 x10 x11 m h
    have h : (RI x11) ∧ (if 98 ≤ x11 then K185 x1 x2 x5 x6 x7 x8 (x9 + 1) m else (RI x2) ∧ (if x2 = 1 then (RI x5) ∧ (if x5 = 0 then (0 ≤ ((x10 + x11) + 1) ∧ ((x10 + x11) + 1) < 1600000) ∧ (RL (m 635 ((x10 + x11) + 1))) ∧ (if (m 635 ((x10 + x11) + 1)) = 1 then P_X10_goBack_236 Q K165 K185 n x1 x2 x5 x6 x7 x8 x9 x10 (x11 + 2) m else ∀ m1 : MM, m1 = up m 582 84 3 → P_X10_goBack_236 Q K165 K185 n x1 x2 x5 x6 x7 x8 x9 x10 (x11 + 2) m1) else K185 x1 x2 x5 x6 x7 x8 (x9 + 1) m) else K185 x1 x2 x5 x6 x7 x8 (x9 + 1) m)) := h
    refine b_iload dX10_goBack_236 rfl ?_
    refine b_bipush dX10_goBack_238 (by decide) ?_
    obtain ⟨g1, h⟩ := h
    refine b_icmp_ge 281 dX10_goBack_240 g1 (by decide) (by decide) (fun c1 => ?_) (fun c1 => ?_)
    · have h := ifT c1 h
      refine b_iinc (ls' := [vR 582, vI x1, vI x2, vU, vU, vI x5, vI x6, vI x7, vI x8, vI (x9 + 1), vI x10, vI x11]) dX10_goBack_281 rfl rfl ?_
      refine b_goto 185 dX10_goBack_284 (by decide) ?_
      refine b_fgt [true, true, true, false, false, true, true, true, true, true, false, false] (ls' := [vR 582, vI x1, vI x2, vU, vU, vI x5, vI x6, vI x7, vI x8, vI (x9 + 1), vU, vU]) rfl rfl ?_
      exact hK185 _ _ _ _ _ _ _ _ h
    · have h := ifF c1 h
      refine b_iload_n dX10_goBack_243 rfl ?_
      refine b_iconst dX10_goBack_244 ?_
      obtain ⟨g2, h⟩ := h
      refine b_icmp_ne 281 dX10_goBack_245 g2 (by decide) (by decide) (fun c2 => ?_) (fun c2 => ?_)
      · have h := ifF c2 h
        refine b_iinc (ls' := [vR 582, vI x1, vI x2, vU, vU, vI x5, vI x6, vI x7, vI x8, vI (x9 + 1), vI x10, vI x11]) dX10_goBack_281 rfl rfl ?_
        refine b_goto 185 dX10_goBack_284 (by decide) ?_
        refine b_fgt [true, true, true, false, false, true, true, true, true, true, false, false] (ls' := [vR 582, vI x1, vI x2, vU, vU, vI x5, vI x6, vI x7, vI x8, vI (x9 + 1), vU, vU]) rfl rfl ?_
        exact hK185 _ _ _ _ _ _ _ _ h
      · have h := ifT (Decidable.of_not_not c2) h
        refine b_iload dX10_goBack_248 rfl ?_
        obtain ⟨g3, h⟩ := h
        refine b_if_ne 281 dX10_goBack_250 g3 (by decide) (fun c3 => ?_) (fun c3 => ?_)
        · have h := ifF c3 h
          refine b_iinc (ls' := [vR 582, vI x1, vI x2, vU, vU, vI x5, vI x6, vI x7, vI x8, vI (x9 + 1), vI x10, vI x11]) dX10_goBack_281 rfl rfl ?_
          refine b_goto 185 dX10_goBack_284 (by decide) ?_
          refine b_fgt [true, true, true, false, false, true, true, true, true, true, false, false] (ls' := [vR 582, vI x1, vI x2, vU, vU, vI x5, vI x6, vI x7, vI x8, vI (x9 + 1), vU, vU]) rfl rfl ?_
          exact hK185 _ _ _ _ _ _ _ _ h
        · have h := ifT (Decidable.of_not_not c3) h
          refine b_aload_n dX10_goBack_253 rfl ?_
          refine b_getR dX10_goBack_254 fk_X10_250 ly_582 gg_582_85 ?_
          refine b_iload dX10_goBack_257 rfl ?_
          refine b_iload dX10_goBack_259 rfl ?_
          refine b_iadd dX10_goBack_261 ?_
          refine b_iconst dX10_goBack_262 ?_
          refine b_iadd dX10_goBack_263 ?_
          obtain ⟨g4, h⟩ := h
          refine b_lald dX10_goBack_264 ly_635 g4 ?_
          refine b_lconst 1 dX10_goBack_265 (by decide) ?_
          obtain ⟨g5, h⟩ := h
          refine b_lc_eq 275 dX10_goBack_266 dX10_goBack_267 g5 (by decide) (by decide) (fun c4 => ?_) (fun c4 => ?_)
          · have h := ifT c4 h
            refine b_iinc (ls' := [vR 582, vI x1, vI x2, vU, vU, vI x5, vI x6, vI x7, vI x8, vI x9, vI x10, vI (x11 + 2)]) dX10_goBack_275 rfl rfl ?_
            refine b_goto 236 dX10_goBack_278 (by decide) ?_
            exact ih _ _ _ _ _ _ _ _ _ _ h
          · have h := ifF c4 h
            refine b_aload_n dX10_goBack_270 rfl ?_
            refine b_iconst dX10_goBack_271 ?_
            refine b_putI dX10_goBack_272 fk_X10_601 ly_582 (fun m1 em1 => ?_)
            have h := h m1 em1
            refine b_iinc (ls' := [vR 582, vI x1, vI x2, vU, vU, vI x5, vI x6, vI x7, vI x8, vI x9, vI x10, vI (x11 + 2)]) dX10_goBack_275 rfl rfl ?_
            refine b_goto 236 dX10_goBack_278 (by decide) ?_
            exact ih _ _ _ _ _ _ _ _ _ _ h
theorem pl_X10_goBack_185 {f : Nat} {Q : Int → MM → Prop} {T : MM → Prop} (hf : 3 ≤ f) {K165 : Int → Int → Int → Int → Int → Int → MM → Prop} (hK165 : ∀ (x1 : Int) (x2 : Int) (x5 : Int) (x6 : Int) (x7 : Int) (x8 : Int) (m : MM), K165 x1 x2 x5 x6 x7 x8 m → B f M_X10_goBack 165 [vR 582, vI x1, vI x2, vU, vU, vI x5, vI x6, vI x7, vI x8, vU, vU, vU] [] m Q T) : ∀ (n : Nat) (x1 : Int) (x2 : Int) (x5 : Int) (x6 : Int) (x7 : Int) (x8 : Int) (x9 : Int) (m : MM), P_X10_goBack_185 Q K165 n x1 x2 x5 x6 x7 x8 x9 m → B f M_X10_goBack 185 [vR 582, vI x1, vI x2, vU, vU, vI x5, vI x6, vI x7, vI x8, vI x9, vU, vU] [] m Q T := by
  intro n
  induction n with
  | zero => intro x1 x2 x5 x6 x7 x8 x9 m h; exact h.elim
  | succ n ih =>
    intro x1 x2 x5 x6 x7 x8 x9 m h
    have h : P_X10_rows x7 m (fun r1 m1 => (RI x9) ∧ (RI r1) ∧ (if r1 ≤ x9 then K165 x1 x2 x5 x6 x7 (x8 + 1) m1 else P_X10_entryAt x1 x8 x9 m1 (fun r2 m2 => P_X10_width x6 m2 (fun r3 m3 => P_X10_width x6 m3 (fun r4 m4 => P_X10_isZero (r2 + r3) (98 - r4) m4 (fun r5 m5 => (RI r5) ∧ (if r5 = 0 then ∀ m6 : MM, m6 = up m5 582 84 3 → ∃ nn, P_X10_goBack_236 Q K165 (fun z0 z1 z2 z3 z4 z5 z6 z7 => P_X10_goBack_185 Q K165 n z0 z1 z2 z3 z4 z5 z6 z7) nn x1 x2 x5 x6 x7 x8 x9 r2 0 m6 else ∃ nn, P_X10_goBack_236 Q K165 (fun z0 z1 z2 z3 z4 z5 z6 z7 => P_X10_goBack_185 Q K165 n z0 z1 z2 z3 z4 z5 z6 z7) nn x1 x2 x5 x6 x7 x8 x9 r2 0 m5))))))) := h
    refine b_iload dX10_goBack_185 rfl ?_
    refine b_iload dX10_goBack_187 rfl ?_
    refine b_cSi (as := [vI x7]) (st := [vI x9]) dX10_goBack_189 mf_X10_rows lk_X10_674 (p_X10_rows (f := 1) (Nat.le_refl _) _ _ h) (by omega) rfl rfl (Nat.le_of_ble_eq_true rfl) (by decide) rfl (fun _ => rfl) (fun r1 m1 h => ?_) (fun _ h => h)
    obtain ⟨g1, h⟩ := h
    obtain ⟨g2, h⟩ := h
    refine b_icmp_ge 287 dX10_goBack_192 g1 g2 (by decide) (fun c1 => ?_) (fun c1 => ?_)
    · have h := ifT c1 h
      refine b_iinc (ls' := [vR 582, vI x1, vI x2, vU, vU, vI x5, vI x6, vI x7, vI (x8 + 1), vI x9, vU, vU]) dX10_goBack_287 rfl rfl ?_
      refine b_goto 165 dX10_goBack_290 (by decide) ?_
      refine b_fgt [true, true, true, false, false, true, true, true, true, false, false, false] (ls' := [vR 582, vI x1, vI x2, vU, vU, vI x5, vI x6, vI x7, vI (x8 + 1), vU, vU, vU]) rfl rfl ?_
      exact hK165 _ _ _ _ _ _ _ h
    · have h := ifF c1 h
      refine b_iload_n dX10_goBack_195 rfl ?_
      refine b_iload dX10_goBack_196 rfl ?_
      refine b_iload dX10_goBack_198 rfl ?_
      refine b_cSi (as := [vI x1, vI x8, vI x9]) (st := []) dX10_goBack_200 mf_X10_entryAt lk_X10_677 (p_X10_entryAt (f := 1) (Nat.le_refl _) _ _ _ _ h) (by omega) rfl rfl (Nat.le_of_ble_eq_true rfl) (by decide) rfl (fun _ => rfl) (fun r2 m2 h => ?_) (fun _ h => h)
      refine b_istore (ls' := [vR 582, vI x1, vI x2, vU, vU, vI x5, vI x6, vI x7, vI x8, vI x9, vI r2, vU]) dX10_goBack_203 (Nat.le_of_ble_eq_true rfl) rfl ?_
      refine b_aload_n dX10_goBack_205 rfl ?_
      refine b_iload dX10_goBack_206 rfl ?_
      refine b_iload dX10_goBack_208 rfl ?_
      refine b_cSi (as := [vI x6]) (st := [vI r2, vR 582]) dX10_goBack_210 mf_X10_width lk_X10_637 (p_X10_width (f := 1) (Nat.le_refl _) _ _ h) (by omega) rfl rfl (Nat.le_of_ble_eq_true rfl) (by decide) rfl (fun _ => rfl) (fun r3 m3 h => ?_) (fun _ h => h)
      refine b_iadd dX10_goBack_213 ?_
      refine b_bipush dX10_goBack_214 (by decide) ?_
      refine b_iload dX10_goBack_216 rfl ?_
      refine b_cSi (as := [vI x6]) (st := [vI 98, vI (r2 + r3), vR 582]) dX10_goBack_218 mf_X10_width lk_X10_637 (p_X10_width (f := 1) (Nat.le_refl _) _ _ h) (by omega) rfl rfl (Nat.le_of_ble_eq_true rfl) (by decide) rfl (fun _ => rfl) (fun r4 m4 h => ?_) (fun _ h => h)
      refine b_isub dX10_goBack_221 ?_
      refine b_cVi (as := [vI (r2 + r3), vI (98 - r4)]) (st := []) dX10_goBack_222 mf_X10_isZero qs179 lk_X10_671 ly_582 rfl (p_X10_isZero (f := 1) (Nat.le_refl _) _ _ _ h) (by omega) rfl rfl (Nat.le_of_ble_eq_true rfl) (by decide) rfl (fun _ => rfl) (fun r5 m5 h => ?_) (fun _ h => h)
      obtain ⟨g3, h⟩ := h
      refine b_if_ne 233 dX10_goBack_225 g3 (by decide) (fun c2 => ?_) (fun c2 => ?_)
      · have h := ifF c2 h
        refine b_iconst dX10_goBack_233 ?_
        refine b_istore (ls' := [vR 582, vI x1, vI x2, vU, vU, vI x5, vI x6, vI x7, vI x8, vI x9, vI r2, vI 0]) dX10_goBack_234 (Nat.le_of_ble_eq_true rfl) rfl ?_
        obtain ⟨nn, h⟩ := h
        exact pl_X10_goBack_236 hf hK165 (fun _ _ _ _ _ _ _ _ h => ih _ _ _ _ _ _ _ _ h) nn _ _ _ _ _ _ _ _ _ _ h
      · have h := ifT (Decidable.of_not_not c2) h
        refine b_aload_n dX10_goBack_228 rfl ?_
        refine b_iconst dX10_goBack_229 ?_
        refine b_putI dX10_goBack_230 fk_X10_601 ly_582 (fun m6 em6 => ?_)
        have h := h m6 em6
        refine b_iconst dX10_goBack_233 ?_
        refine b_istore (ls' := [vR 582, vI x1, vI x2, vU, vU, vI x5, vI x6, vI x7, vI x8, vI x9, vI r2, vI 0]) dX10_goBack_234 (Nat.le_of_ble_eq_true rfl) rfl ?_
        obtain ⟨nn, h⟩ := h
        exact pl_X10_goBack_236 hf hK165 (fun _ _ _ _ _ _ _ _ h => ih _ _ _ _ _ _ _ _ h) nn _ _ _ _ _ _ _ _ _ _ h
theorem pl_X10_goBack_165 {f : Nat} {Q : Int → MM → Prop} {T : MM → Prop} (hf : 3 ≤ f) : ∀ (n : Nat) (x1 : Int) (x2 : Int) (x5 : Int) (x6 : Int) (x7 : Int) (x8 : Int) (m : MM), P_X10_goBack_165 Q n x1 x2 x5 x6 x7 x8 m → B f M_X10_goBack 165 [vR 582, vI x1, vI x2, vU, vU, vI x5, vI x6, vI x7, vI x8, vU, vU, vU] [] m Q T := by
  intro n
  induction n with
  | zero => intro x1 x2 x5 x6 x7 x8 m h; exact h.elim
  | succ n ih =>
    intro x1 x2 x5 x6 x7 x8 m h
    have h : P_X10_rows x7 m (fun r1 m1 => (RI x8) ∧ (RI r1) ∧ (if r1 ≤ x8 then Q 0 m1 else (RI (m1 582 84)) ∧ (if (m1 582 84) = 0 then ∃ nn, P_X10_goBack_185 Q (fun z0 z1 z2 z3 z4 z5 z6 => P_X10_goBack_165 Q n z0 z1 z2 z3 z4 z5 z6) nn x1 x2 x5 x6 x7 x8 0 m1 else Q 0 m1))) := h
    refine b_iload dX10_goBack_165 rfl ?_
    refine b_iload dX10_goBack_167 rfl ?_
    refine b_cSi (as := [vI x7]) (st := [vI x8]) dX10_goBack_169 mf_X10_rows lk_X10_674 (p_X10_rows (f := 1) (Nat.le_refl _) _ _ h) (by omega) rfl rfl (Nat.le_of_ble_eq_true rfl) (by decide) rfl (fun _ => rfl) (fun r1 m1 h => ?_) (fun _ h => h)
    obtain ⟨g1, h⟩ := h
    obtain ⟨g2, h⟩ := h
    refine b_icmp_ge 293 dX10_goBack_172 g1 g2 (by decide) (fun c1 => ?_) (fun c1 => ?_)
    · have h := ifT c1 h
      exact b_vret dX10_goBack_293 rfl h
    · have h := ifF c1 h
      refine b_aload_n dX10_goBack_175 rfl ?_
      refine b_getI dX10_goBack_176 fk_X10_601 ly_582 ?_
      obtain ⟨g3, h⟩ := h
      refine b_if_ne 293 dX10_goBack_179 g3 (by decide) (fun c2 => ?_) (fun c2 => ?_)
      · have h := ifF c2 h
        exact b_vret dX10_goBack_293 rfl h
      · have h := ifT (Decidable.of_not_not c2) h
        refine b_iconst dX10_goBack_182 ?_
        refine b_istore (ls' := [vR 582, vI x1, vI x2, vU, vU, vI x5, vI x6, vI x7, vI x8, vI 0, vU, vU]) dX10_goBack_183 (Nat.le_of_ble_eq_true rfl) rfl ?_
        obtain ⟨nn, h⟩ := h
        exact pl_X10_goBack_185 hf (fun _ _ _ _ _ _ _ h => ih _ _ _ _ _ _ _ h) nn _ _ _ _ _ _ _ _ h
theorem pl_X10_goBack_135 {f : Nat} {Q : Int → MM → Prop} {T : MM → Prop} (hf : 3 ≤ f) : ∀ (n : Nat) (x1 : Int) (x2 : Int) (x4 : Int) (x5 : Int) (x6 : Int) (x7 : Int) (x8 : Int) (m : MM), P_X10_goBack_135 Q n x1 x2 x4 x5 x6 x7 x8 m → B f M_X10_goBack 135 [vR 582, vI x1, vI x2, vU, vI x4, vI x5, vI x6, vI x7, vI x8, vU, vU, vU] [] m Q T := by
  intro n
  induction n with
  | zero => intro x1 x2 x4 x5 x6 x7 x8 m h; exact h.elim
  | succ n ih =>
    intro x1 x2 x4 x5 x6 x7 x8 m h
    have h : (RI x8) ∧ (RI x4) ∧ (if x4 ≤ x8 then ∃ nn, P_X10_goBack_165 Q nn x1 x2 x5 x6 x7 0 m else P_X10_entryAt x1 x8 x8 m (fun r1 m1 => P_X10_clear r1 98 m1 (fun r2 m2 => P_X10_goBack_135 Q n x1 x2 x4 x5 x6 x7 (x8 + 1) m2))) := h
    refine b_iload dX10_goBack_135 rfl ?_
    refine b_iload dX10_goBack_137 rfl ?_
    obtain ⟨g1, h⟩ := h
    obtain ⟨g2, h⟩ := h
    refine b_icmp_ge 162 dX10_goBack_139 g1 g2 (by decide) (fun c1 => ?_) (fun c1 => ?_)
    · have h := ifT c1 h
      refine b_iconst dX10_goBack_162 ?_
      refine b_istore (ls' := [vR 582, vI x1, vI x2, vU, vI x4, vI x5, vI x6, vI x7, vI 0, vU, vU, vU]) dX10_goBack_163 (Nat.le_of_ble_eq_true rfl) rfl ?_
      refine b_fgt [true, true, true, false, false, true, true, true, true, false, false, false] (ls' := [vR 582, vI x1, vI x2, vU, vU, vI x5, vI x6, vI x7, vI 0, vU, vU, vU]) rfl rfl ?_
      obtain ⟨nn, h⟩ := h
      exact pl_X10_goBack_165 hf nn _ _ _ _ _ _ _ h
    · have h := ifF c1 h
      refine b_aload_n dX10_goBack_142 rfl ?_
      refine b_iload_n dX10_goBack_143 rfl ?_
      refine b_iload dX10_goBack_144 rfl ?_
      refine b_iload dX10_goBack_146 rfl ?_
      refine b_cSi (as := [vI x1, vI x8, vI x8]) (st := [vR 582]) dX10_goBack_148 mf_X10_entryAt lk_X10_677 (p_X10_entryAt (f := 1) (Nat.le_refl _) _ _ _ _ h) (by omega) rfl rfl (Nat.le_of_ble_eq_true rfl) (by decide) rfl (fun _ => rfl) (fun r1 m1 h => ?_) (fun _ h => h)
      refine b_bipush dX10_goBack_151 (by decide) ?_
      refine b_cVv (as := [vI r1, vI 98]) (st := []) dX10_goBack_153 mf_X10_clear qs162 lk_X10_685 ly_582 rfl (p_X10_clear (f := 2) (Nat.le_refl _) _ _ _ h) (by omega) rfl rfl (Nat.le_of_ble_eq_true rfl) (by decide) rfl (fun _ => rfl) (fun r2 m2 h => ?_) (fun _ h => h)
      refine b_iinc (ls' := [vR 582, vI x1, vI x2, vU, vI x4, vI x5, vI x6, vI x7, vI (x8 + 1), vU, vU, vU]) dX10_goBack_156 rfl rfl ?_
      refine b_goto 135 dX10_goBack_159 (by decide) ?_
      exact ih _ _ _ _ _ _ _ _ h
theorem pl_X10_goBack_124 {f : Nat} {Q : Int → MM → Prop} {T : MM → Prop} (hf : 3 ≤ f) : ∀ (x1 : Int) (x2 : Int) (x4 : Int) (x5 : Int) (x6 : Int) (x7 : Int) (m : MM), P_X10_goBack_124 Q x1 x2 x4 x5 x6 x7 m → B f M_X10_goBack 124 [vR 582, vI x1, vI x2, vU, vI x4, vI x5, vI x6, vI x7, vU, vU, vU, vU] [] m Q T := by
  intro x1 x2 x4 x5 x6 x7 m h
  have h : (RI (m 582 84)) ∧ (if (m 582 84) ≤ 0 then ∃ nn, P_X10_goBack_135 Q nn x1 x2 x4 x5 x6 x7 1 m else Q 0 m) := h
  refine b_aload_n dX10_goBack_124 rfl ?_
  refine b_getI dX10_goBack_125 fk_X10_601 ly_582 ?_
  obtain ⟨g1, h⟩ := h
  refine b_if_le 132 dX10_goBack_128 g1 (by decide) (fun c1 => ?_) (fun c1 => ?_)
  · have h := ifT c1 h
    refine b_iconst dX10_goBack_132 ?_
    refine b_istore (ls' := [vR 582, vI x1, vI x2, vU, vI x4, vI x5, vI x6, vI x7, vI 1, vU, vU, vU]) dX10_goBack_133 (Nat.le_of_ble_eq_true rfl) rfl ?_
    obtain ⟨nn, h⟩ := h
    exact pl_X10_goBack_135 hf nn _ _ _ _ _ _ _ _ h
  · have h := ifF c1 h
    exact b_vret dX10_goBack_131 rfl h
theorem pl_X10_goBack_10 {f : Nat} {Q : Int → MM → Prop} {T : MM → Prop} (hf : 3 ≤ f) : ∀ (n : Nat) (x1 : Int) (x2 : Int) (x4 : Int) (x5 : Int) (x6 : Int) (x7 : Int) (x8 : Int) (m : MM), P_X10_goBack_10 Q n x1 x2 x4 x5 x6 x7 x8 m → B f M_X10_goBack 10 [vR 582, vI x1, vI x2, vU, vI x4, vI x5, vI x6, vI x7, vI x8, vU, vU, vU] [] m Q T := by
  intro n
  induction n with
  | zero => intro x1 x2 x4 x5 x6 x7 x8 m h; exact h.elim
  | succ n ih =>
    intro x1 x2 x4 x5 x6 x7 x8 m h
    have h : (RI x8) ∧ (RI x4) ∧ (if x4 ≤ x8 then P_X10_goBack_124 Q x1 x2 x4 x5 x6 x7 m else ∃ nn, P_X10_goBack_20 Q (fun z0 z1 z2 z3 z4 z5 z6 z7 => P_X10_goBack_10 Q n z0 z1 z2 z3 z4 z5 z6 z7) nn x1 x2 x4 x5 x6 x7 x8 0 m) := h
    refine b_iload dX10_goBack_10 rfl ?_
    refine b_iload dX10_goBack_12 rfl ?_
    obtain ⟨g1, h⟩ := h
    obtain ⟨g2, h⟩ := h
    refine b_icmp_ge 124 dX10_goBack_14 g1 g2 (by decide) (fun c1 => ?_) (fun c1 => ?_)
    · have h := ifT c1 h
      refine b_fgt [true, true, true, false, true, true, true, true, false, false, false, false] (ls' := [vR 582, vI x1, vI x2, vU, vI x4, vI x5, vI x6, vI x7, vU, vU, vU, vU]) rfl rfl ?_
      exact pl_X10_goBack_124 hf _ _ _ _ _ _ _ h
    · have h := ifF c1 h
      refine b_iconst dX10_goBack_17 ?_
      refine b_istore (ls' := [vR 582, vI x1, vI x2, vU, vI x4, vI x5, vI x6, vI x7, vI x8, vI 0, vU, vU]) dX10_goBack_18 (Nat.le_of_ble_eq_true rfl) rfl ?_
      obtain ⟨nn, h⟩ := h
      exact pl_X10_goBack_20 hf (fun _ _ _ _ _ _ _ _ h => ih _ _ _ _ _ _ _ _ h) nn _ _ _ _ _ _ _ _ _ h
theorem p_X10_goBack {f : Nat} {Q : Int → MM → Prop} {T : MM → Prop} (hf : 3 ≤ f) (x1 : Int) (x2 : Int) (x3 : Int) (x4 : Int) (x5 : Int) (x6 : Int) (x7 : Int) (m : MM) (h : P_X10_goBack x1 x2 x3 x4 x5 x6 x7 m Q) : CC f M_X10_goBack [vR 582, vI x1, vI x2, vI x3, vI x4, vI x5, vI x6, vI x7] m Q T := by
  refine CC.of (plainFor_of_name (by decide)) (Nat.le_of_ble_eq_true rfl) (ls := [vR 582, vI x1, vI x2, vI x3, vI x4, vI x5, vI x6, vI x7, vU, vU, vU, vU]) rfl ?_
  have h : (RI x4) ∧ (RI x7) ∧ (if x4 ≤ x7 then ∃ nn, P_X10_goBack_165 Q nn x1 x2 x5 x6 x7 0 m else ∃ nn, P_X10_goBack_10 Q nn x1 x2 x4 x5 x6 x7 0 m) := h
  refine b_iload dX10_goBack_0 rfl ?_
  refine b_iload dX10_goBack_2 rfl ?_
  obtain ⟨g1, h⟩ := h
  obtain ⟨g2, h⟩ := h
  refine b_icmp_le 162 dX10_goBack_4 g1 g2 (by decide) (fun c1 => ?_) (fun c1 => ?_)
  · have h := ifT c1 h
    refine b_iconst dX10_goBack_162 ?_
    refine b_istore (ls' := [vR 582, vI x1, vI x2, vI x3, vI x4, vI x5, vI x6, vI x7, vI 0, vU, vU, vU]) dX10_goBack_163 (Nat.le_of_ble_eq_true rfl) rfl ?_
    refine b_fgt [true, true, true, false, false, true, true, true, true, false, false, false] (ls' := [vR 582, vI x1, vI x2, vU, vU, vI x5, vI x6, vI x7, vI 0, vU, vU, vU]) rfl rfl ?_
    obtain ⟨nn, h⟩ := h
    exact pl_X10_goBack_165 hf nn _ _ _ _ _ _ _ h
  · have h := ifF c1 h
    refine b_iconst dX10_goBack_7 ?_
    refine b_istore (ls' := [vR 582, vI x1, vI x2, vI x3, vI x4, vI x5, vI x6, vI x7, vI 0, vU, vU, vU]) dX10_goBack_8 (Nat.le_of_ble_eq_true rfl) rfl ?_
    refine b_fgt [true, true, true, false, true, true, true, true, true, false, false, false] (ls' := [vR 582, vI x1, vI x2, vU, vI x4, vI x5, vI x6, vI x7, vI 0, vU, vU, vU]) rfl rfl ?_
    obtain ⟨nn, h⟩ := h
    exact pl_X10_goBack_10 hf nn _ _ _ _ _ _ _ _ h
theorem dX10_evalLeft_0 : decode cX10_evalLeft 0 = .ok (.aload_n 0, 1) := by decide +kernel
theorem dX10_evalLeft_1 : decode cX10_evalLeft 1 = .ok (.getfield 109, 3) := by decide +kernel
theorem dX10_evalLeft_4 : decode cX10_evalLeft 4 = .ok (.iload_n 1, 1) := by decide +kernel
theorem dX10_evalLeft_5 : decode cX10_evalLeft 5 = .ok (.iaload, 1) := by decide +kernel
theorem dX10_evalLeft_6 : decode cX10_evalLeft 6 = .ok (.istore_n 3, 1) := by decide +kernel
theorem dX10_evalLeft_7 : decode cX10_evalLeft 7 = .ok (.aload_n 0, 1) := by decide +kernel
theorem dX10_evalLeft_8 : decode cX10_evalLeft 8 = .ok (.getfield 106, 3) := by decide +kernel
theorem dX10_evalLeft_11 : decode cX10_evalLeft 11 = .ok (.iload_n 1, 1) := by decide +kernel
theorem dX10_evalLeft_12 : decode cX10_evalLeft 12 = .ok (.iaload, 1) := by decide +kernel
theorem dX10_evalLeft_13 : decode cX10_evalLeft 13 = .ok (.istore 4, 2) := by decide +kernel
theorem dX10_evalLeft_15 : decode cX10_evalLeft 15 = .ok (.iload 4, 2) := by decide +kernel
theorem dX10_evalLeft_17 : decode cX10_evalLeft 17 = .ok (.tableswitch 213 11 25 #[75, 75, 213, 213, 213, 213, 213, 213, 213, 213, 213, 213, 134, 143, 169], 75) := by decide +kernel
theorem dX10_evalLeft_92 : decode cX10_evalLeft 92 = .ok (.aload_n 0, 1) := by decide +kernel
theorem dX10_evalLeft_93 : decode cX10_evalLeft 93 = .ok (.getfield 250, 3) := by decide +kernel
theorem dX10_evalLeft_96 : decode cX10_evalLeft 96 = .ok (.iload_n 2, 1) := by decide +kernel
theorem dX10_evalLeft_97 : decode cX10_evalLeft 97 = .ok (.laload, 1) := by decide +kernel
theorem dX10_evalLeft_98 : decode cX10_evalLeft 98 = .ok (.lconst 1, 1) := by decide +kernel
theorem dX10_evalLeft_99 : decode cX10_evalLeft 99 = .ok (.lcmp, 1) := by decide +kernel
theorem dX10_evalLeft_100 : decode cX10_evalLeft 100 = .ok (.ifCond .ne 7, 3) := by decide +kernel
theorem dX10_evalLeft_103 : decode cX10_evalLeft 103 = .ok (.iconst 1, 1) := by decide +kernel
theorem dX10_evalLeft_104 : decode cX10_evalLeft 104 = .ok (.goto 4, 3) := by decide +kernel
theorem dX10_evalLeft_107 : decode cX10_evalLeft 107 = .ok (.iconst 0, 1) := by decide +kernel
theorem dX10_evalLeft_108 : decode cX10_evalLeft 108 = .ok (.istore 5, 2) := by decide +kernel
theorem dX10_evalLeft_110 : decode cX10_evalLeft 110 = .ok (.iload 5, 2) := by decide +kernel
theorem dX10_evalLeft_112 : decode cX10_evalLeft 112 = .ok (.iload 4, 2) := by decide +kernel
theorem dX10_evalLeft_114 : decode cX10_evalLeft 114 = .ok (.bipush 11, 2) := by decide +kernel
theorem dX10_evalLeft_116 : decode cX10_evalLeft 116 = .ok (.if_icmp .ne 7, 3) := by decide +kernel
theorem dX10_evalLeft_119 : decode cX10_evalLeft 119 = .ok (.iconst 1, 1) := by decide +kernel
theorem dX10_evalLeft_120 : decode cX10_evalLeft 120 = .ok (.goto 4, 3) := by decide +kernel
theorem dX10_evalLeft_123 : decode cX10_evalLeft 123 = .ok (.iconst 0, 1) := by decide +kernel
theorem dX10_evalLeft_124 : decode cX10_evalLeft 124 = .ok (.if_icmp .ne 4, 3) := by decide +kernel
theorem dX10_evalLeft_127 : decode cX10_evalLeft 127 = .ok (.return_, 1) := by decide +kernel
theorem dX10_evalLeft_128 : decode cX10_evalLeft 128 = .ok (.aload_n 0, 1) := by decide +kernel
theorem dX10_evalLeft_129 : decode cX10_evalLeft 129 = .ok (.dup, 1) := by decide +kernel
theorem dX10_evalLeft_130 : decode cX10_evalLeft 130 = .ok (.getfield 718, 3) := by decide +kernel
theorem dX10_evalLeft_133 : decode cX10_evalLeft 133 = .ok (.iconst 1, 1) := by decide +kernel
theorem dX10_evalLeft_134 : decode cX10_evalLeft 134 = .ok (.isub, 1) := by decide +kernel
theorem dX10_evalLeft_135 : decode cX10_evalLeft 135 = .ok (.putfield 718, 3) := by decide +kernel
theorem dX10_evalLeft_138 : decode cX10_evalLeft 138 = .ok (.aload_n 0, 1) := by decide +kernel
theorem dX10_evalLeft_139 : decode cX10_evalLeft 139 = .ok (.aload_n 0, 1) := by decide +kernel
theorem dX10_evalLeft_140 : decode cX10_evalLeft 140 = .ok (.getfield 112, 3) := by decide +kernel
theorem dX10_evalLeft_143 : decode cX10_evalLeft 143 = .ok (.iload_n 1, 1) := by decide +kernel
theorem dX10_evalLeft_144 : decode cX10_evalLeft 144 = .ok (.iaload, 1) := by decide +kernel
theorem dX10_evalLeft_145 : decode cX10_evalLeft 145 = .ok (.invokevirtual 733, 3) := by decide +kernel
theorem dX10_evalLeft_148 : decode cX10_evalLeft 148 = .ok (.goto 101, 3) := by decide +kernel
theorem dX10_evalLeft_151 : decode cX10_evalLeft 151 = .ok (.aload_n 0, 1) := by decide +kernel
theorem dX10_evalLeft_152 : decode cX10_evalLeft 152 = .ok (.iload_n 1, 1) := by decide +kernel
theorem dX10_evalLeft_153 : decode cX10_evalLeft 153 = .ok (.iload_n 2, 1) := by decide +kernel
theorem dX10_evalLeft_154 : decode cX10_evalLeft 154 = .ok (.invokevirtual 770, 3) := by decide +kernel
theorem dX10_evalLeft_157 : decode cX10_evalLeft 157 = .ok (.goto 92, 3) := by decide +kernel
theorem dX10_evalLeft_160 : decode cX10_evalLeft 160 = .ok (.aload_n 0, 1) := by decide +kernel
theorem dX10_evalLeft_161 : decode cX10_evalLeft 161 = .ok (.iload_n 3, 1) := by decide +kernel
theorem dX10_evalLeft_162 : decode cX10_evalLeft 162 = .ok (.aload_n 0, 1) := by decide +kernel
theorem dX10_evalLeft_163 : decode cX10_evalLeft 163 = .ok (.getfield 130, 3) := by decide +kernel
theorem dX10_evalLeft_166 : decode cX10_evalLeft 166 = .ok (.iload_n 1, 1) := by decide +kernel
theorem dX10_evalLeft_167 : decode cX10_evalLeft 167 = .ok (.iaload, 1) := by decide +kernel
theorem dX10_evalLeft_168 : decode cX10_evalLeft 168 = .ok (.aload_n 0, 1) := by decide +kernel
theorem dX10_evalLeft_169 : decode cX10_evalLeft 169 = .ok (.getfield 133, 3) := by decide +kernel
theorem dX10_evalLeft_172 : decode cX10_evalLeft 172 = .ok (.iload_n 1, 1) := by decide +kernel
theorem dX10_evalLeft_173 : decode cX10_evalLeft 173 = .ok (.iaload, 1) := by decide +kernel
theorem dX10_evalLeft_174 : decode cX10_evalLeft 174 = .ok (.aload_n 0, 1) := by decide +kernel
theorem dX10_evalLeft_175 : decode cX10_evalLeft 175 = .ok (.getfield 136, 3) := by decide +kernel
theorem dX10_evalLeft_178 : decode cX10_evalLeft 178 = .ok (.iload_n 1, 1) := by decide +kernel
theorem dX10_evalLeft_179 : decode cX10_evalLeft 179 = .ok (.iaload, 1) := by decide +kernel
theorem dX10_evalLeft_180 : decode cX10_evalLeft 180 = .ok (.invokevirtual 747, 3) := by decide +kernel
theorem dX10_evalLeft_183 : decode cX10_evalLeft 183 = .ok (.goto 66, 3) := by decide +kernel
theorem dX10_evalLeft_186 : decode cX10_evalLeft 186 = .ok (.aload_n 0, 1) := by decide +kernel
theorem dX10_evalLeft_187 : decode cX10_evalLeft 187 = .ok (.iload_n 2, 1) := by decide +kernel
theorem dX10_evalLeft_188 : decode cX10_evalLeft 188 = .ok (.aload_n 0, 1) := by decide +kernel
theorem dX10_evalLeft_189 : decode cX10_evalLeft 189 = .ok (.getfield 130, 3) := by decide +kernel
theorem dX10_evalLeft_192 : decode cX10_evalLeft 192 = .ok (.iload_n 3, 1) := by decide +kernel
theorem dX10_evalLeft_193 : decode cX10_evalLeft 193 = .ok (.iaload, 1) := by decide +kernel
theorem dX10_evalLeft_194 : decode cX10_evalLeft 194 = .ok (.aload_n 0, 1) := by decide +kernel
theorem dX10_evalLeft_195 : decode cX10_evalLeft 195 = .ok (.getfield 133, 3) := by decide +kernel
theorem dX10_evalLeft_198 : decode cX10_evalLeft 198 = .ok (.iload_n 3, 1) := by decide +kernel
theorem dX10_evalLeft_199 : decode cX10_evalLeft 199 = .ok (.iaload, 1) := by decide +kernel
theorem dX10_evalLeft_200 : decode cX10_evalLeft 200 = .ok (.aload_n 0, 1) := by decide +kernel
theorem dX10_evalLeft_201 : decode cX10_evalLeft 201 = .ok (.getfield 136, 3) := by decide +kernel
theorem dX10_evalLeft_204 : decode cX10_evalLeft 204 = .ok (.iload_n 3, 1) := by decide +kernel
theorem dX10_evalLeft_205 : decode cX10_evalLeft 205 = .ok (.iaload, 1) := by decide +kernel
theorem dX10_evalLeft_206 : decode cX10_evalLeft 206 = .ok (.aload_n 0, 1) := by decide +kernel
theorem dX10_evalLeft_207 : decode cX10_evalLeft 207 = .ok (.getfield 130, 3) := by decide +kernel
theorem dX10_evalLeft_210 : decode cX10_evalLeft 210 = .ok (.iload_n 1, 1) := by decide +kernel
theorem dX10_evalLeft_211 : decode cX10_evalLeft 211 = .ok (.iaload, 1) := by decide +kernel
theorem dX10_evalLeft_212 : decode cX10_evalLeft 212 = .ok (.aload_n 0, 1) := by decide +kernel
theorem dX10_evalLeft_213 : decode cX10_evalLeft 213 = .ok (.getfield 133, 3) := by decide +kernel
theorem dX10_evalLeft_216 : decode cX10_evalLeft 216 = .ok (.iload_n 1, 1) := by decide +kernel
theorem dX10_evalLeft_217 : decode cX10_evalLeft 217 = .ok (.iaload, 1) := by decide +kernel
theorem dX10_evalLeft_218 : decode cX10_evalLeft 218 = .ok (.aload_n 0, 1) := by decide +kernel
theorem dX10_evalLeft_219 : decode cX10_evalLeft 219 = .ok (.getfield 136, 3) := by decide +kernel
theorem dX10_evalLeft_222 : decode cX10_evalLeft 222 = .ok (.iload_n 1, 1) := by decide +kernel
theorem dX10_evalLeft_223 : decode cX10_evalLeft 223 = .ok (.iaload, 1) := by decide +kernel
theorem dX10_evalLeft_224 : decode cX10_evalLeft 224 = .ok (.invokevirtual 773, 3) := by decide +kernel
theorem dX10_evalLeft_227 : decode cX10_evalLeft 227 = .ok (.goto 22, 3) := by decide +kernel
theorem dX10_evalLeft_230 : decode cX10_evalLeft 230 = .ok (.aload_n 0, 1) := by decide +kernel
theorem dX10_evalLeft_231 : decode cX10_evalLeft 231 = .ok (.iconst 2, 1) := by decide +kernel
theorem dX10_evalLeft_232 : decode cX10_evalLeft 232 = .ok (.iload_n 1, 1) := by decide +kernel
theorem dX10_evalLeft_233 : decode cX10_evalLeft 233 = .ok (.iconst 0, 1) := by decide +kernel
theorem dX10_evalLeft_234 : decode cX10_evalLeft 234 = .ok (.iconst 0, 1) := by decide +kernel
theorem dX10_evalLeft_235 : decode cX10_evalLeft 235 = .ok (.iconst 0, 1) := by decide +kernel
theorem dX10_evalLeft_236 : decode cX10_evalLeft 236 = .ok (.invokevirtual 730, 3) := by decide +kernel
theorem dX10_evalLeft_239 : decode cX10_evalLeft 239 = .ok (.aload_n 0, 1) := by decide +kernel
theorem dX10_evalLeft_240 : decode cX10_evalLeft 240 = .ok (.aload_n 0, 1) := by decide +kernel
theorem dX10_evalLeft_241 : decode cX10_evalLeft 241 = .ok (.getfield 112, 3) := by decide +kernel
theorem dX10_evalLeft_244 : decode cX10_evalLeft 244 = .ok (.iload_n 1, 1) := by decide +kernel
theorem dX10_evalLeft_245 : decode cX10_evalLeft 245 = .ok (.iaload, 1) := by decide +kernel
theorem dX10_evalLeft_246 : decode cX10_evalLeft 246 = .ok (.invokevirtual 733, 3) := by decide +kernel
theorem dX10_evalLeft_249 : decode cX10_evalLeft 249 = .ok (.return_, 1) := by decide +kernel
/-! AlgebraHouseModel.evalLeft(II)V -/
def P_X10_evalLeft_92 (Q : Int → MM → Prop) (x1 : Int) (x2 : Int) (x4 : Int) (m : MM) : Prop := (0 ≤ x2 ∧ x2 < 1600000) ∧ ((RL (m 635 x2))) ∧ ((RI x4)) ∧ (RI (if (m 635 x2) = 1 then 1 else 0 : Int)) ∧ (RI (if x4 = 11 then 1 else 0 : Int)) ∧ (if (if (m 635 x2) = 1 then 1 else 0 : Int) = (if x4 = 11 then 1 else 0 : Int) then Q 0 m else ∀ m1 : MM, m1 = up m 582 86 ((m 582 86) - 1) → (0 ≤ x1 ∧ x1 < 12000) ∧ P_X10_later (m1 592 x1) m1 (fun r1 m2 => Q 0 m2))
def P_X10_evalLeft_230 (Q : Int → MM → Prop) (x1 : Int) (m : MM) : Prop := P_X10_later_2 2 x1 0 0 0 m (fun r1 m1 => (0 ≤ x1 ∧ x1 < 12000) ∧ P_X10_later (m1 592 x1) m1 (fun r2 m2 => Q 0 m2))
def P_X10_evalLeft (x1 : Int) (x2 : Int) (m : MM) (Q : Int → MM → Prop) : Prop := (0 ≤ x1 ∧ x1 < 12000) ∧ (RI (m 590 x1)) ∧ (if (m 590 x1) = 11 then P_X10_evalLeft_92 Q x1 x2 (m 590 x1) m else (if (m 590 x1) = 12 then P_X10_evalLeft_92 Q x1 x2 (m 590 x1) m else (if (m 590 x1) = 23 then P_X10_evalPower x1 x2 m (fun r1 m1 => Q 0 m1) else (if (m 590 x1) = 24 then P_X10_goLatest (m 591 x1) (m 598 x1) (m 599 x1) (m 600 x1) m (fun r2 m2 => Q 0 m2) else (if (m 590 x1) = 25 then (0 ≤ (m 591 x1) ∧ (m 591 x1) < 12000) ∧ P_X10_goBack x2 (m 598 (m 591 x1)) (m 599 (m 591 x1)) (m 600 (m 591 x1)) (m 598 x1) (m 599 x1) (m 600 x1) m (fun r3 m3 => Q 0 m3) else P_X10_evalLeft_230 Q x1 m)))))
theorem pl_X10_evalLeft_92 {f : Nat} {Q : Int → MM → Prop} {T : MM → Prop} (hf : 8 ≤ f) : ∀ (x1 : Int) (x2 : Int) (x4 : Int) (m : MM), P_X10_evalLeft_92 Q x1 x2 x4 m → B f M_X10_evalLeft 92 [vR 582, vI x1, vI x2, vU, vI x4, vU] [] m Q T := by
  intro x1 x2 x4 m h
  have h : (0 ≤ x2 ∧ x2 < 1600000) ∧ ((RL (m 635 x2))) ∧ ((RI x4)) ∧ (RI (if (m 635 x2) = 1 then 1 else 0 : Int)) ∧ (RI (if x4 = 11 then 1 else 0 : Int)) ∧ (if (if (m 635 x2) = 1 then 1 else 0 : Int) = (if x4 = 11 then 1 else 0 : Int) then Q 0 m else ∀ m1 : MM, m1 = up m 582 86 ((m 582 86) - 1) → (0 ≤ x1 ∧ x1 < 12000) ∧ P_X10_later (m1 592 x1) m1 (fun r1 m2 => Q 0 m2)) := h
  refine b_aload_n dX10_evalLeft_92 rfl ?_
  refine b_getR dX10_evalLeft_93 fk_X10_250 ly_582 gg_582_85 ?_
  refine b_iload_n dX10_evalLeft_96 rfl ?_
  obtain ⟨g1, h⟩ := h
  refine b_lald dX10_evalLeft_97 ly_635 g1 ?_
  refine b_lconst 1 dX10_evalLeft_98 (by decide) ?_
  obtain ⟨hs, h⟩ := h
  have K : B f M_X10_evalLeft 108 [vR 582, vI x1, vI x2, vU, vI x4, vU] [vI (if (m 635 x2) = 1 then 1 else 0 : Int)] m Q T := by
    clear hs
    refine b_istore (ls' := [vR 582, vI x1, vI x2, vU, vI x4, vI (if (m 635 x2) = 1 then 1 else 0 : Int)]) dX10_evalLeft_108 (Nat.le_of_ble_eq_true rfl) rfl ?_
    refine b_iload dX10_evalLeft_110 rfl ?_
    refine b_iload dX10_evalLeft_112 rfl ?_
    refine b_bipush dX10_evalLeft_114 (by decide) ?_
    obtain ⟨hs, h⟩ := h
    have K : B f M_X10_evalLeft 124 [vR 582, vI x1, vI x2, vU, vI x4, vI (if (m 635 x2) = 1 then 1 else 0 : Int)] [vI (if x4 = 11 then 1 else 0 : Int), vI (if (m 635 x2) = 1 then 1 else 0 : Int)] m Q T := by
      clear hs
      obtain ⟨g4, h⟩ := h
      obtain ⟨g5, h⟩ := h
      refine b_icmp_ne 128 dX10_evalLeft_124 g4 g5 (by decide) (fun c1 => ?_) (fun c1 => ?_)
      · have h := ifF c1 h
        refine b_aload_n dX10_evalLeft_128 rfl ?_
        refine b_dup dX10_evalLeft_129 rfl ?_
        refine b_getI dX10_evalLeft_130 fk_X10_718 ly_582 ?_
        refine b_iconst dX10_evalLeft_133 ?_
        refine b_isub dX10_evalLeft_134 ?_
        refine b_putI dX10_evalLeft_135 fk_X10_718 ly_582 (fun m1 em1 => ?_)
        have h := h m1 em1
        refine b_aload_n dX10_evalLeft_138 rfl ?_
        refine b_aload_n dX10_evalLeft_139 rfl ?_
        refine b_getR dX10_evalLeft_140 fk_X10_112 ly_582 gg_582_18 ?_
        refine b_iload_n dX10_evalLeft_143 rfl ?_
        obtain ⟨g6, h⟩ := h
        refine b_iald dX10_evalLeft_144 ly_592 g6 ?_
        refine b_cVv (as := [vI (m1 592 x1)]) (st := []) dX10_evalLeft_145 mf_X10_later qs154 lk_X10_733 ly_582 rfl (p_X10_later (f := 2) (Nat.le_refl _) _ _ h) (by omega) rfl rfl (Nat.le_of_ble_eq_true rfl) (by decide) rfl (fun _ => rfl) (fun r1 m2 h => ?_) (fun _ h => h)
        refine b_goto 249 dX10_evalLeft_148 (by decide) ?_
        exact b_vret dX10_evalLeft_249 rfl h
      · have h := ifT (Decidable.of_not_not c1) h
        exact b_vret dX10_evalLeft_127 rfl h
    have g3 := hs
    refine b_icmp_ne 123 dX10_evalLeft_116 g3 (by decide) (by decide) (fun c2 => ?_) (fun c2 => ?_)
    ·
      refine b_iconst dX10_evalLeft_123 ?_
      exact Eq.mp (congrArg (fun z => B f M_X10_evalLeft 124 [vR 582, vI x1, vI x2, vU, vI x4, vI (if (m 635 x2) = 1 then 1 else 0 : Int)] (vI z :: [vI (if (m 635 x2) = 1 then 1 else 0 : Int)]) m Q T) (show (if x4 = 11 then 1 else 0 : Int) = 0 by rw [if_neg c2])) K
    ·
      have c2 := Decidable.of_not_not c2
      refine b_iconst dX10_evalLeft_119 ?_
      refine b_goto 124 dX10_evalLeft_120 (by decide) ?_
      exact Eq.mp (congrArg (fun z => B f M_X10_evalLeft 124 [vR 582, vI x1, vI x2, vU, vI x4, vI (if (m 635 x2) = 1 then 1 else 0 : Int)] (vI z :: [vI (if (m 635 x2) = 1 then 1 else 0 : Int)]) m Q T) (show (if x4 = 11 then 1 else 0 : Int) = 1 by rw [if_pos c2])) K
  have g2 := hs
  refine b_lc_ne 107 dX10_evalLeft_99 dX10_evalLeft_100 g2 (by decide) (by decide) (fun c3 => ?_) (fun c3 => ?_)
  ·
    refine b_iconst dX10_evalLeft_107 ?_
    exact Eq.mp (congrArg (fun z => B f M_X10_evalLeft 108 [vR 582, vI x1, vI x2, vU, vI x4, vU] (vI z :: []) m Q T) (show (if (m 635 x2) = 1 then 1 else 0 : Int) = 0 by rw [if_neg c3])) K
  ·
    have c3 := Decidable.of_not_not c3
    refine b_iconst dX10_evalLeft_103 ?_
    refine b_goto 108 dX10_evalLeft_104 (by decide) ?_
    exact Eq.mp (congrArg (fun z => B f M_X10_evalLeft 108 [vR 582, vI x1, vI x2, vU, vI x4, vU] (vI z :: []) m Q T) (show (if (m 635 x2) = 1 then 1 else 0 : Int) = 1 by rw [if_pos c3])) K
theorem pl_X10_evalLeft_230 {f : Nat} {Q : Int → MM → Prop} {T : MM → Prop} (hf : 8 ≤ f) : ∀ (x1 : Int) (m : MM), P_X10_evalLeft_230 Q x1 m → B f M_X10_evalLeft 230 [vR 582, vI x1, vU, vU, vU, vU] [] m Q T := by
  intro x1 m h
  have h : P_X10_later_2 2 x1 0 0 0 m (fun r1 m1 => (0 ≤ x1 ∧ x1 < 12000) ∧ P_X10_later (m1 592 x1) m1 (fun r2 m2 => Q 0 m2)) := h
  refine b_aload_n dX10_evalLeft_230 rfl ?_
  refine b_iconst dX10_evalLeft_231 ?_
  refine b_iload_n dX10_evalLeft_232 rfl ?_
  refine b_iconst dX10_evalLeft_233 ?_
  refine b_iconst dX10_evalLeft_234 ?_
  refine b_iconst dX10_evalLeft_235 ?_
  refine b_cVv (as := [vI 2, vI x1, vI 0, vI 0, vI 0]) (st := []) dX10_evalLeft_236 mf_X10_later_2 qs155 lk_X10_730 ly_582 rfl (p_X10_later_2 (f := 1) (Nat.le_refl _) _ _ _ _ _ _ h) (by omega) rfl rfl (Nat.le_of_ble_eq_true rfl) (by decide) rfl (fun _ => rfl) (fun r1 m1 h => ?_) (fun _ h => h)
  refine b_aload_n dX10_evalLeft_239 rfl ?_
  refine b_aload_n dX10_evalLeft_240 rfl ?_
  refine b_getR dX10_evalLeft_241 fk_X10_112 ly_582 gg_582_18 ?_
  refine b_iload_n dX10_evalLeft_244 rfl ?_
  obtain ⟨g1, h⟩ := h
  refine b_iald dX10_evalLeft_245 ly_592 g1 ?_
  refine b_cVv (as := [vI (m1 592 x1)]) (st := []) dX10_evalLeft_246 mf_X10_later qs154 lk_X10_733 ly_582 rfl (p_X10_later (f := 2) (Nat.le_refl _) _ _ h) (by omega) rfl rfl (Nat.le_of_ble_eq_true rfl) (by decide) rfl (fun _ => rfl) (fun r2 m2 h => ?_) (fun _ h => h)
  exact b_vret dX10_evalLeft_249 rfl h
theorem p_X10_evalLeft {f : Nat} {Q : Int → MM → Prop} {T : MM → Prop} (hf : 8 ≤ f) (x1 : Int) (x2 : Int) (m : MM) (h : P_X10_evalLeft x1 x2 m Q) : CC f M_X10_evalLeft [vR 582, vI x1, vI x2] m Q T := by
  refine CC.of (plainFor_of_name (by decide)) (Nat.le_of_ble_eq_true rfl) (ls := [vR 582, vI x1, vI x2, vU, vU, vU]) rfl ?_
  have h : (0 ≤ x1 ∧ x1 < 12000) ∧ (RI (m 590 x1)) ∧ (if (m 590 x1) = 11 then P_X10_evalLeft_92 Q x1 x2 (m 590 x1) m else (if (m 590 x1) = 12 then P_X10_evalLeft_92 Q x1 x2 (m 590 x1) m else (if (m 590 x1) = 23 then P_X10_evalPower x1 x2 m (fun r1 m1 => Q 0 m1) else (if (m 590 x1) = 24 then P_X10_goLatest (m 591 x1) (m 598 x1) (m 599 x1) (m 600 x1) m (fun r2 m2 => Q 0 m2) else (if (m 590 x1) = 25 then (0 ≤ (m 591 x1) ∧ (m 591 x1) < 12000) ∧ P_X10_goBack x2 (m 598 (m 591 x1)) (m 599 (m 591 x1)) (m 600 (m 591 x1)) (m 598 x1) (m 599 x1) (m 600 x1) m (fun r3 m3 => Q 0 m3) else P_X10_evalLeft_230 Q x1 m))))) := h
  refine b_aload_n dX10_evalLeft_0 rfl ?_
  refine b_getR dX10_evalLeft_1 fk_X10_109 ly_582 gg_582_17 ?_
  refine b_iload_n dX10_evalLeft_4 rfl ?_
  obtain ⟨g1, h⟩ := h
  refine b_iald dX10_evalLeft_5 ly_591 g1 ?_
  refine b_istore_n (ls' := [vR 582, vI x1, vI x2, vI (m 591 x1), vU, vU]) dX10_evalLeft_6 (Nat.le_of_ble_eq_true rfl) rfl ?_
  refine b_aload_n dX10_evalLeft_7 rfl ?_
  refine b_getR dX10_evalLeft_8 fk_X10_106 ly_582 gg_582_16 ?_
  refine b_iload_n dX10_evalLeft_11 rfl ?_
  refine b_iald dX10_evalLeft_12 ly_590 g1 ?_
  refine b_istore (ls' := [vR 582, vI x1, vI x2, vI (m 591 x1), vI (m 590 x1), vU]) dX10_evalLeft_13 (Nat.le_of_ble_eq_true rfl) rfl ?_
  refine b_iload dX10_evalLeft_15 rfl ?_
  obtain ⟨g2, h⟩ := h
  by_cases c1 : (m 590 x1) = 11
  · have h := ifT c1 h
    refine b_tswIn 92 dX10_evalLeft_17 g2 (by omega) (by omega) (by rw [c1]; rfl) (by decide) ?_
    refine b_fgt [true, true, true, false, true, false] (ls' := [vR 582, vI x1, vI x2, vU, vI (m 590 x1), vU]) rfl rfl ?_
    exact pl_X10_evalLeft_92 hf _ _ _ _ h
  have h := ifF c1 h
  by_cases c2 : (m 590 x1) = 12
  · have h := ifT c2 h
    refine b_tswIn 92 dX10_evalLeft_17 g2 (by omega) (by omega) (by rw [c2]; rfl) (by decide) ?_
    refine b_fgt [true, true, true, false, true, false] (ls' := [vR 582, vI x1, vI x2, vU, vI (m 590 x1), vU]) rfl rfl ?_
    exact pl_X10_evalLeft_92 hf _ _ _ _ h
  have h := ifF c2 h
  by_cases c3 : (m 590 x1) = 23
  · have h := ifT c3 h
    refine b_tswIn 151 dX10_evalLeft_17 g2 (by omega) (by omega) (by rw [c3]; rfl) (by decide) ?_
    refine b_aload_n dX10_evalLeft_151 rfl ?_
    refine b_iload_n dX10_evalLeft_152 rfl ?_
    refine b_iload_n dX10_evalLeft_153 rfl ?_
    refine b_cVv (as := [vI x1, vI x2]) (st := []) dX10_evalLeft_154 mf_X10_evalPower qs168 lk_X10_770 ly_582 rfl (p_X10_evalPower (f := 7) (Nat.le_refl _) _ _ _ h) (by omega) rfl rfl (Nat.le_of_ble_eq_true rfl) (by decide) rfl (fun _ => rfl) (fun r1 m1 h => ?_) (fun _ h => h)
    refine b_goto 249 dX10_evalLeft_157 (by decide) ?_
    exact b_vret dX10_evalLeft_249 rfl h
  have h := ifF c3 h
  by_cases c4 : (m 590 x1) = 24
  · have h := ifT c4 h
    refine b_tswIn 160 dX10_evalLeft_17 g2 (by omega) (by omega) (by rw [c4]; rfl) (by decide) ?_
    refine b_aload_n dX10_evalLeft_160 rfl ?_
    refine b_iload_n dX10_evalLeft_161 rfl ?_
    refine b_aload_n dX10_evalLeft_162 rfl ?_
    refine b_getR dX10_evalLeft_163 fk_X10_130 ly_582 gg_582_24 ?_
    refine b_iload_n dX10_evalLeft_166 rfl ?_
    refine b_iald dX10_evalLeft_167 ly_598 g1 ?_
    refine b_aload_n dX10_evalLeft_168 rfl ?_
    refine b_getR dX10_evalLeft_169 fk_X10_133 ly_582 gg_582_25 ?_
    refine b_iload_n dX10_evalLeft_172 rfl ?_
    refine b_iald dX10_evalLeft_173 ly_599 g1 ?_
    refine b_aload_n dX10_evalLeft_174 rfl ?_
    refine b_getR dX10_evalLeft_175 fk_X10_136 ly_582 gg_582_26 ?_
    refine b_iload_n dX10_evalLeft_178 rfl ?_
    refine b_iald dX10_evalLeft_179 ly_600 g1 ?_
    refine b_cVv (as := [vI (m 591 x1), vI (m 598 x1), vI (m 599 x1), vI (m 600 x1)]) (st := []) dX10_evalLeft_180 mf_X10_goLatest qs180 lk_X10_747 ly_582 rfl (p_X10_goLatest (f := 3) (Nat.le_refl _) _ _ _ _ _ h) (by omega) rfl rfl (Nat.le_of_ble_eq_true rfl) (by decide) rfl (fun _ => rfl) (fun r2 m2 h => ?_) (fun _ h => h)
    refine b_goto 249 dX10_evalLeft_183 (by decide) ?_
    exact b_vret dX10_evalLeft_249 rfl h
  have h := ifF c4 h
  by_cases c5 : (m 590 x1) = 25
  · have h := ifT c5 h
    refine b_tswIn 186 dX10_evalLeft_17 g2 (by omega) (by omega) (by rw [c5]; rfl) (by decide) ?_
    refine b_aload_n dX10_evalLeft_186 rfl ?_
    refine b_iload_n dX10_evalLeft_187 rfl ?_
    refine b_aload_n dX10_evalLeft_188 rfl ?_
    refine b_getR dX10_evalLeft_189 fk_X10_130 ly_582 gg_582_24 ?_
    refine b_iload_n dX10_evalLeft_192 rfl ?_
    obtain ⟨g3, h⟩ := h
    refine b_iald dX10_evalLeft_193 ly_598 g3 ?_
    refine b_aload_n dX10_evalLeft_194 rfl ?_
    refine b_getR dX10_evalLeft_195 fk_X10_133 ly_582 gg_582_25 ?_
    refine b_iload_n dX10_evalLeft_198 rfl ?_
    refine b_iald dX10_evalLeft_199 ly_599 g3 ?_
    refine b_aload_n dX10_evalLeft_200 rfl ?_
    refine b_getR dX10_evalLeft_201 fk_X10_136 ly_582 gg_582_26 ?_
    refine b_iload_n dX10_evalLeft_204 rfl ?_
    refine b_iald dX10_evalLeft_205 ly_600 g3 ?_
    refine b_aload_n dX10_evalLeft_206 rfl ?_
    refine b_getR dX10_evalLeft_207 fk_X10_130 ly_582 gg_582_24 ?_
    refine b_iload_n dX10_evalLeft_210 rfl ?_
    refine b_iald dX10_evalLeft_211 ly_598 g1 ?_
    refine b_aload_n dX10_evalLeft_212 rfl ?_
    refine b_getR dX10_evalLeft_213 fk_X10_133 ly_582 gg_582_25 ?_
    refine b_iload_n dX10_evalLeft_216 rfl ?_
    refine b_iald dX10_evalLeft_217 ly_599 g1 ?_
    refine b_aload_n dX10_evalLeft_218 rfl ?_
    refine b_getR dX10_evalLeft_219 fk_X10_136 ly_582 gg_582_26 ?_
    refine b_iload_n dX10_evalLeft_222 rfl ?_
    refine b_iald dX10_evalLeft_223 ly_600 g1 ?_
    refine b_cVv (as := [vI x2, vI (m 598 (m 591 x1)), vI (m 599 (m 591 x1)), vI (m 600 (m 591 x1)), vI (m 598 x1), vI (m 599 x1), vI (m 600 x1)]) (st := []) dX10_evalLeft_224 mf_X10_goBack qs182 lk_X10_773 ly_582 rfl (p_X10_goBack (f := 3) (Nat.le_refl _) _ _ _ _ _ _ _ _ h) (by omega) rfl rfl (Nat.le_of_ble_eq_true rfl) (by decide) rfl (fun _ => rfl) (fun r3 m3 h => ?_) (fun _ h => h)
    refine b_goto 249 dX10_evalLeft_227 (by decide) ?_
    exact b_vret dX10_evalLeft_249 rfl h
  have h := ifF c5 h
  by_cases c6 : (m 590 x1) = 13
  · refine b_tswIn 230 dX10_evalLeft_17 g2 (by omega) (by omega) (by rw [c6]; rfl) (by decide) ?_
    refine b_fgt [true, true, false, false, false, false] (ls' := [vR 582, vI x1, vU, vU, vU, vU]) rfl rfl ?_
    exact pl_X10_evalLeft_230 hf _ _ h
  by_cases c7 : (m 590 x1) = 14
  · refine b_tswIn 230 dX10_evalLeft_17 g2 (by omega) (by omega) (by rw [c7]; rfl) (by decide) ?_
    refine b_fgt [true, true, false, false, false, false] (ls' := [vR 582, vI x1, vU, vU, vU, vU]) rfl rfl ?_
    exact pl_X10_evalLeft_230 hf _ _ h
  by_cases c8 : (m 590 x1) = 15
  · refine b_tswIn 230 dX10_evalLeft_17 g2 (by omega) (by omega) (by rw [c8]; rfl) (by decide) ?_
    refine b_fgt [true, true, false, false, false, false] (ls' := [vR 582, vI x1, vU, vU, vU, vU]) rfl rfl ?_
    exact pl_X10_evalLeft_230 hf _ _ h
  by_cases c9 : (m 590 x1) = 16
  · refine b_tswIn 230 dX10_evalLeft_17 g2 (by omega) (by omega) (by rw [c9]; rfl) (by decide) ?_
    refine b_fgt [true, true, false, false, false, false] (ls' := [vR 582, vI x1, vU, vU, vU, vU]) rfl rfl ?_
    exact pl_X10_evalLeft_230 hf _ _ h
  by_cases c10 : (m 590 x1) = 17
  · refine b_tswIn 230 dX10_evalLeft_17 g2 (by omega) (by omega) (by rw [c10]; rfl) (by decide) ?_
    refine b_fgt [true, true, false, false, false, false] (ls' := [vR 582, vI x1, vU, vU, vU, vU]) rfl rfl ?_
    exact pl_X10_evalLeft_230 hf _ _ h
  by_cases c11 : (m 590 x1) = 18
  · refine b_tswIn 230 dX10_evalLeft_17 g2 (by omega) (by omega) (by rw [c11]; rfl) (by decide) ?_
    refine b_fgt [true, true, false, false, false, false] (ls' := [vR 582, vI x1, vU, vU, vU, vU]) rfl rfl ?_
    exact pl_X10_evalLeft_230 hf _ _ h
  by_cases c12 : (m 590 x1) = 19
  · refine b_tswIn 230 dX10_evalLeft_17 g2 (by omega) (by omega) (by rw [c12]; rfl) (by decide) ?_
    refine b_fgt [true, true, false, false, false, false] (ls' := [vR 582, vI x1, vU, vU, vU, vU]) rfl rfl ?_
    exact pl_X10_evalLeft_230 hf _ _ h
  by_cases c13 : (m 590 x1) = 20
  · refine b_tswIn 230 dX10_evalLeft_17 g2 (by omega) (by omega) (by rw [c13]; rfl) (by decide) ?_
    refine b_fgt [true, true, false, false, false, false] (ls' := [vR 582, vI x1, vU, vU, vU, vU]) rfl rfl ?_
    exact pl_X10_evalLeft_230 hf _ _ h
  by_cases c14 : (m 590 x1) = 21
  · refine b_tswIn 230 dX10_evalLeft_17 g2 (by omega) (by omega) (by rw [c14]; rfl) (by decide) ?_
    refine b_fgt [true, true, false, false, false, false] (ls' := [vR 582, vI x1, vU, vU, vU, vU]) rfl rfl ?_
    exact pl_X10_evalLeft_230 hf _ _ h
  by_cases c15 : (m 590 x1) = 22
  · refine b_tswIn 230 dX10_evalLeft_17 g2 (by omega) (by omega) (by rw [c15]; rfl) (by decide) ?_
    refine b_fgt [true, true, false, false, false, false] (ls' := [vR 582, vI x1, vU, vU, vU, vU]) rfl rfl ?_
    exact pl_X10_evalLeft_230 hf _ _ h
  refine b_tswOut 230 dX10_evalLeft_17 g2 (by omega) (by decide) ?_
  refine b_fgt [true, true, false, false, false, false] (ls' := [vR 582, vI x1, vU, vU, vU, vU]) rfl rfl ?_
  exact pl_X10_evalLeft_230 hf _ _ h
theorem dX10_newValue_0 : decode cX10_newValue 0 = .ok (.sipush 882, 3) := by decide +kernel
theorem dX10_newValue_3 : decode cX10_newValue 3 = .ok (.aload_n 0, 1) := by decide +kernel
theorem dX10_newValue_4 : decode cX10_newValue 4 = .ok (.getfield 718, 3) := by decide +kernel
theorem dX10_newValue_7 : decode cX10_newValue 7 = .ok (.imul, 1) := by decide +kernel
theorem dX10_newValue_8 : decode cX10_newValue 8 = .ok (.istore_n 1, 1) := by decide +kernel
theorem dX10_newValue_9 : decode cX10_newValue 9 = .ok (.aload_n 0, 1) := by decide +kernel
theorem dX10_newValue_10 : decode cX10_newValue 10 = .ok (.dup, 1) := by decide +kernel
theorem dX10_newValue_11 : decode cX10_newValue 11 = .ok (.getfield 718, 3) := by decide +kernel
theorem dX10_newValue_14 : decode cX10_newValue 14 = .ok (.iconst 1, 1) := by decide +kernel
theorem dX10_newValue_15 : decode cX10_newValue 15 = .ok (.iadd, 1) := by decide +kernel
theorem dX10_newValue_16 : decode cX10_newValue 16 = .ok (.putfield 718, 3) := by decide +kernel
theorem dX10_newValue_19 : decode cX10_newValue 19 = .ok (.aload_n 0, 1) := by decide +kernel
theorem dX10_newValue_20 : decode cX10_newValue 20 = .ok (.iload_n 1, 1) := by decide +kernel
theorem dX10_newValue_21 : decode cX10_newValue 21 = .ok (.sipush 882, 3) := by decide +kernel
theorem dX10_newValue_24 : decode cX10_newValue 24 = .ok (.invokevirtual 685, 3) := by decide +kernel
theorem dX10_newValue_27 : decode cX10_newValue 27 = .ok (.iload_n 1, 1) := by decide +kernel
theorem dX10_newValue_28 : decode cX10_newValue 28 = .ok (.ireturn, 1) := by decide +kernel
/-! AlgebraHouseModel.newValue()I -/
def P_X10_newValue (m : MM) (Q : Int → MM → Prop) : Prop := ∀ m1 : MM, m1 = up m 582 86 ((m 582 86) + 1) → P_X10_clear (882 * (m 582 86)) 882 m1 (fun r1 m2 => Q (882 * (m 582 86)) m2)
theorem p_X10_newValue {f : Nat} {Q : Int → MM → Prop} {T : MM → Prop} (hf : 3 ≤ f) (m : MM) (h : P_X10_newValue m Q) : CC f M_X10_newValue [vR 582] m Q T := by
  refine CC.of (plainFor_of_name (by decide)) (Nat.le_of_ble_eq_true rfl) (ls := [vR 582, vU]) rfl ?_
  have h : ∀ m1 : MM, m1 = up m 582 86 ((m 582 86) + 1) → P_X10_clear (882 * (m 582 86)) 882 m1 (fun r1 m2 => Q (882 * (m 582 86)) m2) := h
  refine b_sipush dX10_newValue_0 (by decide) ?_
  refine b_aload_n dX10_newValue_3 rfl ?_
  refine b_getI dX10_newValue_4 fk_X10_718 ly_582 ?_
  refine b_imul dX10_newValue_7 ?_
  refine b_istore_n (ls' := [vR 582, vI (882 * (m 582 86))]) dX10_newValue_8 (Nat.le_of_ble_eq_true rfl) rfl ?_
  refine b_aload_n dX10_newValue_9 rfl ?_
  refine b_dup dX10_newValue_10 rfl ?_
  refine b_getI dX10_newValue_11 fk_X10_718 ly_582 ?_
  refine b_iconst dX10_newValue_14 ?_
  refine b_iadd dX10_newValue_15 ?_
  refine b_putI dX10_newValue_16 fk_X10_718 ly_582 (fun m1 em1 => ?_)
  have h := h m1 em1
  refine b_aload_n dX10_newValue_19 rfl ?_
  refine b_iload_n dX10_newValue_20 rfl ?_
  refine b_sipush dX10_newValue_21 (by decide) ?_
  refine b_cVv (as := [vI (882 * (m 582 86)), vI 882]) (st := []) dX10_newValue_24 mf_X10_clear qs162 lk_X10_685 ly_582 rfl (p_X10_clear (f := 2) (Nat.le_refl _) _ _ _ h) (by omega) rfl rfl (Nat.le_of_ble_eq_true rfl) (by decide) rfl (fun _ => rfl) (fun r1 m2 h => ?_) (fun _ h => h)
  refine b_iload_n dX10_newValue_27 rfl ?_
  exact b_iret dX10_newValue_28 rfl h
theorem dX10_step_0 : decode cX10_step 0 = .ok (.aload_n 0, 1) := by decide +kernel
theorem dX10_step_1 : decode cX10_step 1 = .ok (.getfield 601, 3) := by decide +kernel
theorem dX10_step_4 : decode cX10_step 4 = .ok (.ifCond .le 5, 3) := by decide +kernel
theorem dX10_step_7 : decode cX10_step 7 = .ok (.iconst 0, 1) := by decide +kernel
theorem dX10_step_8 : decode cX10_step 8 = .ok (.ireturn, 1) := by decide +kernel
theorem dX10_step_9 : decode cX10_step 9 = .ok (.aload_n 0, 1) := by decide +kernel
theorem dX10_step_10 : decode cX10_step 10 = .ok (.getfield 704, 3) := by decide +kernel
theorem dX10_step_13 : decode cX10_step 13 = .ok (.i2l, 1) := by decide +kernel
theorem dX10_step_14 : decode cX10_step 14 = .ok (.lload_n 1, 1) := by decide +kernel
theorem dX10_step_15 : decode cX10_step 15 = .ok (.ladd, 1) := by decide +kernel
theorem dX10_step_16 : decode cX10_step 16 = .ok (.ldc2_w 707, 3) := by decide +kernel
theorem dX10_step_19 : decode cX10_step 19 = .ok (.lcmp, 1) := by decide +kernel
theorem dX10_step_20 : decode cX10_step 20 = .ok (.ifCond .le 18, 3) := by decide +kernel
theorem dX10_step_23 : decode cX10_step 23 = .ok (.aload_n 0, 1) := by decide +kernel
theorem dX10_step_24 : decode cX10_step 24 = .ok (.bipush 6, 2) := by decide +kernel
theorem dX10_step_26 : decode cX10_step 26 = .ok (.putfield 601, 3) := by decide +kernel
theorem dX10_step_29 : decode cX10_step 29 = .ok (.aload_n 0, 1) := by decide +kernel
theorem dX10_step_30 : decode cX10_step 30 = .ok (.sipush 20000, 3) := by decide +kernel
theorem dX10_step_33 : decode cX10_step 33 = .ok (.putfield 704, 3) := by decide +kernel
theorem dX10_step_36 : decode cX10_step 36 = .ok (.iconst 0, 1) := by decide +kernel
theorem dX10_step_37 : decode cX10_step 37 = .ok (.ireturn, 1) := by decide +kernel
theorem dX10_step_38 : decode cX10_step 38 = .ok (.aload_n 0, 1) := by decide +kernel
theorem dX10_step_39 : decode cX10_step 39 = .ok (.dup, 1) := by decide +kernel
theorem dX10_step_40 : decode cX10_step 40 = .ok (.getfield 704, 3) := by decide +kernel
theorem dX10_step_43 : decode cX10_step 43 = .ok (.lload_n 1, 1) := by decide +kernel
theorem dX10_step_44 : decode cX10_step 44 = .ok (.l2i, 1) := by decide +kernel
theorem dX10_step_45 : decode cX10_step 45 = .ok (.iadd, 1) := by decide +kernel
theorem dX10_step_46 : decode cX10_step 46 = .ok (.putfield 704, 3) := by decide +kernel
theorem dX10_step_49 : decode cX10_step 49 = .ok (.iconst 1, 1) := by decide +kernel
theorem dX10_step_50 : decode cX10_step 50 = .ok (.ireturn, 1) := by decide +kernel
/-! AlgebraHouseModel.step(J)Z -/
def P_X10_step (x1 : Int) (m : MM) (Q : Int → MM → Prop) : Prop := (RI (m 582 84)) ∧ (if (m 582 84) ≤ 0 then (RI (m 582 90)) ∧ (RL ((m 582 90) + x1)) ∧ (if ((m 582 90) + x1) ≤ 20000 then ∀ m1 : MM, m1 = up m 582 90 ((m 582 90) + x1) → Q 1 m1 else ∀ m2 : MM, m2 = up m 582 84 6 → ∀ m3 : MM, m3 = up m2 582 90 20000 → Q 0 m3) else Q 0 m)
theorem p_X10_step {f : Nat} {Q : Int → MM → Prop} {T : MM → Prop} (hf : 1 ≤ f) (x1 : Int) (m : MM) (h : P_X10_step x1 m Q) : CC f M_X10_step [vR 582, vL x1] m Q T := by
  refine CC.of (plainFor_of_name (by decide)) (Nat.le_of_ble_eq_true rfl) (ls := [vR 582, vL x1, vU]) rfl ?_
  have h : (RI (m 582 84)) ∧ (if (m 582 84) ≤ 0 then (RI (m 582 90)) ∧ (RL ((m 582 90) + x1)) ∧ (if ((m 582 90) + x1) ≤ 20000 then ∀ m1 : MM, m1 = up m 582 90 ((m 582 90) + x1) → Q 1 m1 else ∀ m2 : MM, m2 = up m 582 84 6 → ∀ m3 : MM, m3 = up m2 582 90 20000 → Q 0 m3) else Q 0 m) := h
  refine b_aload_n dX10_step_0 rfl ?_
  refine b_getI dX10_step_1 fk_X10_601 ly_582 ?_
  obtain ⟨g1, h⟩ := h
  refine b_if_le 9 dX10_step_4 g1 (by decide) (fun c1 => ?_) (fun c1 => ?_)
  · have h := ifT c1 h
    refine b_aload_n dX10_step_9 rfl ?_
    refine b_getI dX10_step_10 fk_X10_704 ly_582 ?_
    obtain ⟨g2, h⟩ := h
    refine b_i2l dX10_step_13 g2 ?_
    refine b_lload_n dX10_step_14 rfl ?_
    refine b_ladd dX10_step_15 ?_
    refine b_ldc2 (20000) dX10_step_16 q2314 (by decide) ?_
    obtain ⟨g3, h⟩ := h
    refine b_lc_le 38 dX10_step_19 dX10_step_20 g3 (by decide) (by decide) (fun c2 => ?_) (fun c2 => ?_)
    · have h := ifT c2 h
      refine b_aload_n dX10_step_38 rfl ?_
      refine b_dup dX10_step_39 rfl ?_
      refine b_getI dX10_step_40 fk_X10_704 ly_582 ?_
      refine b_lload_n dX10_step_43 rfl ?_
      refine b_l2i dX10_step_44 ?_
      refine b_iadd dX10_step_45 ?_
      refine b_putI dX10_step_46 fk_X10_704 ly_582 (fun m1 em1 => ?_)
      have h := h m1 em1
      refine b_iconst dX10_step_49 ?_
      exact b_zret dX10_step_50 rfl (Or.inr rfl) h
    · have h := ifF c2 h
      refine b_aload_n dX10_step_23 rfl ?_
      refine b_bipush dX10_step_24 (by decide) ?_
      refine b_putI dX10_step_26 fk_X10_601 ly_582 (fun m2 em2 => ?_)
      have h := h m2 em2
      refine b_aload_n dX10_step_29 rfl ?_
      refine b_sipush dX10_step_30 (by decide) ?_
      refine b_putI dX10_step_33 fk_X10_704 ly_582 (fun m3 em3 => ?_)
      have h := h m3 em3
      refine b_iconst dX10_step_36 ?_
      exact b_zret dX10_step_37 rfl (Or.inl rfl) h
  · have h := ifF c1 h
    refine b_iconst dX10_step_7 ?_
    exact b_zret dX10_step_8 rfl (Or.inl rfl) h
theorem dX10_weight_0 : decode cX10_weight 0 = .ok (.aload_n 0, 1) := by decide +kernel
theorem dX10_weight_1 : decode cX10_weight 1 = .ok (.getfield 136, 3) := by decide +kernel
theorem dX10_weight_4 : decode cX10_weight 4 = .ok (.iload_n 1, 1) := by decide +kernel
theorem dX10_weight_5 : decode cX10_weight 5 = .ok (.iaload, 1) := by decide +kernel
theorem dX10_weight_6 : decode cX10_weight 6 = .ok (.ifCond .ne 7, 3) := by decide +kernel
theorem dX10_weight_9 : decode cX10_weight 9 = .ok (.lconst 1, 1) := by decide +kernel
theorem dX10_weight_10 : decode cX10_weight 10 = .ok (.goto 18, 3) := by decide +kernel
theorem dX10_weight_13 : decode cX10_weight 13 = .ok (.aload_n 0, 1) := by decide +kernel
theorem dX10_weight_14 : decode cX10_weight 14 = .ok (.getfield 136, 3) := by decide +kernel
theorem dX10_weight_17 : decode cX10_weight 17 = .ok (.iload_n 1, 1) := by decide +kernel
theorem dX10_weight_18 : decode cX10_weight 18 = .ok (.iaload, 1) := by decide +kernel
theorem dX10_weight_19 : decode cX10_weight 19 = .ok (.i2l, 1) := by decide +kernel
theorem dX10_weight_20 : decode cX10_weight 20 = .ok (.aload_n 0, 1) := by decide +kernel
theorem dX10_weight_21 : decode cX10_weight 21 = .ok (.getfield 136, 3) := by decide +kernel
theorem dX10_weight_24 : decode cX10_weight 24 = .ok (.iload_n 1, 1) := by decide +kernel
theorem dX10_weight_25 : decode cX10_weight 25 = .ok (.iaload, 1) := by decide +kernel
theorem dX10_weight_26 : decode cX10_weight 26 = .ok (.i2l, 1) := by decide +kernel
theorem dX10_weight_27 : decode cX10_weight 27 = .ok (.lmul, 1) := by decide +kernel
theorem dX10_weight_28 : decode cX10_weight 28 = .ok (.lstore_n 2, 1) := by decide +kernel
theorem dX10_weight_29 : decode cX10_weight 29 = .ok (.lload_n 2, 1) := by decide +kernel
theorem dX10_weight_30 : decode cX10_weight 30 = .ok (.aload_n 0, 1) := by decide +kernel
theorem dX10_weight_31 : decode cX10_weight 31 = .ok (.getfield 133, 3) := by decide +kernel
theorem dX10_weight_34 : decode cX10_weight 34 = .ok (.iload_n 1, 1) := by decide +kernel
theorem dX10_weight_35 : decode cX10_weight 35 = .ok (.iaload, 1) := by decide +kernel
theorem dX10_weight_36 : decode cX10_weight 36 = .ok (.ifCond .ne 7, 3) := by decide +kernel
theorem dX10_weight_39 : decode cX10_weight 39 = .ok (.lconst 1, 1) := by decide +kernel
theorem dX10_weight_40 : decode cX10_weight 40 = .ok (.goto 22, 3) := by decide +kernel
theorem dX10_weight_43 : decode cX10_weight 43 = .ok (.aload_n 0, 1) := by decide +kernel
theorem dX10_weight_44 : decode cX10_weight 44 = .ok (.getfield 133, 3) := by decide +kernel
theorem dX10_weight_47 : decode cX10_weight 47 = .ok (.iload_n 1, 1) := by decide +kernel
theorem dX10_weight_48 : decode cX10_weight 48 = .ok (.iaload, 1) := by decide +kernel
theorem dX10_weight_49 : decode cX10_weight 49 = .ok (.iconst 1, 1) := by decide +kernel
theorem dX10_weight_50 : decode cX10_weight 50 = .ok (.if_icmp .ne 9, 3) := by decide +kernel
theorem dX10_weight_53 : decode cX10_weight 53 = .ok (.ldc2_w 709, 3) := by decide +kernel
theorem dX10_weight_56 : decode cX10_weight 56 = .ok (.goto 6, 3) := by decide +kernel
theorem dX10_weight_59 : decode cX10_weight 59 = .ok (.ldc2_w 711, 3) := by decide +kernel
theorem dX10_weight_62 : decode cX10_weight 62 = .ok (.lmul, 1) := by decide +kernel
theorem dX10_weight_63 : decode cX10_weight 63 = .ok (.lreturn, 1) := by decide +kernel
/-! AlgebraHouseModel.weight(I)J -/
def P_X10_weight (x1 : Int) (m : MM) (Q : Int → MM → Prop) : Prop := (0 ≤ x1 ∧ x1 < 12000) ∧ ((RI (m 600 x1))) ∧ (RI (m 599 x1)) ∧ (if (m 599 x1) = 0 then Q ((if (m 600 x1) = 0 then 1 else ((m 600 x1) * (m 600 x1)) : Int) * 1) m else (if (m 599 x1) = 1 then Q ((if (m 600 x1) = 0 then 1 else ((m 600 x1) * (m 600 x1)) : Int) * 7) m else Q ((if (m 600 x1) = 0 then 1 else ((m 600 x1) * (m 600 x1)) : Int) * 49) m))
theorem p_X10_weight {f : Nat} {Q : Int → MM → Prop} {T : MM → Prop} (hf : 1 ≤ f) (x1 : Int) (m : MM) (h : P_X10_weight x1 m Q) : CC f M_X10_weight [vR 582, vI x1] m Q T := by
  refine CC.of (plainFor_of_name (by decide)) (Nat.le_of_ble_eq_true rfl) (ls := [vR 582, vI x1, vU, vU]) rfl ?_
  have h : (0 ≤ x1 ∧ x1 < 12000) ∧ ((RI (m 600 x1))) ∧ (RI (m 599 x1)) ∧ (if (m 599 x1) = 0 then Q ((if (m 600 x1) = 0 then 1 else ((m 600 x1) * (m 600 x1)) : Int) * 1) m else (if (m 599 x1) = 1 then Q ((if (m 600 x1) = 0 then 1 else ((m 600 x1) * (m 600 x1)) : Int) * 7) m else Q ((if (m 600 x1) = 0 then 1 else ((m 600 x1) * (m 600 x1)) : Int) * 49) m)) := h
  refine b_aload_n dX10_weight_0 rfl ?_
  refine b_getR dX10_weight_1 fk_X10_136 ly_582 gg_582_26 ?_
  refine b_iload_n dX10_weight_4 rfl ?_
  obtain ⟨g1, h⟩ := h
  refine b_iald dX10_weight_5 ly_600 g1 ?_
  obtain ⟨hs, h⟩ := h
  have K : B f M_X10_weight 28 [vR 582, vI x1, vU, vU] [vL (if (m 600 x1) = 0 then 1 else ((m 600 x1) * (m 600 x1)) : Int)] m Q T := by
    clear hs
    refine b_lstore_n (ls' := [vR 582, vI x1, vL (if (m 600 x1) = 0 then 1 else ((m 600 x1) * (m 600 x1)) : Int), vU]) dX10_weight_28 (Nat.le_of_ble_eq_true rfl) rfl ?_
    refine b_lload_n dX10_weight_29 rfl ?_
    refine b_aload_n dX10_weight_30 rfl ?_
    refine b_getR dX10_weight_31 fk_X10_133 ly_582 gg_582_25 ?_
    refine b_iload_n dX10_weight_34 rfl ?_
    refine b_iald dX10_weight_35 ly_599 g1 ?_
    obtain ⟨g3, h⟩ := h
    refine b_if_ne 43 dX10_weight_36 g3 (by decide) (fun c1 => ?_) (fun c1 => ?_)
    · have h := ifF c1 h
      refine b_aload_n dX10_weight_43 rfl ?_
      refine b_getR dX10_weight_44 fk_X10_133 ly_582 gg_582_25 ?_
      refine b_iload_n dX10_weight_47 rfl ?_
      refine b_iald dX10_weight_48 ly_599 g1 ?_
      refine b_iconst dX10_weight_49 ?_
      refine b_icmp_ne 59 dX10_weight_50 g3 (by decide) (by decide) (fun c2 => ?_) (fun c2 => ?_)
      · have h := ifF c2 h
        refine b_ldc2 (49) dX10_weight_59 q2306 (by decide) ?_
        refine b_lmul dX10_weight_62 ?_
        exact b_lret dX10_weight_63 rfl h
      · have h := ifT (Decidable.of_not_not c2) h
        refine b_ldc2 (7) dX10_weight_53 q2305 (by decide) ?_
        refine b_goto 62 dX10_weight_56 (by decide) ?_
        refine b_lmul dX10_weight_62 ?_
        exact b_lret dX10_weight_63 rfl h
    · have h := ifT (Decidable.of_not_not c1) h
      refine b_lconst 1 dX10_weight_39 (by decide) ?_
      refine b_goto 62 dX10_weight_40 (by decide) ?_
      refine b_lmul dX10_weight_62 ?_
      exact b_lret dX10_weight_63 rfl h
  have g2 := hs
  refine b_if_ne 13 dX10_weight_6 g2 (by decide) (fun c3 => ?_) (fun c3 => ?_)
  ·
    refine b_aload_n dX10_weight_13 rfl ?_
    refine b_getR dX10_weight_14 fk_X10_136 ly_582 gg_582_26 ?_
    refine b_iload_n dX10_weight_17 rfl ?_
    refine b_iald dX10_weight_18 ly_600 g1 ?_
    refine b_i2l dX10_weight_19 g2 ?_
    refine b_aload_n dX10_weight_20 rfl ?_
    refine b_getR dX10_weight_21 fk_X10_136 ly_582 gg_582_26 ?_
    refine b_iload_n dX10_weight_24 rfl ?_
    refine b_iald dX10_weight_25 ly_600 g1 ?_
    refine b_i2l dX10_weight_26 g2 ?_
    refine b_lmul dX10_weight_27 ?_
    exact Eq.mp (congrArg (fun z => B f M_X10_weight 28 [vR 582, vI x1, vU, vU] (vL z :: []) m Q T) (show (if (m 600 x1) = 0 then 1 else ((m 600 x1) * (m 600 x1)) : Int) = ((m 600 x1) * (m 600 x1)) by rw [if_neg c3])) K
  ·
    have c3 := Decidable.of_not_not c3
    refine b_lconst 1 dX10_weight_9 (by decide) ?_
    refine b_goto 28 dX10_weight_10 (by decide) ?_
    exact Eq.mp (congrArg (fun z => B f M_X10_weight 28 [vR 582, vI x1, vU, vU] (vL z :: []) m Q T) (show (if (m 600 x1) = 0 then 1 else ((m 600 x1) * (m 600 x1)) : Int) = 1 by rw [if_pos c3])) K
theorem dX10_stepsOf_0 : decode cX10_stepsOf 0 = .ok (.aload_n 0, 1) := by decide +kernel
theorem dX10_stepsOf_1 : decode cX10_stepsOf 1 = .ok (.getfield 106, 3) := by decide +kernel
theorem dX10_stepsOf_4 : decode cX10_stepsOf 4 = .ok (.iload_n 1, 1) := by decide +kernel
theorem dX10_stepsOf_5 : decode cX10_stepsOf 5 = .ok (.iaload, 1) := by decide +kernel
theorem dX10_stepsOf_6 : decode cX10_stepsOf 6 = .ok (.istore_n 2, 1) := by decide +kernel
theorem dX10_stepsOf_7 : decode cX10_stepsOf 7 = .ok (.iload_n 2, 1) := by decide +kernel
theorem dX10_stepsOf_8 : decode cX10_stepsOf 8 = .ok (.bipush 19, 2) := by decide +kernel
theorem dX10_stepsOf_10 : decode cX10_stepsOf 10 = .ok (.if_icmp .eq 15, 3) := by decide +kernel
theorem dX10_stepsOf_13 : decode cX10_stepsOf 13 = .ok (.iload_n 2, 1) := by decide +kernel
theorem dX10_stepsOf_14 : decode cX10_stepsOf 14 = .ok (.bipush 21, 2) := by decide +kernel
theorem dX10_stepsOf_16 : decode cX10_stepsOf 16 = .ok (.if_icmp .eq 9, 3) := by decide +kernel
theorem dX10_stepsOf_19 : decode cX10_stepsOf 19 = .ok (.iload_n 2, 1) := by decide +kernel
theorem dX10_stepsOf_20 : decode cX10_stepsOf 20 = .ok (.bipush 22, 2) := by decide +kernel
theorem dX10_stepsOf_22 : decode cX10_stepsOf 22 = .ok (.if_icmp .ne 9, 3) := by decide +kernel
theorem dX10_stepsOf_25 : decode cX10_stepsOf 25 = .ok (.aload_n 0, 1) := by decide +kernel
theorem dX10_stepsOf_26 : decode cX10_stepsOf 26 = .ok (.iload_n 1, 1) := by decide +kernel
theorem dX10_stepsOf_27 : decode cX10_stepsOf 27 = .ok (.invokevirtual 713, 3) := by decide +kernel
theorem dX10_stepsOf_30 : decode cX10_stepsOf 30 = .ok (.lreturn, 1) := by decide +kernel
theorem dX10_stepsOf_31 : decode cX10_stepsOf 31 = .ok (.iload_n 2, 1) := by decide +kernel
theorem dX10_stepsOf_32 : decode cX10_stepsOf 32 = .ok (.bipush 23, 2) := by decide +kernel
theorem dX10_stepsOf_34 : decode cX10_stepsOf 34 = .ok (.if_icmp .ne 20, 3) := by decide +kernel
theorem dX10_stepsOf_37 : decode cX10_stepsOf 37 = .ok (.aload_n 0, 1) := by decide +kernel
theorem dX10_stepsOf_38 : decode cX10_stepsOf 38 = .ok (.iload_n 1, 1) := by decide +kernel
theorem dX10_stepsOf_39 : decode cX10_stepsOf 39 = .ok (.invokevirtual 713, 3) := by decide +kernel
theorem dX10_stepsOf_42 : decode cX10_stepsOf 42 = .ok (.lconst 1, 1) := by decide +kernel
theorem dX10_stepsOf_43 : decode cX10_stepsOf 43 = .ok (.aload_n 0, 1) := by decide +kernel
theorem dX10_stepsOf_44 : decode cX10_stepsOf 44 = .ok (.getfield 152, 3) := by decide +kernel
theorem dX10_stepsOf_47 : decode cX10_stepsOf 47 = .ok (.iload_n 1, 1) := by decide +kernel
theorem dX10_stepsOf_48 : decode cX10_stepsOf 48 = .ok (.laload, 1) := by decide +kernel
theorem dX10_stepsOf_49 : decode cX10_stepsOf 49 = .ok (.invokestatic 716, 3) := by decide +kernel
theorem dX10_stepsOf_52 : decode cX10_stepsOf 52 = .ok (.lmul, 1) := by decide +kernel
theorem dX10_stepsOf_53 : decode cX10_stepsOf 53 = .ok (.lreturn, 1) := by decide +kernel
theorem dX10_stepsOf_54 : decode cX10_stepsOf 54 = .ok (.iload_n 2, 1) := by decide +kernel
theorem dX10_stepsOf_55 : decode cX10_stepsOf 55 = .ok (.bipush 6, 2) := by decide +kernel
theorem dX10_stepsOf_57 : decode cX10_stepsOf 57 = .ok (.if_icmp .eq 5, 3) := by decide +kernel
theorem dX10_stepsOf_60 : decode cX10_stepsOf 60 = .ok (.lconst 1, 1) := by decide +kernel
theorem dX10_stepsOf_61 : decode cX10_stepsOf 61 = .ok (.lreturn, 1) := by decide +kernel
theorem dX10_stepsOf_62 : decode cX10_stepsOf 62 = .ok (.aload_n 0, 1) := by decide +kernel
theorem dX10_stepsOf_63 : decode cX10_stepsOf 63 = .ok (.getfield 127, 3) := by decide +kernel
theorem dX10_stepsOf_66 : decode cX10_stepsOf 66 = .ok (.iload_n 1, 1) := by decide +kernel
theorem dX10_stepsOf_67 : decode cX10_stepsOf 67 = .ok (.iaload, 1) := by decide +kernel
theorem dX10_stepsOf_68 : decode cX10_stepsOf 68 = .ok (.istore_n 3, 1) := by decide +kernel
theorem dX10_stepsOf_69 : decode cX10_stepsOf 69 = .ok (.iload_n 3, 1) := by decide +kernel
theorem dX10_stepsOf_70 : decode cX10_stepsOf 70 = .ok (.iconst 5, 1) := by decide +kernel
theorem dX10_stepsOf_71 : decode cX10_stepsOf 71 = .ok (.if_icmp .eq 9, 3) := by decide +kernel
theorem dX10_stepsOf_74 : decode cX10_stepsOf 74 = .ok (.iload_n 3, 1) := by decide +kernel
theorem dX10_stepsOf_75 : decode cX10_stepsOf 75 = .ok (.bipush 10, 2) := by decide +kernel
theorem dX10_stepsOf_77 : decode cX10_stepsOf 77 = .ok (.if_icmp .ne 19, 3) := by decide +kernel
theorem dX10_stepsOf_80 : decode cX10_stepsOf 80 = .ok (.aload_n 0, 1) := by decide +kernel
theorem dX10_stepsOf_81 : decode cX10_stepsOf 81 = .ok (.aload_n 0, 1) := by decide +kernel
theorem dX10_stepsOf_82 : decode cX10_stepsOf 82 = .ok (.getfield 109, 3) := by decide +kernel
theorem dX10_stepsOf_85 : decode cX10_stepsOf 85 = .ok (.aload_n 0, 1) := by decide +kernel
theorem dX10_stepsOf_86 : decode cX10_stepsOf 86 = .ok (.getfield 109, 3) := by decide +kernel
theorem dX10_stepsOf_89 : decode cX10_stepsOf 89 = .ok (.iload_n 1, 1) := by decide +kernel
theorem dX10_stepsOf_90 : decode cX10_stepsOf 90 = .ok (.iaload, 1) := by decide +kernel
theorem dX10_stepsOf_91 : decode cX10_stepsOf 91 = .ok (.iaload, 1) := by decide +kernel
theorem dX10_stepsOf_92 : decode cX10_stepsOf 92 = .ok (.invokevirtual 713, 3) := by decide +kernel
theorem dX10_stepsOf_95 : decode cX10_stepsOf 95 = .ok (.lreturn, 1) := by decide +kernel
theorem dX10_stepsOf_96 : decode cX10_stepsOf 96 = .ok (.iload_n 3, 1) := by decide +kernel
theorem dX10_stepsOf_97 : decode cX10_stepsOf 97 = .ok (.ifCond .eq 20, 3) := by decide +kernel
theorem dX10_stepsOf_100 : decode cX10_stepsOf 100 = .ok (.iload_n 3, 1) := by decide +kernel
theorem dX10_stepsOf_101 : decode cX10_stepsOf 101 = .ok (.iconst 3, 1) := by decide +kernel
theorem dX10_stepsOf_102 : decode cX10_stepsOf 102 = .ok (.if_icmp .eq 15, 3) := by decide +kernel
theorem dX10_stepsOf_105 : decode cX10_stepsOf 105 = .ok (.iload_n 3, 1) := by decide +kernel
theorem dX10_stepsOf_106 : decode cX10_stepsOf 106 = .ok (.bipush 8, 2) := by decide +kernel
theorem dX10_stepsOf_108 : decode cX10_stepsOf 108 = .ok (.if_icmp .eq 9, 3) := by decide +kernel
theorem dX10_stepsOf_111 : decode cX10_stepsOf 111 = .ok (.iload_n 3, 1) := by decide +kernel
theorem dX10_stepsOf_112 : decode cX10_stepsOf 112 = .ok (.bipush 9, 2) := by decide +kernel
theorem dX10_stepsOf_114 : decode cX10_stepsOf 114 = .ok (.if_icmp .ne 11, 3) := by decide +kernel
theorem dX10_stepsOf_117 : decode cX10_stepsOf 117 = .ok (.aload_n 0, 1) := by decide +kernel
theorem dX10_stepsOf_118 : decode cX10_stepsOf 118 = .ok (.iload_n 1, 1) := by decide +kernel
theorem dX10_stepsOf_119 : decode cX10_stepsOf 119 = .ok (.invokevirtual 713, 3) := by decide +kernel
theorem dX10_stepsOf_122 : decode cX10_stepsOf 122 = .ok (.goto 4, 3) := by decide +kernel
theorem dX10_stepsOf_125 : decode cX10_stepsOf 125 = .ok (.lconst 1, 1) := by decide +kernel
theorem dX10_stepsOf_126 : decode cX10_stepsOf 126 = .ok (.lreturn, 1) := by decide +kernel
/-! AlgebraHouseModel.stepsOf(I)J -/
def P_X10_stepsOf_25 (Q : Int → MM → Prop) (x1 : Int) (m : MM) : Prop := P_X10_weight x1 m (fun r1 m1 => Q r1 m1)
def P_X10_stepsOf_80 (Q : Int → MM → Prop) (x1 : Int) (m : MM) : Prop := (0 ≤ x1 ∧ x1 < 12000) ∧ (0 ≤ (m 591 x1) ∧ (m 591 x1) < 12000) ∧ P_X10_weight (m 591 (m 591 x1)) m (fun r1 m1 => Q r1 m1)
def P_X10_stepsOf_117 (Q : Int → MM → Prop) (x1 : Int) (m : MM) : Prop := P_X10_weight x1 m (fun r1 m1 => Q r1 m1)
def P_X10_stepsOf (x1 : Int) (m : MM) (Q : Int → MM → Prop) : Prop := (0 ≤ x1 ∧ x1 < 12000) ∧ (RI (m 590 x1)) ∧ (if (m 590 x1) = 19 then P_X10_stepsOf_25 Q x1 m else (if (m 590 x1) = 21 then P_X10_stepsOf_25 Q x1 m else (if (m 590 x1) = 22 then P_X10_stepsOf_25 Q x1 m else (if (m 590 x1) = 23 then P_X10_weight x1 m (fun r1 m1 => P_J4_max_2 1 (m1 605 x1) m1 (fun r2 m2 => Q (r1 * r2) m2)) else (if (m 590 x1) = 6 then (RI (m 597 x1)) ∧ (if (m 597 x1) = 5 then P_X10_stepsOf_80 Q x1 m else (if (m 597 x1) = 10 then P_X10_stepsOf_80 Q x1 m else (if (m 597 x1) = 0 then P_X10_stepsOf_117 Q x1 m else (if (m 597 x1) = 3 then P_X10_stepsOf_117 Q x1 m else (if (m 597 x1) = 8 then P_X10_stepsOf_117 Q x1 m else (if (m 597 x1) = 9 then P_X10_stepsOf_117 Q x1 m else Q 1 m)))))) else Q 1 m)))))
theorem pl_X10_stepsOf_25 {f : Nat} {Q : Int → MM → Prop} {T : MM → Prop} (hf : 2 ≤ f) : ∀ (x1 : Int) (m : MM), P_X10_stepsOf_25 Q x1 m → B f M_X10_stepsOf 25 [vR 582, vI x1, vU, vU] [] m Q T := by
  intro x1 m h
  have h : P_X10_weight x1 m (fun r1 m1 => Q r1 m1) := h
  refine b_aload_n dX10_stepsOf_25 rfl ?_
  refine b_iload_n dX10_stepsOf_26 rfl ?_
  refine b_cVl (as := [vI x1]) (st := []) dX10_stepsOf_27 mf_X10_weight qs159 lk_X10_713 ly_582 rfl (p_X10_weight (f := 1) (Nat.le_refl _) _ _ h) (by omega) rfl rfl (Nat.le_of_ble_eq_true rfl) (by decide) rfl (fun _ => rfl) (fun r1 m1 h => ?_) (fun _ h => h)
  exact b_lret dX10_stepsOf_30 rfl h
theorem pl_X10_stepsOf_80 {f : Nat} {Q : Int → MM → Prop} {T : MM → Prop} (hf : 2 ≤ f) : ∀ (x1 : Int) (m : MM), P_X10_stepsOf_80 Q x1 m → B f M_X10_stepsOf 80 [vR 582, vI x1, vU, vU] [] m Q T := by
  intro x1 m h
  have h : (0 ≤ x1 ∧ x1 < 12000) ∧ (0 ≤ (m 591 x1) ∧ (m 591 x1) < 12000) ∧ P_X10_weight (m 591 (m 591 x1)) m (fun r1 m1 => Q r1 m1) := h
  refine b_aload_n dX10_stepsOf_80 rfl ?_
  refine b_aload_n dX10_stepsOf_81 rfl ?_
  refine b_getR dX10_stepsOf_82 fk_X10_109 ly_582 gg_582_17 ?_
  refine b_aload_n dX10_stepsOf_85 rfl ?_
  refine b_getR dX10_stepsOf_86 fk_X10_109 ly_582 gg_582_17 ?_
  refine b_iload_n dX10_stepsOf_89 rfl ?_
  obtain ⟨g1, h⟩ := h
  refine b_iald dX10_stepsOf_90 ly_591 g1 ?_
  obtain ⟨g2, h⟩ := h
  refine b_iald dX10_stepsOf_91 ly_591 g2 ?_
  refine b_cVl (as := [vI (m 591 (m 591 x1))]) (st := []) dX10_stepsOf_92 mf_X10_weight qs159 lk_X10_713 ly_582 rfl (p_X10_weight (f := 1) (Nat.le_refl _) _ _ h) (by omega) rfl rfl (Nat.le_of_ble_eq_true rfl) (by decide) rfl (fun _ => rfl) (fun r1 m1 h => ?_) (fun _ h => h)
  exact b_lret dX10_stepsOf_95 rfl h
theorem pl_X10_stepsOf_117 {f : Nat} {Q : Int → MM → Prop} {T : MM → Prop} (hf : 2 ≤ f) : ∀ (x1 : Int) (m : MM), P_X10_stepsOf_117 Q x1 m → B f M_X10_stepsOf 117 [vR 582, vI x1, vU, vU] [] m Q T := by
  intro x1 m h
  have h : P_X10_weight x1 m (fun r1 m1 => Q r1 m1) := h
  refine b_aload_n dX10_stepsOf_117 rfl ?_
  refine b_iload_n dX10_stepsOf_118 rfl ?_
  refine b_cVl (as := [vI x1]) (st := []) dX10_stepsOf_119 mf_X10_weight qs159 lk_X10_713 ly_582 rfl (p_X10_weight (f := 1) (Nat.le_refl _) _ _ h) (by omega) rfl rfl (Nat.le_of_ble_eq_true rfl) (by decide) rfl (fun _ => rfl) (fun r1 m1 h => ?_) (fun _ h => h)
  refine b_goto 126 dX10_stepsOf_122 (by decide) ?_
  exact b_lret dX10_stepsOf_126 rfl h
theorem p_X10_stepsOf {f : Nat} {Q : Int → MM → Prop} {T : MM → Prop} (hf : 2 ≤ f) (x1 : Int) (m : MM) (h : P_X10_stepsOf x1 m Q) : CC f M_X10_stepsOf [vR 582, vI x1] m Q T := by
  refine CC.of (plainFor_of_name (by decide)) (Nat.le_of_ble_eq_true rfl) (ls := [vR 582, vI x1, vU, vU]) rfl ?_
  have h : (0 ≤ x1 ∧ x1 < 12000) ∧ (RI (m 590 x1)) ∧ (if (m 590 x1) = 19 then P_X10_stepsOf_25 Q x1 m else (if (m 590 x1) = 21 then P_X10_stepsOf_25 Q x1 m else (if (m 590 x1) = 22 then P_X10_stepsOf_25 Q x1 m else (if (m 590 x1) = 23 then P_X10_weight x1 m (fun r1 m1 => P_J4_max_2 1 (m1 605 x1) m1 (fun r2 m2 => Q (r1 * r2) m2)) else (if (m 590 x1) = 6 then (RI (m 597 x1)) ∧ (if (m 597 x1) = 5 then P_X10_stepsOf_80 Q x1 m else (if (m 597 x1) = 10 then P_X10_stepsOf_80 Q x1 m else (if (m 597 x1) = 0 then P_X10_stepsOf_117 Q x1 m else (if (m 597 x1) = 3 then P_X10_stepsOf_117 Q x1 m else (if (m 597 x1) = 8 then P_X10_stepsOf_117 Q x1 m else (if (m 597 x1) = 9 then P_X10_stepsOf_117 Q x1 m else Q 1 m)))))) else Q 1 m))))) := h
  refine b_aload_n dX10_stepsOf_0 rfl ?_
  refine b_getR dX10_stepsOf_1 fk_X10_106 ly_582 gg_582_16 ?_
  refine b_iload_n dX10_stepsOf_4 rfl ?_
  obtain ⟨g1, h⟩ := h
  refine b_iald dX10_stepsOf_5 ly_590 g1 ?_
  refine b_istore_n (ls' := [vR 582, vI x1, vI (m 590 x1), vU]) dX10_stepsOf_6 (Nat.le_of_ble_eq_true rfl) rfl ?_
  refine b_iload_n dX10_stepsOf_7 rfl ?_
  refine b_bipush dX10_stepsOf_8 (by decide) ?_
  obtain ⟨g2, h⟩ := h
  refine b_icmp_eq 25 dX10_stepsOf_10 g2 (by decide) (by decide) (fun c1 => ?_) (fun c1 => ?_)
  · have h := ifT c1 h
    refine b_fgt [true, true, false, false] (ls' := [vR 582, vI x1, vU, vU]) rfl rfl ?_
    exact pl_X10_stepsOf_25 hf _ _ h
  · have h := ifF c1 h
    refine b_iload_n dX10_stepsOf_13 rfl ?_
    refine b_bipush dX10_stepsOf_14 (by decide) ?_
    refine b_icmp_eq 25 dX10_stepsOf_16 g2 (by decide) (by decide) (fun c2 => ?_) (fun c2 => ?_)
    · have h := ifT c2 h
      refine b_fgt [true, true, false, false] (ls' := [vR 582, vI x1, vU, vU]) rfl rfl ?_
      exact pl_X10_stepsOf_25 hf _ _ h
    · have h := ifF c2 h
      refine b_iload_n dX10_stepsOf_19 rfl ?_
      refine b_bipush dX10_stepsOf_20 (by decide) ?_
      refine b_icmp_ne 31 dX10_stepsOf_22 g2 (by decide) (by decide) (fun c3 => ?_) (fun c3 => ?_)
      · have h := ifF c3 h
        refine b_iload_n dX10_stepsOf_31 rfl ?_
        refine b_bipush dX10_stepsOf_32 (by decide) ?_
        refine b_icmp_ne 54 dX10_stepsOf_34 g2 (by decide) (by decide) (fun c4 => ?_) (fun c4 => ?_)
        · have h := ifF c4 h
          refine b_iload_n dX10_stepsOf_54 rfl ?_
          refine b_bipush dX10_stepsOf_55 (by decide) ?_
          refine b_icmp_eq 62 dX10_stepsOf_57 g2 (by decide) (by decide) (fun c5 => ?_) (fun c5 => ?_)
          · have h := ifT c5 h
            refine b_aload_n dX10_stepsOf_62 rfl ?_
            refine b_getR dX10_stepsOf_63 fk_X10_127 ly_582 gg_582_23 ?_
            refine b_iload_n dX10_stepsOf_66 rfl ?_
            refine b_iald dX10_stepsOf_67 ly_597 g1 ?_
            refine b_istore_n (ls' := [vR 582, vI x1, vI (m 590 x1), vI (m 597 x1)]) dX10_stepsOf_68 (Nat.le_of_ble_eq_true rfl) rfl ?_
            refine b_iload_n dX10_stepsOf_69 rfl ?_
            refine b_iconst dX10_stepsOf_70 ?_
            obtain ⟨g3, h⟩ := h
            refine b_icmp_eq 80 dX10_stepsOf_71 g3 (by decide) (by decide) (fun c6 => ?_) (fun c6 => ?_)
            · have h := ifT c6 h
              refine b_fgt [true, true, false, false] (ls' := [vR 582, vI x1, vU, vU]) rfl rfl ?_
              exact pl_X10_stepsOf_80 hf _ _ h
            · have h := ifF c6 h
              refine b_iload_n dX10_stepsOf_74 rfl ?_
              refine b_bipush dX10_stepsOf_75 (by decide) ?_
              refine b_icmp_ne 96 dX10_stepsOf_77 g3 (by decide) (by decide) (fun c7 => ?_) (fun c7 => ?_)
              · have h := ifF c7 h
                refine b_iload_n dX10_stepsOf_96 rfl ?_
                refine b_if_eq 117 dX10_stepsOf_97 g3 (by decide) (fun c8 => ?_) (fun c8 => ?_)
                · have h := ifT c8 h
                  refine b_fgt [true, true, false, false] (ls' := [vR 582, vI x1, vU, vU]) rfl rfl ?_
                  exact pl_X10_stepsOf_117 hf _ _ h
                · have h := ifF c8 h
                  refine b_iload_n dX10_stepsOf_100 rfl ?_
                  refine b_iconst dX10_stepsOf_101 ?_
                  refine b_icmp_eq 117 dX10_stepsOf_102 g3 (by decide) (by decide) (fun c9 => ?_) (fun c9 => ?_)
                  · have h := ifT c9 h
                    refine b_fgt [true, true, false, false] (ls' := [vR 582, vI x1, vU, vU]) rfl rfl ?_
                    exact pl_X10_stepsOf_117 hf _ _ h
                  · have h := ifF c9 h
                    refine b_iload_n dX10_stepsOf_105 rfl ?_
                    refine b_bipush dX10_stepsOf_106 (by decide) ?_
                    refine b_icmp_eq 117 dX10_stepsOf_108 g3 (by decide) (by decide) (fun c10 => ?_) (fun c10 => ?_)
                    · have h := ifT c10 h
                      refine b_fgt [true, true, false, false] (ls' := [vR 582, vI x1, vU, vU]) rfl rfl ?_
                      exact pl_X10_stepsOf_117 hf _ _ h
                    · have h := ifF c10 h
                      refine b_iload_n dX10_stepsOf_111 rfl ?_
                      refine b_bipush dX10_stepsOf_112 (by decide) ?_
                      refine b_icmp_ne 125 dX10_stepsOf_114 g3 (by decide) (by decide) (fun c11 => ?_) (fun c11 => ?_)
                      · have h := ifF c11 h
                        refine b_lconst 1 dX10_stepsOf_125 (by decide) ?_
                        exact b_lret dX10_stepsOf_126 rfl h
                      · have h := ifT (Decidable.of_not_not c11) h
                        refine b_fgt [true, true, false, false] (ls' := [vR 582, vI x1, vU, vU]) rfl rfl ?_
                        exact pl_X10_stepsOf_117 hf _ _ h
              · have h := ifT (Decidable.of_not_not c7) h
                refine b_fgt [true, true, false, false] (ls' := [vR 582, vI x1, vU, vU]) rfl rfl ?_
                exact pl_X10_stepsOf_80 hf _ _ h
          · have h := ifF c5 h
            refine b_lconst 1 dX10_stepsOf_60 (by decide) ?_
            exact b_lret dX10_stepsOf_61 rfl h
        · have h := ifT (Decidable.of_not_not c4) h
          refine b_aload_n dX10_stepsOf_37 rfl ?_
          refine b_iload_n dX10_stepsOf_38 rfl ?_
          refine b_cVl (as := [vI x1]) (st := []) dX10_stepsOf_39 mf_X10_weight qs159 lk_X10_713 ly_582 rfl (p_X10_weight (f := 1) (Nat.le_refl _) _ _ h) (by omega) rfl rfl (Nat.le_of_ble_eq_true rfl) (by decide) rfl (fun _ => rfl) (fun r1 m1 h => ?_) (fun _ h => h)
          refine b_lconst 1 dX10_stepsOf_42 (by decide) ?_
          refine b_aload_n dX10_stepsOf_43 rfl ?_
          refine b_getR dX10_stepsOf_44 fk_X10_152 ly_582 gg_582_31 ?_
          refine b_iload_n dX10_stepsOf_47 rfl ?_
          refine b_lald dX10_stepsOf_48 ly_605 g1 ?_
          refine b_cSl (as := [vL 1, vL (m1 605 x1)]) (st := [vL r1]) dX10_stepsOf_49 mf_J4_max_2 lk_X10_716 (p_J4_max_2 (f := 1) (Nat.le_refl _) _ _ _ h) (by omega) rfl rfl (Nat.le_of_ble_eq_true rfl) (by decide) rfl (fun _ => rfl) (fun r2 m2 h => ?_) (fun _ h => h)
          refine b_lmul dX10_stepsOf_52 ?_
          exact b_lret dX10_stepsOf_53 rfl h
      · have h := ifT (Decidable.of_not_not c3) h
        refine b_fgt [true, true, false, false] (ls' := [vR 582, vI x1, vU, vU]) rfl rfl ?_
        exact pl_X10_stepsOf_25 hf _ _ h
