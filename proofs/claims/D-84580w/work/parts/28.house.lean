set_option maxRecDepth 100000
theorem dX0_count_0 : decode cX0_count 0 = .ok (.iload_n 1, 1) := by decide +kernel
theorem dX0_count_1 : decode cX0_count 1 = .ok (.ifCond .ne 13, 3) := by decide +kernel
theorem dX0_count_4 : decode cX0_count 4 = .ok (.aload_n 0, 1) := by decide +kernel
theorem dX0_count_5 : decode cX0_count 5 = .ok (.getfield 16, 3) := by decide +kernel
theorem dX0_count_8 : decode cX0_count 8 = .ok (.getfield 131, 3) := by decide +kernel
theorem dX0_count_11 : decode cX0_count 11 = .ok (.goto 46, 3) := by decide +kernel
theorem dX0_count_14 : decode cX0_count 14 = .ok (.iload_n 1, 1) := by decide +kernel
theorem dX0_count_15 : decode cX0_count 15 = .ok (.iconst 1, 1) := by decide +kernel
theorem dX0_count_16 : decode cX0_count 16 = .ok (.if_icmp .ne 13, 3) := by decide +kernel
theorem dX0_count_19 : decode cX0_count 19 = .ok (.aload_n 0, 1) := by decide +kernel
theorem dX0_count_20 : decode cX0_count 20 = .ok (.getfield 16, 3) := by decide +kernel
theorem dX0_count_23 : decode cX0_count 23 = .ok (.getfield 151, 3) := by decide +kernel
theorem dX0_count_26 : decode cX0_count 26 = .ok (.goto 31, 3) := by decide +kernel
theorem dX0_count_29 : decode cX0_count 29 = .ok (.iload_n 1, 1) := by decide +kernel
theorem dX0_count_30 : decode cX0_count 30 = .ok (.iconst 2, 1) := by decide +kernel
theorem dX0_count_31 : decode cX0_count 31 = .ok (.if_icmp .ne 13, 3) := by decide +kernel
theorem dX0_count_34 : decode cX0_count 34 = .ok (.aload_n 0, 1) := by decide +kernel
theorem dX0_count_35 : decode cX0_count 35 = .ok (.getfield 16, 3) := by decide +kernel
theorem dX0_count_38 : decode cX0_count 38 = .ok (.getfield 81, 3) := by decide +kernel
theorem dX0_count_41 : decode cX0_count 41 = .ok (.goto 16, 3) := by decide +kernel
theorem dX0_count_44 : decode cX0_count 44 = .ok (.iload_n 1, 1) := by decide +kernel
theorem dX0_count_45 : decode cX0_count 45 = .ok (.iconst 3, 1) := by decide +kernel
theorem dX0_count_46 : decode cX0_count 46 = .ok (.if_icmp .ne 10, 3) := by decide +kernel
theorem dX0_count_49 : decode cX0_count 49 = .ok (.aload_n 0, 1) := by decide +kernel
theorem dX0_count_50 : decode cX0_count 50 = .ok (.getfield 65, 3) := by decide +kernel
theorem dX0_count_53 : decode cX0_count 53 = .ok (.goto 4, 3) := by decide +kernel
theorem dX0_count_56 : decode cX0_count 56 = .ok (.iconst (-1), 1) := by decide +kernel
theorem dX0_count_57 : decode cX0_count 57 = .ok (.ireturn, 1) := by decide +kernel
/-! AlgebraHouse.count(I)I -/
def P_X0_count (x1 : Int) (m : MM) (Q : Int → MM → Prop) : Prop := (RI x1) ∧ (if x1 = 0 then Q (m 3 3) m else (if x1 = 1 then Q (m 3 2) m else (if x1 = 2 then Q (m 3 1) m else (if x1 = 3 then Q (m 1 1) m else Q (-1) m))))
theorem p_X0_count {f : Nat} {Q : Int → MM → Prop} {T : MM → Prop} (hf : 1 ≤ f) (x1 : Int) (m : MM) (h : P_X0_count x1 m Q) : CC f M_X0_count [vR 1, vI x1] m Q T := by
  refine CC.of (plainFor_of_name (by decide)) (Nat.le_of_ble_eq_true rfl) (ls := [vR 1, vI x1]) rfl ?_
  have h : (RI x1) ∧ (if x1 = 0 then Q (m 3 3) m else (if x1 = 1 then Q (m 3 2) m else (if x1 = 2 then Q (m 3 1) m else (if x1 = 3 then Q (m 1 1) m else Q (-1) m)))) := h
  refine b_iload_n dX0_count_0 rfl ?_
  obtain ⟨g1, h⟩ := h
  refine b_if_ne 14 dX0_count_1 g1 (by decide) (fun c1 => ?_) (fun c1 => ?_)
  · have h := ifF c1 h
    refine b_iload_n dX0_count_14 rfl ?_
    refine b_iconst dX0_count_15 ?_
    refine b_icmp_ne 29 dX0_count_16 g1 (by decide) (by decide) (fun c2 => ?_) (fun c2 => ?_)
    · have h := ifF c2 h
      refine b_iload_n dX0_count_29 rfl ?_
      refine b_iconst dX0_count_30 ?_
      refine b_icmp_ne 44 dX0_count_31 g1 (by decide) (by decide) (fun c3 => ?_) (fun c3 => ?_)
      · have h := ifF c3 h
        refine b_iload_n dX0_count_44 rfl ?_
        refine b_iconst dX0_count_45 ?_
        refine b_icmp_ne 56 dX0_count_46 g1 (by decide) (by decide) (fun c4 => ?_) (fun c4 => ?_)
        · have h := ifF c4 h
          refine b_iconst dX0_count_56 ?_
          exact b_iret dX0_count_57 rfl h
        · have h := ifT (Decidable.of_not_not c4) h
          refine b_aload_n dX0_count_49 rfl ?_
          refine b_getI dX0_count_50 fk_X0_65 ly_1 ?_
          refine b_goto 57 dX0_count_53 (by decide) ?_
          exact b_iret dX0_count_57 rfl h
      · have h := ifT (Decidable.of_not_not c3) h
        refine b_aload_n dX0_count_34 rfl ?_
        refine b_getR dX0_count_35 fk_X0_16 ly_1 gg_1_2 ?_
        refine b_getI dX0_count_38 fk_X0_81 ly_3 ?_
        refine b_goto 57 dX0_count_41 (by decide) ?_
        exact b_iret dX0_count_57 rfl h
    · have h := ifT (Decidable.of_not_not c2) h
      refine b_aload_n dX0_count_19 rfl ?_
      refine b_getR dX0_count_20 fk_X0_16 ly_1 gg_1_2 ?_
      refine b_getI dX0_count_23 fk_X0_151 ly_3 ?_
      refine b_goto 57 dX0_count_26 (by decide) ?_
      exact b_iret dX0_count_57 rfl h
  · have h := ifT (Decidable.of_not_not c1) h
    refine b_aload_n dX0_count_4 rfl ?_
    refine b_getR dX0_count_5 fk_X0_16 ly_1 gg_1_2 ?_
    refine b_getI dX0_count_8 fk_X0_131 ly_3 ?_
    refine b_goto 57 dX0_count_11 (by decide) ?_
    exact b_iret dX0_count_57 rfl h
theorem dX0_isThere_0 : decode cX0_isThere 0 = .ok (.iload_n 1, 1) := by decide +kernel
theorem dX0_isThere_1 : decode cX0_isThere 1 = .ok (.ifCond .lt 22, 3) := by decide +kernel
theorem dX0_isThere_4 : decode cX0_isThere 4 = .ok (.iload_n 1, 1) := by decide +kernel
theorem dX0_isThere_5 : decode cX0_isThere 5 = .ok (.aload_n 0, 1) := by decide +kernel
theorem dX0_isThere_6 : decode cX0_isThere 6 = .ok (.getfield 16, 3) := by decide +kernel
theorem dX0_isThere_9 : decode cX0_isThere 9 = .ok (.getfield 131, 3) := by decide +kernel
theorem dX0_isThere_12 : decode cX0_isThere 12 = .ok (.if_icmp .ge 7, 3) := by decide +kernel
theorem dX0_isThere_15 : decode cX0_isThere 15 = .ok (.iconst 1, 1) := by decide +kernel
theorem dX0_isThere_16 : decode cX0_isThere 16 = .ok (.goto 25, 3) := by decide +kernel
theorem dX0_isThere_19 : decode cX0_isThere 19 = .ok (.iconst 0, 1) := by decide +kernel
theorem dX0_isThere_20 : decode cX0_isThere 20 = .ok (.goto 21, 3) := by decide +kernel
theorem dX0_isThere_23 : decode cX0_isThere 23 = .ok (.iconst (-1), 1) := by decide +kernel
theorem dX0_isThere_24 : decode cX0_isThere 24 = .ok (.iload_n 1, 1) := by decide +kernel
theorem dX0_isThere_25 : decode cX0_isThere 25 = .ok (.isub, 1) := by decide +kernel
theorem dX0_isThere_26 : decode cX0_isThere 26 = .ok (.aload_n 0, 1) := by decide +kernel
theorem dX0_isThere_27 : decode cX0_isThere 27 = .ok (.getfield 16, 3) := by decide +kernel
theorem dX0_isThere_30 : decode cX0_isThere 30 = .ok (.getfield 151, 3) := by decide +kernel
theorem dX0_isThere_33 : decode cX0_isThere 33 = .ok (.if_icmp .ge 7, 3) := by decide +kernel
theorem dX0_isThere_36 : decode cX0_isThere 36 = .ok (.iconst 1, 1) := by decide +kernel
theorem dX0_isThere_37 : decode cX0_isThere 37 = .ok (.goto 4, 3) := by decide +kernel
theorem dX0_isThere_40 : decode cX0_isThere 40 = .ok (.iconst 0, 1) := by decide +kernel
theorem dX0_isThere_41 : decode cX0_isThere 41 = .ok (.ireturn, 1) := by decide +kernel
/-! AlgebraHouse.isThere(I)Z -/
def P_X0_isThere (x1 : Int) (m : MM) (Q : Int → MM → Prop) : Prop := (RI x1) ∧ (if x1 < 0 then (RI ((-1) - x1)) ∧ (RI (m 3 2)) ∧ (if (m 3 2) ≤ ((-1) - x1) then Q 0 m else Q 1 m) else (RI (m 3 3)) ∧ (if (m 3 3) ≤ x1 then Q 0 m else Q 1 m))
theorem p_X0_isThere {f : Nat} {Q : Int → MM → Prop} {T : MM → Prop} (hf : 1 ≤ f) (x1 : Int) (m : MM) (h : P_X0_isThere x1 m Q) : CC f M_X0_isThere [vR 1, vI x1] m Q T := by
  refine CC.of (plainFor_of_name (by decide)) (Nat.le_of_ble_eq_true rfl) (ls := [vR 1, vI x1]) rfl ?_
  have h : (RI x1) ∧ (if x1 < 0 then (RI ((-1) - x1)) ∧ (RI (m 3 2)) ∧ (if (m 3 2) ≤ ((-1) - x1) then Q 0 m else Q 1 m) else (RI (m 3 3)) ∧ (if (m 3 3) ≤ x1 then Q 0 m else Q 1 m)) := h
  refine b_iload_n dX0_isThere_0 rfl ?_
  obtain ⟨g1, h⟩ := h
  refine b_if_lt 23 dX0_isThere_1 g1 (by decide) (fun c1 => ?_) (fun c1 => ?_)
  · have h := ifT c1 h
    refine b_iconst dX0_isThere_23 ?_
    refine b_iload_n dX0_isThere_24 rfl ?_
    refine b_isub dX0_isThere_25 ?_
    refine b_aload_n dX0_isThere_26 rfl ?_
    refine b_getR dX0_isThere_27 fk_X0_16 ly_1 gg_1_2 ?_
    refine b_getI dX0_isThere_30 fk_X0_151 ly_3 ?_
    obtain ⟨g2, h⟩ := h
    obtain ⟨g3, h⟩ := h
    refine b_icmp_ge 40 dX0_isThere_33 g2 g3 (by decide) (fun c2 => ?_) (fun c2 => ?_)
    · have h := ifT c2 h
      refine b_iconst dX0_isThere_40 ?_
      exact b_zret dX0_isThere_41 rfl (Or.inl rfl) h
    · have h := ifF c2 h
      refine b_iconst dX0_isThere_36 ?_
      refine b_goto 41 dX0_isThere_37 (by decide) ?_
      exact b_zret dX0_isThere_41 rfl (Or.inr rfl) h
  · have h := ifF c1 h
    refine b_iload_n dX0_isThere_4 rfl ?_
    refine b_aload_n dX0_isThere_5 rfl ?_
    refine b_getR dX0_isThere_6 fk_X0_16 ly_1 gg_1_2 ?_
    refine b_getI dX0_isThere_9 fk_X0_131 ly_3 ?_
    obtain ⟨g4, h⟩ := h
    refine b_icmp_ge 19 dX0_isThere_12 g1 g4 (by decide) (fun c3 => ?_) (fun c3 => ?_)
    · have h := ifT c3 h
      refine b_iconst dX0_isThere_19 ?_
      refine b_goto 41 dX0_isThere_20 (by decide) ?_
      exact b_zret dX0_isThere_41 rfl (Or.inl rfl) h
    · have h := ifF c3 h
      refine b_iconst dX0_isThere_15 ?_
      refine b_goto 41 dX0_isThere_16 (by decide) ?_
      exact b_zret dX0_isThere_41 rfl (Or.inr rfl) h
theorem dX0_ringOf_0 : decode cX0_ringOf 0 = .ok (.iload_n 1, 1) := by decide +kernel
theorem dX0_ringOf_1 : decode cX0_ringOf 1 = .ok (.ifCond .lt 15, 3) := by decide +kernel
theorem dX0_ringOf_4 : decode cX0_ringOf 4 = .ok (.aload_n 0, 1) := by decide +kernel
theorem dX0_ringOf_5 : decode cX0_ringOf 5 = .ok (.getfield 16, 3) := by decide +kernel
theorem dX0_ringOf_8 : decode cX0_ringOf 8 = .ok (.getfield 140, 3) := by decide +kernel
theorem dX0_ringOf_11 : decode cX0_ringOf 11 = .ok (.iload_n 1, 1) := by decide +kernel
theorem dX0_ringOf_12 : decode cX0_ringOf 12 = .ok (.iaload, 1) := by decide +kernel
theorem dX0_ringOf_13 : decode cX0_ringOf 13 = .ok (.goto 14, 3) := by decide +kernel
theorem dX0_ringOf_16 : decode cX0_ringOf 16 = .ok (.aload_n 0, 1) := by decide +kernel
theorem dX0_ringOf_17 : decode cX0_ringOf 17 = .ok (.getfield 16, 3) := by decide +kernel
theorem dX0_ringOf_20 : decode cX0_ringOf 20 = .ok (.getfield 157, 3) := by decide +kernel
theorem dX0_ringOf_23 : decode cX0_ringOf 23 = .ok (.iconst (-1), 1) := by decide +kernel
theorem dX0_ringOf_24 : decode cX0_ringOf 24 = .ok (.iload_n 1, 1) := by decide +kernel
theorem dX0_ringOf_25 : decode cX0_ringOf 25 = .ok (.isub, 1) := by decide +kernel
theorem dX0_ringOf_26 : decode cX0_ringOf 26 = .ok (.iaload, 1) := by decide +kernel
theorem dX0_ringOf_27 : decode cX0_ringOf 27 = .ok (.ireturn, 1) := by decide +kernel
/-! AlgebraHouse.ringOf(I)I -/
def P_X0_ringOf (x1 : Int) (m : MM) (Q : Int → MM → Prop) : Prop := (RI x1) ∧ (if x1 < 0 then (0 ≤ ((-1) - x1) ∧ ((-1) - x1) < 20) ∧ Q (m 6 ((-1) - x1)) m else (0 ≤ x1 ∧ x1 < 200) ∧ Q (m 7 x1) m)
theorem p_X0_ringOf {f : Nat} {Q : Int → MM → Prop} {T : MM → Prop} (hf : 1 ≤ f) (x1 : Int) (m : MM) (h : P_X0_ringOf x1 m Q) : CC f M_X0_ringOf [vR 1, vI x1] m Q T := by
  refine CC.of (plainFor_of_name (by decide)) (Nat.le_of_ble_eq_true rfl) (ls := [vR 1, vI x1]) rfl ?_
  have h : (RI x1) ∧ (if x1 < 0 then (0 ≤ ((-1) - x1) ∧ ((-1) - x1) < 20) ∧ Q (m 6 ((-1) - x1)) m else (0 ≤ x1 ∧ x1 < 200) ∧ Q (m 7 x1) m) := h
  refine b_iload_n dX0_ringOf_0 rfl ?_
  obtain ⟨g1, h⟩ := h
  refine b_if_lt 16 dX0_ringOf_1 g1 (by decide) (fun c1 => ?_) (fun c1 => ?_)
  · have h := ifT c1 h
    refine b_aload_n dX0_ringOf_16 rfl ?_
    refine b_getR dX0_ringOf_17 fk_X0_16 ly_1 gg_1_2 ?_
    refine b_getR dX0_ringOf_20 fk_X0_157 ly_3 gg_3_5 ?_
    refine b_iconst dX0_ringOf_23 ?_
    refine b_iload_n dX0_ringOf_24 rfl ?_
    refine b_isub dX0_ringOf_25 ?_
    obtain ⟨g2, h⟩ := h
    refine b_iald dX0_ringOf_26 ly_6 g2 ?_
    exact b_iret dX0_ringOf_27 rfl h
  · have h := ifF c1 h
    refine b_aload_n dX0_ringOf_4 rfl ?_
    refine b_getR dX0_ringOf_5 fk_X0_16 ly_1 gg_1_2 ?_
    refine b_getR dX0_ringOf_8 fk_X0_140 ly_3 gg_3_6 ?_
    refine b_iload_n dX0_ringOf_11 rfl ?_
    obtain ⟨g3, h⟩ := h
    refine b_iald dX0_ringOf_12 ly_7 g3 ?_
    refine b_goto 27 dX0_ringOf_13 (by decide) ?_
    exact b_iret dX0_ringOf_27 rfl h
theorem dX0_entry_0 : decode cX0_entry 0 = .ok (.aload_n 0, 1) := by decide +kernel
theorem dX0_entry_1 : decode cX0_entry 1 = .ok (.iload_n 1, 1) := by decide +kernel
theorem dX0_entry_2 : decode cX0_entry 2 = .ok (.invokevirtual 168, 3) := by decide +kernel
theorem dX0_entry_5 : decode cX0_entry 5 = .ok (.ifCond .eq 14, 3) := by decide +kernel
theorem dX0_entry_8 : decode cX0_entry 8 = .ok (.iload 6, 2) := by decide +kernel
theorem dX0_entry_10 : decode cX0_entry 10 = .ok (.ifCond .lt 9, 3) := by decide +kernel
theorem dX0_entry_13 : decode cX0_entry 13 = .ok (.iload 6, 2) := by decide +kernel
theorem dX0_entry_15 : decode cX0_entry 15 = .ok (.iconst 1, 1) := by decide +kernel
theorem dX0_entry_16 : decode cX0_entry 16 = .ok (.if_icmp .le 5, 3) := by decide +kernel
theorem dX0_entry_19 : decode cX0_entry 19 = .ok (.iconst 0, 1) := by decide +kernel
theorem dX0_entry_20 : decode cX0_entry 20 = .ok (.ireturn, 1) := by decide +kernel
theorem dX0_entry_21 : decode cX0_entry 21 = .ok (.aload_n 0, 1) := by decide +kernel
theorem dX0_entry_22 : decode cX0_entry 22 = .ok (.iload_n 1, 1) := by decide +kernel
theorem dX0_entry_23 : decode cX0_entry 23 = .ok (.invokevirtual 172, 3) := by decide +kernel
theorem dX0_entry_26 : decode cX0_entry 26 = .ok (.istore 7, 2) := by decide +kernel
theorem dX0_entry_28 : decode cX0_entry 28 = .ok (.iload 7, 2) := by decide +kernel
theorem dX0_entry_30 : decode cX0_entry 30 = .ok (.ifCond .ge 7, 3) := by decide +kernel
theorem dX0_entry_33 : decode cX0_entry 33 = .ok (.iconst 1, 1) := by decide +kernel
theorem dX0_entry_34 : decode cX0_entry 34 = .ok (.goto 12, 3) := by decide +kernel
theorem dX0_entry_37 : decode cX0_entry 37 = .ok (.iconst 1, 1) := by decide +kernel
theorem dX0_entry_38 : decode cX0_entry 38 = .ok (.iload 7, 2) := by decide +kernel
theorem dX0_entry_40 : decode cX0_entry 40 = .ok (.invokestatic 166, 3) := by decide +kernel
theorem dX0_entry_43 : decode cX0_entry 43 = .ok (.invokestatic 179, 3) := by decide +kernel
theorem dX0_entry_46 : decode cX0_entry 46 = .ok (.istore 8, 2) := by decide +kernel
theorem dX0_entry_48 : decode cX0_entry 48 = .ok (.iload 7, 2) := by decide +kernel
theorem dX0_entry_50 : decode cX0_entry 50 = .ok (.ifCond .ge 7, 3) := by decide +kernel
theorem dX0_entry_53 : decode cX0_entry 53 = .ok (.iconst 0, 1) := by decide +kernel
theorem dX0_entry_54 : decode cX0_entry 54 = .ok (.goto 8, 3) := by decide +kernel
theorem dX0_entry_57 : decode cX0_entry 57 = .ok (.iload 7, 2) := by decide +kernel
theorem dX0_entry_59 : decode cX0_entry 59 = .ok (.invokestatic 163, 3) := by decide +kernel
theorem dX0_entry_62 : decode cX0_entry 62 = .ok (.istore 9, 2) := by decide +kernel
theorem dX0_entry_64 : decode cX0_entry 64 = .ok (.iload_n 2, 1) := by decide +kernel
theorem dX0_entry_65 : decode cX0_entry 65 = .ok (.ifCond .lt 66, 3) := by decide +kernel
theorem dX0_entry_68 : decode cX0_entry 68 = .ok (.iload_n 2, 1) := by decide +kernel
theorem dX0_entry_69 : decode cX0_entry 69 = .ok (.iload 8, 2) := by decide +kernel
theorem dX0_entry_71 : decode cX0_entry 71 = .ok (.if_icmp .ge 60, 3) := by decide +kernel
theorem dX0_entry_74 : decode cX0_entry 74 = .ok (.iload_n 3, 1) := by decide +kernel
theorem dX0_entry_75 : decode cX0_entry 75 = .ok (.ifCond .lt 56, 3) := by decide +kernel
theorem dX0_entry_78 : decode cX0_entry 78 = .ok (.iload_n 3, 1) := by decide +kernel
theorem dX0_entry_79 : decode cX0_entry 79 = .ok (.iload 8, 2) := by decide +kernel
theorem dX0_entry_81 : decode cX0_entry 81 = .ok (.if_icmp .ge 50, 3) := by decide +kernel
theorem dX0_entry_84 : decode cX0_entry 84 = .ok (.iload 4, 2) := by decide +kernel
theorem dX0_entry_86 : decode cX0_entry 86 = .ok (.ifCond .lt 45, 3) := by decide +kernel
theorem dX0_entry_89 : decode cX0_entry 89 = .ok (.iload 4, 2) := by decide +kernel
theorem dX0_entry_91 : decode cX0_entry 91 = .ok (.iload 9, 2) := by decide +kernel
theorem dX0_entry_93 : decode cX0_entry 93 = .ok (.ifCond .le 8, 3) := by decide +kernel
theorem dX0_entry_96 : decode cX0_entry 96 = .ok (.bipush 7, 2) := by decide +kernel
theorem dX0_entry_98 : decode cX0_entry 98 = .ok (.goto 4, 3) := by decide +kernel
theorem dX0_entry_101 : decode cX0_entry 101 = .ok (.iconst 1, 1) := by decide +kernel
theorem dX0_entry_102 : decode cX0_entry 102 = .ok (.if_icmp .ge 29, 3) := by decide +kernel
theorem dX0_entry_105 : decode cX0_entry 105 = .ok (.iload 5, 2) := by decide +kernel
theorem dX0_entry_107 : decode cX0_entry 107 = .ok (.ifCond .lt 24, 3) := by decide +kernel
theorem dX0_entry_110 : decode cX0_entry 110 = .ok (.iload 5, 2) := by decide +kernel
theorem dX0_entry_112 : decode cX0_entry 112 = .ok (.iload 9, 2) := by decide +kernel
theorem dX0_entry_114 : decode cX0_entry 114 = .ok (.iconst 1, 1) := by decide +kernel
theorem dX0_entry_115 : decode cX0_entry 115 = .ok (.if_icmp .le 8, 3) := by decide +kernel
theorem dX0_entry_118 : decode cX0_entry 118 = .ok (.bipush 7, 2) := by decide +kernel
theorem dX0_entry_120 : decode cX0_entry 120 = .ok (.goto 4, 3) := by decide +kernel
theorem dX0_entry_123 : decode cX0_entry 123 = .ok (.iconst 1, 1) := by decide +kernel
theorem dX0_entry_124 : decode cX0_entry 124 = .ok (.if_icmp .ge 7, 3) := by decide +kernel
theorem dX0_entry_127 : decode cX0_entry 127 = .ok (.iconst 1, 1) := by decide +kernel
theorem dX0_entry_128 : decode cX0_entry 128 = .ok (.goto 4, 3) := by decide +kernel
theorem dX0_entry_131 : decode cX0_entry 131 = .ok (.iconst 0, 1) := by decide +kernel
theorem dX0_entry_132 : decode cX0_entry 132 = .ok (.istore 10, 2) := by decide +kernel
theorem dX0_entry_134 : decode cX0_entry 134 = .ok (.iload 10, 2) := by decide +kernel
theorem dX0_entry_136 : decode cX0_entry 136 = .ok (.ifCond .ne 5, 3) := by decide +kernel
theorem dX0_entry_139 : decode cX0_entry 139 = .ok (.iconst 0, 1) := by decide +kernel
theorem dX0_entry_140 : decode cX0_entry 140 = .ok (.ireturn, 1) := by decide +kernel
theorem dX0_entry_141 : decode cX0_entry 141 = .ok (.iconst 2, 1) := by decide +kernel
theorem dX0_entry_142 : decode cX0_entry 142 = .ok (.iload 7, 2) := by decide +kernel
theorem dX0_entry_144 : decode cX0_entry 144 = .ok (.ifCond .ge 7, 3) := by decide +kernel
theorem dX0_entry_147 : decode cX0_entry 147 = .ok (.iconst 1, 1) := by decide +kernel
theorem dX0_entry_148 : decode cX0_entry 148 = .ok (.goto 8, 3) := by decide +kernel
theorem dX0_entry_151 : decode cX0_entry 151 = .ok (.iload 7, 2) := by decide +kernel
theorem dX0_entry_153 : decode cX0_entry 153 = .ok (.invokestatic 184, 3) := by decide +kernel
theorem dX0_entry_156 : decode cX0_entry 156 = .ok (.iload 8, 2) := by decide +kernel
theorem dX0_entry_158 : decode cX0_entry 158 = .ok (.iload_n 2, 1) := by decide +kernel
theorem dX0_entry_159 : decode cX0_entry 159 = .ok (.imul, 1) := by decide +kernel
theorem dX0_entry_160 : decode cX0_entry 160 = .ok (.iload_n 3, 1) := by decide +kernel
theorem dX0_entry_161 : decode cX0_entry 161 = .ok (.iadd, 1) := by decide +kernel
theorem dX0_entry_162 : decode cX0_entry 162 = .ok (.imul, 1) := by decide +kernel
theorem dX0_entry_163 : decode cX0_entry 163 = .ok (.bipush 7, 2) := by decide +kernel
theorem dX0_entry_165 : decode cX0_entry 165 = .ok (.iload 5, 2) := by decide +kernel
theorem dX0_entry_167 : decode cX0_entry 167 = .ok (.imul, 1) := by decide +kernel
theorem dX0_entry_168 : decode cX0_entry 168 = .ok (.iadd, 1) := by decide +kernel
theorem dX0_entry_169 : decode cX0_entry 169 = .ok (.iload 4, 2) := by decide +kernel
theorem dX0_entry_171 : decode cX0_entry 171 = .ok (.iadd, 1) := by decide +kernel
theorem dX0_entry_172 : decode cX0_entry 172 = .ok (.imul, 1) := by decide +kernel
theorem dX0_entry_173 : decode cX0_entry 173 = .ok (.iload 6, 2) := by decide +kernel
theorem dX0_entry_175 : decode cX0_entry 175 = .ok (.iadd, 1) := by decide +kernel
theorem dX0_entry_176 : decode cX0_entry 176 = .ok (.istore 11, 2) := by decide +kernel
theorem dX0_entry_178 : decode cX0_entry 178 = .ok (.iload_n 1, 1) := by decide +kernel
theorem dX0_entry_179 : decode cX0_entry 179 = .ok (.ifCond .lt 19, 3) := by decide +kernel
theorem dX0_entry_182 : decode cX0_entry 182 = .ok (.aload_n 0, 1) := by decide +kernel
theorem dX0_entry_183 : decode cX0_entry 183 = .ok (.getfield 39, 3) := by decide +kernel
theorem dX0_entry_186 : decode cX0_entry 186 = .ok (.sipush 882, 3) := by decide +kernel
theorem dX0_entry_189 : decode cX0_entry 189 = .ok (.iload_n 1, 1) := by decide +kernel
theorem dX0_entry_190 : decode cX0_entry 190 = .ok (.imul, 1) := by decide +kernel
theorem dX0_entry_191 : decode cX0_entry 191 = .ok (.iload 11, 2) := by decide +kernel
theorem dX0_entry_193 : decode cX0_entry 193 = .ok (.iadd, 1) := by decide +kernel
theorem dX0_entry_194 : decode cX0_entry 194 = .ok (.iaload, 1) := by decide +kernel
theorem dX0_entry_195 : decode cX0_entry 195 = .ok (.goto 18, 3) := by decide +kernel
theorem dX0_entry_198 : decode cX0_entry 198 = .ok (.aload_n 0, 1) := by decide +kernel
theorem dX0_entry_199 : decode cX0_entry 199 = .ok (.getfield 43, 3) := by decide +kernel
theorem dX0_entry_202 : decode cX0_entry 202 = .ok (.sipush 882, 3) := by decide +kernel
theorem dX0_entry_205 : decode cX0_entry 205 = .ok (.iconst (-1), 1) := by decide +kernel
theorem dX0_entry_206 : decode cX0_entry 206 = .ok (.iload_n 1, 1) := by decide +kernel
theorem dX0_entry_207 : decode cX0_entry 207 = .ok (.isub, 1) := by decide +kernel
theorem dX0_entry_208 : decode cX0_entry 208 = .ok (.imul, 1) := by decide +kernel
theorem dX0_entry_209 : decode cX0_entry 209 = .ok (.iload 11, 2) := by decide +kernel
theorem dX0_entry_211 : decode cX0_entry 211 = .ok (.iadd, 1) := by decide +kernel
theorem dX0_entry_212 : decode cX0_entry 212 = .ok (.iaload, 1) := by decide +kernel
theorem dX0_entry_213 : decode cX0_entry 213 = .ok (.ireturn, 1) := by decide +kernel
/-! AlgebraHouse.entry(IIIIII)I -/
def P_X0_entry_156 (Q : Int → MM → Prop) (x1 : Int) (x2 : Int) (x3 : Int) (x4 : Int) (x5 : Int) (x6 : Int) (x8 : Int) (s0 : Int) (s1 : Int) (m : MM) : Prop := (RI x1) ∧ (if x1 < 0 then (0 ≤ ((882 * ((-1) - x1)) + ((s0 * (((s1 * ((x8 * x2) + x3)) + (7 * x5)) + x4)) + x6)) ∧ ((882 * ((-1) - x1)) + ((s0 * (((s1 * ((x8 * x2) + x3)) + (7 * x5)) + x4)) + x6)) < 17640) ∧ Q (m 375 ((882 * ((-1) - x1)) + ((s0 * (((s1 * ((x8 * x2) + x3)) + (7 * x5)) + x4)) + x6))) m else (0 ≤ ((882 * x1) + ((s0 * (((s1 * ((x8 * x2) + x3)) + (7 * x5)) + x4)) + x6)) ∧ ((882 * x1) + ((s0 * (((s1 * ((x8 * x2) + x3)) + (7 * x5)) + x4)) + x6)) < 176400) ∧ Q (m 374 ((882 * x1) + ((s0 * (((s1 * ((x8 * x2) + x3)) + (7 * x5)) + x4)) + x6))) m)
def P_X0_entry_131 (Q : Int → MM → Prop) (x1 : Int) (x2 : Int) (x3 : Int) (x4 : Int) (x5 : Int) (x6 : Int) (x7 : Int) (x8 : Int) (m : MM) : Prop := (if (0 : Int) = 0 then Q 0 m else (RI x7) ∧ (if 0 ≤ x7 then P_X11_coefficients x7 m (fun r1 m1 => P_X0_entry_156 Q x1 x2 x3 x4 x5 x6 x8 2 r1 m1) else P_X0_entry_156 Q x1 x2 x3 x4 x5 x6 x8 2 1 m))
def P_X0_entry_62 (Q : Int → MM → Prop) (x1 : Int) (x2 : Int) (x3 : Int) (x4 : Int) (x5 : Int) (x6 : Int) (x7 : Int) (x8 : Int) (s0 : Int) (m : MM) : Prop := (RI x2) ∧ (if x2 < 0 then P_X0_entry_131 Q x1 x2 x3 x4 x5 x6 x7 x8 m else (RI x8) ∧ (if x8 ≤ x2 then P_X0_entry_131 Q x1 x2 x3 x4 x5 x6 x7 x8 m else ((RI x3) ∧ (if x3 < 0 then True else ((if x8 ≤ x3 then True else ((RI x4) ∧ (if x4 < 0 then True else ((RI s0) ∧ (if s0 ≤ 0 then ((if 1 ≤ x4 then True else ((RI x5)))) else ((if 7 ≤ x4 then True else ((RI x5)))))))))))) ∧ (RI (if x3 < 0 then 0 else (if x8 ≤ x3 then 0 else (if x4 < 0 then 0 else (if s0 ≤ 0 then (if 1 ≤ x4 then 0 else (if x5 < 0 then 0 else (if s0 ≤ 1 then (if 1 ≤ x5 then 0 else 1 : Int) else (if 7 ≤ x5 then 0 else 1 : Int) : Int) : Int) : Int) else (if 7 ≤ x4 then 0 else (if x5 < 0 then 0 else (if s0 ≤ 1 then (if 1 ≤ x5 then 0 else 1 : Int) else (if 7 ≤ x5 then 0 else 1 : Int) : Int) : Int) : Int) : Int) : Int) : Int) : Int)) ∧ (if (if x3 < 0 then 0 else (if x8 ≤ x3 then 0 else (if x4 < 0 then 0 else (if s0 ≤ 0 then (if 1 ≤ x4 then 0 else (if x5 < 0 then 0 else (if s0 ≤ 1 then (if 1 ≤ x5 then 0 else 1 : Int) else (if 7 ≤ x5 then 0 else 1 : Int) : Int) : Int) : Int) else (if 7 ≤ x4 then 0 else (if x5 < 0 then 0 else (if s0 ≤ 1 then (if 1 ≤ x5 then 0 else 1 : Int) else (if 7 ≤ x5 then 0 else 1 : Int) : Int) : Int) : Int) : Int) : Int) : Int) : Int) = 0 then Q 0 m else (RI x7) ∧ (if 0 ≤ x7 then P_X11_coefficients x7 m (fun r1 m1 => P_X0_entry_156 Q x1 x2 x3 x4 x5 x6 x8 2 r1 m1) else P_X0_entry_156 Q x1 x2 x3 x4 x5 x6 x8 2 1 m))))
def P_X0_entry_46 (Q : Int → MM → Prop) (x1 : Int) (x2 : Int) (x3 : Int) (x4 : Int) (x5 : Int) (x6 : Int) (x7 : Int) (s0 : Int) (m : MM) : Prop := (RI x7) ∧ (if 0 ≤ x7 then P_X11_depth x7 m (fun r1 m1 => P_X0_entry_62 Q x1 x2 x3 x4 x5 x6 x7 s0 r1 m1) else P_X0_entry_62 Q x1 x2 x3 x4 x5 x6 x7 s0 0 m)
def P_X0_entry (x1 : Int) (x2 : Int) (x3 : Int) (x4 : Int) (x5 : Int) (x6 : Int) (m : MM) (Q : Int → MM → Prop) : Prop := P_X0_isThere x1 m (fun r1 m1 => (RI r1) ∧ (if r1 = 0 then Q 0 m1 else (RI x6) ∧ (if x6 < 0 then Q 0 m1 else (if x6 ≤ 1 then P_X0_ringOf x1 m1 (fun r2 m2 => (RI r2) ∧ (if 0 ≤ r2 then P_X11_size r2 m2 (fun r3 m3 => P_J4_max 1 r3 m3 (fun r4 m4 => P_X0_entry_46 Q x1 x2 x3 x4 x5 x6 r2 r4 m4)) else P_X0_entry_46 Q x1 x2 x3 x4 x5 x6 r2 1 m2)) else Q 0 m1))))
theorem pl_X0_entry_156 {f : Nat} {Q : Int → MM → Prop} {T : MM → Prop} (hf : 3 ≤ f) : ∀ (x1 : Int) (x2 : Int) (x3 : Int) (x4 : Int) (x5 : Int) (x6 : Int) (x8 : Int) (s0 : Int) (s1 : Int) (m : MM), P_X0_entry_156 Q x1 x2 x3 x4 x5 x6 x8 s0 s1 m → B f M_X0_entry 156 [vR 1, vI x1, vI x2, vI x3, vI x4, vI x5, vI x6, vU, vI x8, vU, vU, vU] [vI s1, vI s0] m Q T := by
  intro x1 x2 x3 x4 x5 x6 x8 s0 s1 m h
  have h : (RI x1) ∧ (if x1 < 0 then (0 ≤ ((882 * ((-1) - x1)) + ((s0 * (((s1 * ((x8 * x2) + x3)) + (7 * x5)) + x4)) + x6)) ∧ ((882 * ((-1) - x1)) + ((s0 * (((s1 * ((x8 * x2) + x3)) + (7 * x5)) + x4)) + x6)) < 17640) ∧ Q (m 375 ((882 * ((-1) - x1)) + ((s0 * (((s1 * ((x8 * x2) + x3)) + (7 * x5)) + x4)) + x6))) m else (0 ≤ ((882 * x1) + ((s0 * (((s1 * ((x8 * x2) + x3)) + (7 * x5)) + x4)) + x6)) ∧ ((882 * x1) + ((s0 * (((s1 * ((x8 * x2) + x3)) + (7 * x5)) + x4)) + x6)) < 176400) ∧ Q (m 374 ((882 * x1) + ((s0 * (((s1 * ((x8 * x2) + x3)) + (7 * x5)) + x4)) + x6))) m) := h
  refine b_iload dX0_entry_156 rfl ?_
  refine b_iload_n dX0_entry_158 rfl ?_
  refine b_imul dX0_entry_159 ?_
  refine b_iload_n dX0_entry_160 rfl ?_
  refine b_iadd dX0_entry_161 ?_
  refine b_imul dX0_entry_162 ?_
  refine b_bipush dX0_entry_163 (by decide) ?_
  refine b_iload dX0_entry_165 rfl ?_
  refine b_imul dX0_entry_167 ?_
  refine b_iadd dX0_entry_168 ?_
  refine b_iload dX0_entry_169 rfl ?_
  refine b_iadd dX0_entry_171 ?_
  refine b_imul dX0_entry_172 ?_
  refine b_iload dX0_entry_173 rfl ?_
  refine b_iadd dX0_entry_175 ?_
  refine b_istore (ls' := [vR 1, vI x1, vI x2, vI x3, vI x4, vI x5, vI x6, vU, vI x8, vU, vU, vI ((s0 * (((s1 * ((x8 * x2) + x3)) + (7 * x5)) + x4)) + x6)]) dX0_entry_176 (Nat.le_of_ble_eq_true rfl) rfl ?_
  refine b_iload_n dX0_entry_178 rfl ?_
  obtain ⟨g1, h⟩ := h
  refine b_if_lt 198 dX0_entry_179 g1 (by decide) (fun c1 => ?_) (fun c1 => ?_)
  · have h := ifT c1 h
    refine b_aload_n dX0_entry_198 rfl ?_
    refine b_getR dX0_entry_199 fk_X0_43 ly_1 gg_1_6 ?_
    refine b_sipush dX0_entry_202 (by decide) ?_
    refine b_iconst dX0_entry_205 ?_
    refine b_iload_n dX0_entry_206 rfl ?_
    refine b_isub dX0_entry_207 ?_
    refine b_imul dX0_entry_208 ?_
    refine b_iload dX0_entry_209 rfl ?_
    refine b_iadd dX0_entry_211 ?_
    obtain ⟨g2, h⟩ := h
    refine b_iald dX0_entry_212 ly_375 g2 ?_
    exact b_iret dX0_entry_213 rfl h
  · have h := ifF c1 h
    refine b_aload_n dX0_entry_182 rfl ?_
    refine b_getR dX0_entry_183 fk_X0_39 ly_1 gg_1_5 ?_
    refine b_sipush dX0_entry_186 (by decide) ?_
    refine b_iload_n dX0_entry_189 rfl ?_
    refine b_imul dX0_entry_190 ?_
    refine b_iload dX0_entry_191 rfl ?_
    refine b_iadd dX0_entry_193 ?_
    obtain ⟨g3, h⟩ := h
    refine b_iald dX0_entry_194 ly_374 g3 ?_
    refine b_goto 213 dX0_entry_195 (by decide) ?_
    exact b_iret dX0_entry_213 rfl h
theorem pl_X0_entry_131 {f : Nat} {Q : Int → MM → Prop} {T : MM → Prop} (hf : 3 ≤ f) : ∀ (x1 : Int) (x2 : Int) (x3 : Int) (x4 : Int) (x5 : Int) (x6 : Int) (x7 : Int) (x8 : Int) (m : MM), P_X0_entry_131 Q x1 x2 x3 x4 x5 x6 x7 x8 m → B f M_X0_entry 131 [vR 1, vI x1, vI x2, vI x3, vI x4, vI x5, vI x6, vI x7, vI x8, vU, vU, vU] [] m Q T := by
  intro x1 x2 x3 x4 x5 x6 x7 x8 m h
  have h : (if (0 : Int) = 0 then Q 0 m else (RI x7) ∧ (if 0 ≤ x7 then P_X11_coefficients x7 m (fun r1 m1 => P_X0_entry_156 Q x1 x2 x3 x4 x5 x6 x8 2 r1 m1) else P_X0_entry_156 Q x1 x2 x3 x4 x5 x6 x8 2 1 m)) := h
  refine b_iconst dX0_entry_131 ?_
  refine b_istore (ls' := [vR 1, vI x1, vI x2, vI x3, vI x4, vI x5, vI x6, vI x7, vI x8, vU, vI 0, vU]) dX0_entry_132 (Nat.le_of_ble_eq_true rfl) rfl ?_
  refine b_iload dX0_entry_134 rfl ?_
  refine b_if_ne 141 dX0_entry_136 (by decide) (by decide) (fun c1 => ?_) (fun c1 => ?_)
  · have h := ifF c1 h
    refine b_iconst dX0_entry_141 ?_
    refine b_iload dX0_entry_142 rfl ?_
    obtain ⟨g1, h⟩ := h
    refine b_if_ge 151 dX0_entry_144 g1 (by decide) (fun c2 => ?_) (fun c2 => ?_)
    · have h := ifT c2 h
      refine b_iload dX0_entry_151 rfl ?_
      refine b_cSi (as := [vI x7]) (st := [vI 2]) dX0_entry_153 mf_X11_coefficients lk_X0_184 (p_X11_coefficients (f := 2) (Nat.le_refl _) _ _ h) (by omega) rfl rfl (Nat.le_of_ble_eq_true rfl) (by decide) rfl (fun _ => rfl) (fun r1 m1 h => ?_) (fun _ h => h)
      refine b_fgt [true, true, true, true, true, true, true, false, true, false, false, false] (ls' := [vR 1, vI x1, vI x2, vI x3, vI x4, vI x5, vI x6, vU, vI x8, vU, vU, vU]) rfl rfl ?_
      exact pl_X0_entry_156 hf _ _ _ _ _ _ _ _ _ _ h
    · have h := ifF c2 h
      refine b_iconst dX0_entry_147 ?_
      refine b_goto 156 dX0_entry_148 (by decide) ?_
      refine b_fgt [true, true, true, true, true, true, true, false, true, false, false, false] (ls' := [vR 1, vI x1, vI x2, vI x3, vI x4, vI x5, vI x6, vU, vI x8, vU, vU, vU]) rfl rfl ?_
      exact pl_X0_entry_156 hf _ _ _ _ _ _ _ _ _ _ h
  · have h := ifT (Decidable.of_not_not c1) h
    refine b_iconst dX0_entry_139 ?_
    exact b_iret dX0_entry_140 rfl h
theorem pl_X0_entry_62 {f : Nat} {Q : Int → MM → Prop} {T : MM → Prop} (hf : 3 ≤ f) : ∀ (x1 : Int) (x2 : Int) (x3 : Int) (x4 : Int) (x5 : Int) (x6 : Int) (x7 : Int) (x8 : Int) (s0 : Int) (m : MM), P_X0_entry_62 Q x1 x2 x3 x4 x5 x6 x7 x8 s0 m → B f M_X0_entry 62 [vR 1, vI x1, vI x2, vI x3, vI x4, vI x5, vI x6, vI x7, vI x8, vU, vU, vU] [vI s0] m Q T := by
  intro x1 x2 x3 x4 x5 x6 x7 x8 s0 m h
  have h : (RI x2) ∧ (if x2 < 0 then P_X0_entry_131 Q x1 x2 x3 x4 x5 x6 x7 x8 m else (RI x8) ∧ (if x8 ≤ x2 then P_X0_entry_131 Q x1 x2 x3 x4 x5 x6 x7 x8 m else ((RI x3) ∧ (if x3 < 0 then True else ((if x8 ≤ x3 then True else ((RI x4) ∧ (if x4 < 0 then True else ((RI s0) ∧ (if s0 ≤ 0 then ((if 1 ≤ x4 then True else ((RI x5)))) else ((if 7 ≤ x4 then True else ((RI x5)))))))))))) ∧ (RI (if x3 < 0 then 0 else (if x8 ≤ x3 then 0 else (if x4 < 0 then 0 else (if s0 ≤ 0 then (if 1 ≤ x4 then 0 else (if x5 < 0 then 0 else (if s0 ≤ 1 then (if 1 ≤ x5 then 0 else 1 : Int) else (if 7 ≤ x5 then 0 else 1 : Int) : Int) : Int) : Int) else (if 7 ≤ x4 then 0 else (if x5 < 0 then 0 else (if s0 ≤ 1 then (if 1 ≤ x5 then 0 else 1 : Int) else (if 7 ≤ x5 then 0 else 1 : Int) : Int) : Int) : Int) : Int) : Int) : Int) : Int)) ∧ (if (if x3 < 0 then 0 else (if x8 ≤ x3 then 0 else (if x4 < 0 then 0 else (if s0 ≤ 0 then (if 1 ≤ x4 then 0 else (if x5 < 0 then 0 else (if s0 ≤ 1 then (if 1 ≤ x5 then 0 else 1 : Int) else (if 7 ≤ x5 then 0 else 1 : Int) : Int) : Int) : Int) else (if 7 ≤ x4 then 0 else (if x5 < 0 then 0 else (if s0 ≤ 1 then (if 1 ≤ x5 then 0 else 1 : Int) else (if 7 ≤ x5 then 0 else 1 : Int) : Int) : Int) : Int) : Int) : Int) : Int) : Int) = 0 then Q 0 m else (RI x7) ∧ (if 0 ≤ x7 then P_X11_coefficients x7 m (fun r1 m1 => P_X0_entry_156 Q x1 x2 x3 x4 x5 x6 x8 2 r1 m1) else P_X0_entry_156 Q x1 x2 x3 x4 x5 x6 x8 2 1 m)))) := h
  refine b_istore (ls' := [vR 1, vI x1, vI x2, vI x3, vI x4, vI x5, vI x6, vI x7, vI x8, vI s0, vU, vU]) dX0_entry_62 (Nat.le_of_ble_eq_true rfl) rfl ?_
  refine b_iload_n dX0_entry_64 rfl ?_
  obtain ⟨g1, h⟩ := h
  refine b_if_lt 131 dX0_entry_65 g1 (by decide) (fun c1 => ?_) (fun c1 => ?_)
  · have h := ifT c1 h
    refine b_fgt [true, true, true, true, true, true, true, true, true, false, false, false] (ls' := [vR 1, vI x1, vI x2, vI x3, vI x4, vI x5, vI x6, vI x7, vI x8, vU, vU, vU]) rfl rfl ?_
    exact pl_X0_entry_131 hf _ _ _ _ _ _ _ _ _ h
  · have h := ifF c1 h
    refine b_iload_n dX0_entry_68 rfl ?_
    refine b_iload dX0_entry_69 rfl ?_
    obtain ⟨g2, h⟩ := h
    refine b_icmp_ge 131 dX0_entry_71 g1 g2 (by decide) (fun c2 => ?_) (fun c2 => ?_)
    · have h := ifT c2 h
      refine b_fgt [true, true, true, true, true, true, true, true, true, false, false, false] (ls' := [vR 1, vI x1, vI x2, vI x3, vI x4, vI x5, vI x6, vI x7, vI x8, vU, vU, vU]) rfl rfl ?_
      exact pl_X0_entry_131 hf _ _ _ _ _ _ _ _ _ h
    · have h := ifF c2 h
      refine b_iload_n dX0_entry_74 rfl ?_
      obtain ⟨hs, h⟩ := h
      have K : B f M_X0_entry 132 [vR 1, vI x1, vI x2, vI x3, vI x4, vI x5, vI x6, vI x7, vI x8, vI s0, vU, vU] [vI (if x3 < 0 then 0 else (if x8 ≤ x3 then 0 else (if x4 < 0 then 0 else (if s0 ≤ 0 then (if 1 ≤ x4 then 0 else (if x5 < 0 then 0 else (if s0 ≤ 1 then (if 1 ≤ x5 then 0 else 1 : Int) else (if 7 ≤ x5 then 0 else 1 : Int) : Int) : Int) : Int) else (if 7 ≤ x4 then 0 else (if x5 < 0 then 0 else (if s0 ≤ 1 then (if 1 ≤ x5 then 0 else 1 : Int) else (if 7 ≤ x5 then 0 else 1 : Int) : Int) : Int) : Int) : Int) : Int) : Int) : Int)] m Q T := by
        clear hs
        refine b_istore (ls' := [vR 1, vI x1, vI x2, vI x3, vI x4, vI x5, vI x6, vI x7, vI x8, vI s0, vI (if x3 < 0 then 0 else (if x8 ≤ x3 then 0 else (if x4 < 0 then 0 else (if s0 ≤ 0 then (if 1 ≤ x4 then 0 else (if x5 < 0 then 0 else (if s0 ≤ 1 then (if 1 ≤ x5 then 0 else 1 : Int) else (if 7 ≤ x5 then 0 else 1 : Int) : Int) : Int) : Int) else (if 7 ≤ x4 then 0 else (if x5 < 0 then 0 else (if s0 ≤ 1 then (if 1 ≤ x5 then 0 else 1 : Int) else (if 7 ≤ x5 then 0 else 1 : Int) : Int) : Int) : Int) : Int) : Int) : Int) : Int), vU]) dX0_entry_132 (Nat.le_of_ble_eq_true rfl) rfl ?_
        refine b_iload dX0_entry_134 rfl ?_
        obtain ⟨g8, h⟩ := h
        refine b_if_ne 141 dX0_entry_136 g8 (by decide) (fun c3 => ?_) (fun c3 => ?_)
        · have h := ifF c3 h
          refine b_iconst dX0_entry_141 ?_
          refine b_iload dX0_entry_142 rfl ?_
          obtain ⟨g9, h⟩ := h
          refine b_if_ge 151 dX0_entry_144 g9 (by decide) (fun c4 => ?_) (fun c4 => ?_)
          · have h := ifT c4 h
            refine b_iload dX0_entry_151 rfl ?_
            refine b_cSi (as := [vI x7]) (st := [vI 2]) dX0_entry_153 mf_X11_coefficients lk_X0_184 (p_X11_coefficients (f := 2) (Nat.le_refl _) _ _ h) (by omega) rfl rfl (Nat.le_of_ble_eq_true rfl) (by decide) rfl (fun _ => rfl) (fun r1 m1 h => ?_) (fun _ h => h)
            refine b_fgt [true, true, true, true, true, true, true, false, true, false, false, false] (ls' := [vR 1, vI x1, vI x2, vI x3, vI x4, vI x5, vI x6, vU, vI x8, vU, vU, vU]) rfl rfl ?_
            exact pl_X0_entry_156 hf _ _ _ _ _ _ _ _ _ _ h
          · have h := ifF c4 h
            refine b_iconst dX0_entry_147 ?_
            refine b_goto 156 dX0_entry_148 (by decide) ?_
            refine b_fgt [true, true, true, true, true, true, true, false, true, false, false, false] (ls' := [vR 1, vI x1, vI x2, vI x3, vI x4, vI x5, vI x6, vU, vI x8, vU, vU, vU]) rfl rfl ?_
            exact pl_X0_entry_156 hf _ _ _ _ _ _ _ _ _ _ h
        · have h := ifT (Decidable.of_not_not c3) h
          refine b_iconst dX0_entry_139 ?_
          exact b_iret dX0_entry_140 rfl h
      obtain ⟨g3, hs⟩ := hs
      refine b_if_lt 131 dX0_entry_75 g3 (by decide) (fun c5 => ?_) (fun c5 => ?_)
      ·
        refine b_iconst dX0_entry_131 ?_
        rw [if_pos c5] at K
        exact K
      ·
        have hs := ifF c5 hs
        refine b_iload_n dX0_entry_78 rfl ?_
        refine b_iload dX0_entry_79 rfl ?_
        refine b_icmp_ge 131 dX0_entry_81 g3 g2 (by decide) (fun c6 => ?_) (fun c6 => ?_)
        ·
          refine b_iconst dX0_entry_131 ?_
          rw [if_neg c5, if_pos c6] at K
          exact K
        ·
          have hs := ifF c6 hs
          obtain ⟨g4, hs⟩ := hs
          refine b_iload dX0_entry_84 rfl ?_
          refine b_if_lt 131 dX0_entry_86 g4 (by decide) (fun c7 => ?_) (fun c7 => ?_)
          ·
            refine b_iconst dX0_entry_131 ?_
            rw [if_neg c5, if_neg c6, if_pos c7] at K
            exact K
          ·
            have hs := ifF c7 hs
            obtain ⟨g5, hs⟩ := hs
            refine b_iload dX0_entry_89 rfl ?_
            refine b_iload dX0_entry_91 rfl ?_
            refine b_if_le 101 dX0_entry_93 g5 (by decide) (fun c8 => ?_) (fun c8 => ?_)
            ·
              have hs := ifT c8 hs
              refine b_iconst dX0_entry_101 ?_
              refine b_icmp_ge 131 dX0_entry_102 g4 (by decide) (by decide) (fun c9 => ?_) (fun c9 => ?_)
              ·
                refine b_iconst dX0_entry_131 ?_
                rw [if_neg c5, if_neg c6, if_neg c7, if_pos c8, if_pos c9] at K
                exact K
              ·
                have hs := ifF c9 hs
                have g6 := hs
                refine b_iload dX0_entry_105 rfl ?_
                refine b_if_lt 131 dX0_entry_107 g6 (by decide) (fun c10 => ?_) (fun c10 => ?_)
                ·
                  refine b_iconst dX0_entry_131 ?_
                  rw [if_neg c5, if_neg c6, if_neg c7, if_pos c8, if_neg c9, if_pos c10] at K
                  exact K
                ·
                  refine b_iload dX0_entry_110 rfl ?_
                  refine b_iload dX0_entry_112 rfl ?_
                  refine b_iconst dX0_entry_114 ?_
                  refine b_icmp_le 123 dX0_entry_115 g5 (by decide) (by decide) (fun c11 => ?_) (fun c11 => ?_)
                  ·
                    refine b_iconst dX0_entry_123 ?_
                    refine b_icmp_ge 131 dX0_entry_124 g6 (by decide) (by decide) (fun c12 => ?_) (fun c12 => ?_)
                    ·
                      refine b_iconst dX0_entry_131 ?_
                      rw [if_neg c5, if_neg c6, if_neg c7, if_pos c8, if_neg c9, if_neg c10, if_pos c11, if_pos c12] at K
                      exact K
                    ·
                      refine b_iconst dX0_entry_127 ?_
                      refine b_goto 132 dX0_entry_128 (by decide) ?_
                      rw [if_neg c5, if_neg c6, if_neg c7, if_pos c8, if_neg c9, if_neg c10, if_pos c11, if_neg c12] at K
                      exact K
                  ·
                    refine b_bipush dX0_entry_118 (by decide) ?_
                    refine b_goto 124 dX0_entry_120 (by decide) ?_
                    refine b_icmp_ge 131 dX0_entry_124 g6 (by decide) (by decide) (fun c13 => ?_) (fun c13 => ?_)
                    ·
                      refine b_iconst dX0_entry_131 ?_
                      rw [if_neg c5, if_neg c6, if_neg c7, if_pos c8, if_neg c9, if_neg c10, if_neg c11, if_pos c13] at K
                      exact K
                    ·
                      refine b_iconst dX0_entry_127 ?_
                      refine b_goto 132 dX0_entry_128 (by decide) ?_
                      rw [if_neg c5, if_neg c6, if_neg c7, if_pos c8, if_neg c9, if_neg c10, if_neg c11, if_neg c13] at K
                      exact K
            ·
              have hs := ifF c8 hs
              refine b_bipush dX0_entry_96 (by decide) ?_
              refine b_goto 102 dX0_entry_98 (by decide) ?_
              refine b_icmp_ge 131 dX0_entry_102 g4 (by decide) (by decide) (fun c14 => ?_) (fun c14 => ?_)
              ·
                refine b_iconst dX0_entry_131 ?_
                rw [if_neg c5, if_neg c6, if_neg c7, if_neg c8, if_pos c14] at K
                exact K
              ·
                have hs := ifF c14 hs
                have g7 := hs
                refine b_iload dX0_entry_105 rfl ?_
                refine b_if_lt 131 dX0_entry_107 g7 (by decide) (fun c15 => ?_) (fun c15 => ?_)
                ·
                  refine b_iconst dX0_entry_131 ?_
                  rw [if_neg c5, if_neg c6, if_neg c7, if_neg c8, if_neg c14, if_pos c15] at K
                  exact K
                ·
                  refine b_iload dX0_entry_110 rfl ?_
                  refine b_iload dX0_entry_112 rfl ?_
                  refine b_iconst dX0_entry_114 ?_
                  refine b_icmp_le 123 dX0_entry_115 g5 (by decide) (by decide) (fun c16 => ?_) (fun c16 => ?_)
                  ·
                    refine b_iconst dX0_entry_123 ?_
                    refine b_icmp_ge 131 dX0_entry_124 g7 (by decide) (by decide) (fun c17 => ?_) (fun c17 => ?_)
                    ·
                      refine b_iconst dX0_entry_131 ?_
                      rw [if_neg c5, if_neg c6, if_neg c7, if_neg c8, if_neg c14, if_neg c15, if_pos c16, if_pos c17] at K
                      exact K
                    ·
                      refine b_iconst dX0_entry_127 ?_
                      refine b_goto 132 dX0_entry_128 (by decide) ?_
                      rw [if_neg c5, if_neg c6, if_neg c7, if_neg c8, if_neg c14, if_neg c15, if_pos c16, if_neg c17] at K
                      exact K
                  ·
                    refine b_bipush dX0_entry_118 (by decide) ?_
                    refine b_goto 124 dX0_entry_120 (by decide) ?_
                    refine b_icmp_ge 131 dX0_entry_124 g7 (by decide) (by decide) (fun c18 => ?_) (fun c18 => ?_)
                    ·
                      refine b_iconst dX0_entry_131 ?_
                      rw [if_neg c5, if_neg c6, if_neg c7, if_neg c8, if_neg c14, if_neg c15, if_neg c16, if_pos c18] at K
                      exact K
                    ·
                      refine b_iconst dX0_entry_127 ?_
                      refine b_goto 132 dX0_entry_128 (by decide) ?_
                      rw [if_neg c5, if_neg c6, if_neg c7, if_neg c8, if_neg c14, if_neg c15, if_neg c16, if_neg c18] at K
                      exact K
theorem pl_X0_entry_46 {f : Nat} {Q : Int → MM → Prop} {T : MM → Prop} (hf : 3 ≤ f) : ∀ (x1 : Int) (x2 : Int) (x3 : Int) (x4 : Int) (x5 : Int) (x6 : Int) (x7 : Int) (s0 : Int) (m : MM), P_X0_entry_46 Q x1 x2 x3 x4 x5 x6 x7 s0 m → B f M_X0_entry 46 [vR 1, vI x1, vI x2, vI x3, vI x4, vI x5, vI x6, vI x7, vU, vU, vU, vU] [vI s0] m Q T := by
  intro x1 x2 x3 x4 x5 x6 x7 s0 m h
  have h : (RI x7) ∧ (if 0 ≤ x7 then P_X11_depth x7 m (fun r1 m1 => P_X0_entry_62 Q x1 x2 x3 x4 x5 x6 x7 s0 r1 m1) else P_X0_entry_62 Q x1 x2 x3 x4 x5 x6 x7 s0 0 m) := h
  refine b_istore (ls' := [vR 1, vI x1, vI x2, vI x3, vI x4, vI x5, vI x6, vI x7, vI s0, vU, vU, vU]) dX0_entry_46 (Nat.le_of_ble_eq_true rfl) rfl ?_
  refine b_iload dX0_entry_48 rfl ?_
  obtain ⟨g1, h⟩ := h
  refine b_if_ge 57 dX0_entry_50 g1 (by decide) (fun c1 => ?_) (fun c1 => ?_)
  · have h := ifT c1 h
    refine b_iload dX0_entry_57 rfl ?_
    refine b_cSi (as := [vI x7]) (st := []) dX0_entry_59 mf_X11_depth lk_X0_163 (p_X11_depth (f := 1) (Nat.le_refl _) _ _ h) (by omega) rfl rfl (Nat.le_of_ble_eq_true rfl) (by decide) rfl (fun _ => rfl) (fun r1 m1 h => ?_) (fun _ h => h)
    exact pl_X0_entry_62 hf _ _ _ _ _ _ _ _ _ _ h
  · have h := ifF c1 h
    refine b_iconst dX0_entry_53 ?_
    refine b_goto 62 dX0_entry_54 (by decide) ?_
    exact pl_X0_entry_62 hf _ _ _ _ _ _ _ _ _ _ h
theorem p_X0_entry {f : Nat} {Q : Int → MM → Prop} {T : MM → Prop} (hf : 3 ≤ f) (x1 : Int) (x2 : Int) (x3 : Int) (x4 : Int) (x5 : Int) (x6 : Int) (m : MM) (h : P_X0_entry x1 x2 x3 x4 x5 x6 m Q) : CC f M_X0_entry [vR 1, vI x1, vI x2, vI x3, vI x4, vI x5, vI x6] m Q T := by
  refine CC.of (plainFor_of_name (by decide)) (Nat.le_of_ble_eq_true rfl) (ls := [vR 1, vI x1, vI x2, vI x3, vI x4, vI x5, vI x6, vU, vU, vU, vU, vU]) rfl ?_
  have h : P_X0_isThere x1 m (fun r1 m1 => (RI r1) ∧ (if r1 = 0 then Q 0 m1 else (RI x6) ∧ (if x6 < 0 then Q 0 m1 else (if x6 ≤ 1 then P_X0_ringOf x1 m1 (fun r2 m2 => (RI r2) ∧ (if 0 ≤ r2 then P_X11_size r2 m2 (fun r3 m3 => P_J4_max 1 r3 m3 (fun r4 m4 => P_X0_entry_46 Q x1 x2 x3 x4 x5 x6 r2 r4 m4)) else P_X0_entry_46 Q x1 x2 x3 x4 x5 x6 r2 1 m2)) else Q 0 m1)))) := h
  refine b_aload_n dX0_entry_0 rfl ?_
  refine b_iload_n dX0_entry_1 rfl ?_
  refine b_cVi (as := [vI x1]) (st := []) dX0_entry_2 mf_X0_isThere qs91 lk_X0_168 ly_1 rfl (p_X0_isThere (f := 1) (Nat.le_refl _) _ _ h) (by omega) rfl rfl (Nat.le_of_ble_eq_true rfl) (by decide) rfl (fun _ => rfl) (fun r1 m1 h => ?_) (fun _ h => h)
  obtain ⟨g1, h⟩ := h
  refine b_if_eq 19 dX0_entry_5 g1 (by decide) (fun c1 => ?_) (fun c1 => ?_)
  · have h := ifT c1 h
    refine b_iconst dX0_entry_19 ?_
    exact b_iret dX0_entry_20 rfl h
  · have h := ifF c1 h
    refine b_iload dX0_entry_8 rfl ?_
    obtain ⟨g2, h⟩ := h
    refine b_if_lt 19 dX0_entry_10 g2 (by decide) (fun c2 => ?_) (fun c2 => ?_)
    · have h := ifT c2 h
      refine b_iconst dX0_entry_19 ?_
      exact b_iret dX0_entry_20 rfl h
    · have h := ifF c2 h
      refine b_iload dX0_entry_13 rfl ?_
      refine b_iconst dX0_entry_15 ?_
      refine b_icmp_le 21 dX0_entry_16 g2 (by decide) (by decide) (fun c3 => ?_) (fun c3 => ?_)
      · have h := ifT c3 h
        refine b_aload_n dX0_entry_21 rfl ?_
        refine b_iload_n dX0_entry_22 rfl ?_
        refine b_cVi (as := [vI x1]) (st := []) dX0_entry_23 mf_X0_ringOf qs92 lk_X0_172 ly_1 rfl (p_X0_ringOf (f := 1) (Nat.le_refl _) _ _ h) (by omega) rfl rfl (Nat.le_of_ble_eq_true rfl) (by decide) rfl (fun _ => rfl) (fun r2 m2 h => ?_) (fun _ h => h)
        refine b_istore (ls' := [vR 1, vI x1, vI x2, vI x3, vI x4, vI x5, vI x6, vI r2, vU, vU, vU, vU]) dX0_entry_26 (Nat.le_of_ble_eq_true rfl) rfl ?_
        refine b_iload dX0_entry_28 rfl ?_
        obtain ⟨g3, h⟩ := h
        refine b_if_ge 37 dX0_entry_30 g3 (by decide) (fun c4 => ?_) (fun c4 => ?_)
        · have h := ifT c4 h
          refine b_iconst dX0_entry_37 ?_
          refine b_iload dX0_entry_38 rfl ?_
          refine b_cSi (as := [vI r2]) (st := [vI 1]) dX0_entry_40 mf_X11_size lk_X0_166 (p_X11_size (f := 1) (Nat.le_refl _) _ _ h) (by omega) rfl rfl (Nat.le_of_ble_eq_true rfl) (by decide) rfl (fun _ => rfl) (fun r3 m3 h => ?_) (fun _ h => h)
          refine b_cSi (as := [vI 1, vI r3]) (st := []) dX0_entry_43 mf_J4_max lk_X0_179 (p_J4_max (f := 1) (Nat.le_refl _) _ _ _ h) (by omega) rfl rfl (Nat.le_of_ble_eq_true rfl) (by decide) rfl (fun _ => rfl) (fun r4 m4 h => ?_) (fun _ h => h)
          exact pl_X0_entry_46 hf _ _ _ _ _ _ _ _ _ h
        · have h := ifF c4 h
          refine b_iconst dX0_entry_33 ?_
          refine b_goto 46 dX0_entry_34 (by decide) ?_
          exact pl_X0_entry_46 hf _ _ _ _ _ _ _ _ _ h
      · have h := ifF c3 h
        refine b_iconst dX0_entry_19 ?_
        exact b_iret dX0_entry_20 rfl h
theorem dX0_feed_0 : decode cX0_feed 0 = .ok (.aload_n 0, 1) := by decide +kernel
theorem dX0_feed_1 : decode cX0_feed 1 = .ok (.getfield 65, 3) := by decide +kernel
theorem dX0_feed_4 : decode cX0_feed 4 = .ok (.bipush 20, 2) := by decide +kernel
theorem dX0_feed_6 : decode cX0_feed 6 = .ok (.iadd, 1) := by decide +kernel
theorem dX0_feed_7 : decode cX0_feed 7 = .ok (.sipush 400, 3) := by decide +kernel
theorem dX0_feed_10 : decode cX0_feed 10 = .ok (.if_icmp .le 5, 3) := by decide +kernel
theorem dX0_feed_13 : decode cX0_feed 13 = .ok (.iconst (-1), 1) := by decide +kernel
theorem dX0_feed_14 : decode cX0_feed 14 = .ok (.ireturn, 1) := by decide +kernel
theorem dX0_feed_15 : decode cX0_feed 15 = .ok (.iconst 0, 1) := by decide +kernel
theorem dX0_feed_16 : decode cX0_feed 16 = .ok (.istore 6, 2) := by decide +kernel
theorem dX0_feed_18 : decode cX0_feed 18 = .ok (.iload 6, 2) := by decide +kernel
theorem dX0_feed_20 : decode cX0_feed 20 = .ok (.bipush 20, 2) := by decide +kernel
theorem dX0_feed_22 : decode cX0_feed 22 = .ok (.if_icmp .ge 83, 3) := by decide +kernel
theorem dX0_feed_25 : decode cX0_feed 25 = .ok (.iload 6, 2) := by decide +kernel
theorem dX0_feed_27 : decode cX0_feed 27 = .ok (.iconst 4, 1) := by decide +kernel
theorem dX0_feed_28 : decode cX0_feed 28 = .ok (.if_icmp .ge 7, 3) := by decide +kernel
theorem dX0_feed_31 : decode cX0_feed 31 = .ok (.iload_n 1, 1) := by decide +kernel
theorem dX0_feed_32 : decode cX0_feed 32 = .ok (.goto 39, 3) := by decide +kernel
theorem dX0_feed_35 : decode cX0_feed 35 = .ok (.iload 6, 2) := by decide +kernel
theorem dX0_feed_37 : decode cX0_feed 37 = .ok (.bipush 8, 2) := by decide +kernel
theorem dX0_feed_39 : decode cX0_feed 39 = .ok (.if_icmp .ge 7, 3) := by decide +kernel
theorem dX0_feed_42 : decode cX0_feed 42 = .ok (.iload_n 2, 1) := by decide +kernel
theorem dX0_feed_43 : decode cX0_feed 43 = .ok (.goto 28, 3) := by decide +kernel
theorem dX0_feed_46 : decode cX0_feed 46 = .ok (.iload 6, 2) := by decide +kernel
theorem dX0_feed_48 : decode cX0_feed 48 = .ok (.bipush 12, 2) := by decide +kernel
theorem dX0_feed_50 : decode cX0_feed 50 = .ok (.if_icmp .ge 7, 3) := by decide +kernel
theorem dX0_feed_53 : decode cX0_feed 53 = .ok (.iload_n 3, 1) := by decide +kernel
theorem dX0_feed_54 : decode cX0_feed 54 = .ok (.goto 17, 3) := by decide +kernel
theorem dX0_feed_57 : decode cX0_feed 57 = .ok (.iload 6, 2) := by decide +kernel
theorem dX0_feed_59 : decode cX0_feed 59 = .ok (.bipush 16, 2) := by decide +kernel
theorem dX0_feed_61 : decode cX0_feed 61 = .ok (.if_icmp .ge 8, 3) := by decide +kernel
theorem dX0_feed_64 : decode cX0_feed 64 = .ok (.iload 4, 2) := by decide +kernel
theorem dX0_feed_66 : decode cX0_feed 66 = .ok (.goto 5, 3) := by decide +kernel
theorem dX0_feed_69 : decode cX0_feed 69 = .ok (.iload 5, 2) := by decide +kernel
theorem dX0_feed_71 : decode cX0_feed 71 = .ok (.istore 7, 2) := by decide +kernel
theorem dX0_feed_73 : decode cX0_feed 73 = .ok (.aload_n 0, 1) := by decide +kernel
theorem dX0_feed_74 : decode cX0_feed 74 = .ok (.getfield 9, 3) := by decide +kernel
theorem dX0_feed_77 : decode cX0_feed 77 = .ok (.aload_n 0, 1) := by decide +kernel
theorem dX0_feed_78 : decode cX0_feed 78 = .ok (.getfield 65, 3) := by decide +kernel
theorem dX0_feed_81 : decode cX0_feed 81 = .ok (.iload 6, 2) := by decide +kernel
theorem dX0_feed_83 : decode cX0_feed 83 = .ok (.iadd, 1) := by decide +kernel
theorem dX0_feed_84 : decode cX0_feed 84 = .ok (.iload 7, 2) := by decide +kernel
theorem dX0_feed_86 : decode cX0_feed 86 = .ok (.bipush 24, 2) := by decide +kernel
theorem dX0_feed_88 : decode cX0_feed 88 = .ok (.bipush 8, 2) := by decide +kernel
theorem dX0_feed_90 : decode cX0_feed 90 = .ok (.iload 6, 2) := by decide +kernel
theorem dX0_feed_92 : decode cX0_feed 92 = .ok (.iconst 4, 1) := by decide +kernel
theorem dX0_feed_93 : decode cX0_feed 93 = .ok (.irem, 1) := by decide +kernel
theorem dX0_feed_94 : decode cX0_feed 94 = .ok (.imul, 1) := by decide +kernel
theorem dX0_feed_95 : decode cX0_feed 95 = .ok (.isub, 1) := by decide +kernel
theorem dX0_feed_96 : decode cX0_feed 96 = .ok (.ishr, 1) := by decide +kernel
theorem dX0_feed_97 : decode cX0_feed 97 = .ok (.i2b, 1) := by decide +kernel
theorem dX0_feed_98 : decode cX0_feed 98 = .ok (.bastore, 1) := by decide +kernel
theorem dX0_feed_99 : decode cX0_feed 99 = .ok (.iinc 6 1, 3) := by decide +kernel
theorem dX0_feed_102 : decode cX0_feed 102 = .ok (.goto (-84), 3) := by decide +kernel
theorem dX0_feed_105 : decode cX0_feed 105 = .ok (.aload_n 0, 1) := by decide +kernel
theorem dX0_feed_106 : decode cX0_feed 106 = .ok (.dup, 1) := by decide +kernel
theorem dX0_feed_107 : decode cX0_feed 107 = .ok (.getfield 65, 3) := by decide +kernel
theorem dX0_feed_110 : decode cX0_feed 110 = .ok (.bipush 20, 2) := by decide +kernel
theorem dX0_feed_112 : decode cX0_feed 112 = .ok (.iadd, 1) := by decide +kernel
theorem dX0_feed_113 : decode cX0_feed 113 = .ok (.putfield 65, 3) := by decide +kernel
theorem dX0_feed_116 : decode cX0_feed 116 = .ok (.aload_n 0, 1) := by decide +kernel
theorem dX0_feed_117 : decode cX0_feed 117 = .ok (.getfield 65, 3) := by decide +kernel
theorem dX0_feed_120 : decode cX0_feed 120 = .ok (.ireturn, 1) := by decide +kernel
/-! AlgebraHouse.feed(IIIII)I -/
def P_X0_feed_18 (Q : Int → MM → Prop) : Nat → Int → Int → Int → Int → Int → Int → MM → Prop
  | 0, _, _, _, _, _, _, _ => False
  | n + 1, x1, x2, x3, x4, x5, x6, m => (RI x6) ∧ (if 20 ≤ x6 then ∀ m1 : MM, m1 = up m 1 1 ((m 1 1) + 20) → Q (m1 1 1) m1 else (0 ≤ ((m 1 1) + x6) ∧ ((m 1 1) + x6) < 400) ∧ (-128 ≤ (i2B (iShr (if 4 ≤ x6 then (if 8 ≤ x6 then (if 12 ≤ x6 then (if 16 ≤ x6 then x5 else x4 : Int) else x3 : Int) else x2 : Int) else x1 : Int) (24 - (8 * (Int.tmod x6 4))))) ∧ (i2B (iShr (if 4 ≤ x6 then (if 8 ≤ x6 then (if 12 ≤ x6 then (if 16 ≤ x6 then x5 else x4 : Int) else x3 : Int) else x2 : Int) else x1 : Int) (24 - (8 * (Int.tmod x6 4))))) ≤ 127) ∧ ∀ m2 : MM, m2 = up m 2 ((m 1 1) + x6) (i2B (iShr (if 4 ≤ x6 then (if 8 ≤ x6 then (if 12 ≤ x6 then (if 16 ≤ x6 then x5 else x4 : Int) else x3 : Int) else x2 : Int) else x1 : Int) (24 - (8 * (Int.tmod x6 4))))) → P_X0_feed_18 Q n x1 x2 x3 x4 x5 (x6 + 1) m2)
def P_X0_feed (x1 : Int) (x2 : Int) (x3 : Int) (x4 : Int) (x5 : Int) (m : MM) (Q : Int → MM → Prop) : Prop := (RI ((m 1 1) + 20)) ∧ (if ((m 1 1) + 20) ≤ 400 then ∃ nn, P_X0_feed_18 Q nn x1 x2 x3 x4 x5 0 m else Q (-1) m)
theorem pl_X0_feed_18 {f : Nat} {Q : Int → MM → Prop} {T : MM → Prop} (hf : 1 ≤ f) : ∀ (n : Nat) (x1 : Int) (x2 : Int) (x3 : Int) (x4 : Int) (x5 : Int) (x6 : Int) (m : MM), P_X0_feed_18 Q n x1 x2 x3 x4 x5 x6 m → B f M_X0_feed 18 [vR 1, vI x1, vI x2, vI x3, vI x4, vI x5, vI x6, vU] [] m Q T := by
  intro n
  induction n with
  | zero => intro x1 x2 x3 x4 x5 x6 m h; exact h.elim
  | succ n ih =>
    intro x1 x2 x3 x4 x5 x6 m h
    have h : (RI x6) ∧ (if 20 ≤ x6 then ∀ m1 : MM, m1 = up m 1 1 ((m 1 1) + 20) → Q (m1 1 1) m1 else (0 ≤ ((m 1 1) + x6) ∧ ((m 1 1) + x6) < 400) ∧ (-128 ≤ (i2B (iShr (if 4 ≤ x6 then (if 8 ≤ x6 then (if 12 ≤ x6 then (if 16 ≤ x6 then x5 else x4 : Int) else x3 : Int) else x2 : Int) else x1 : Int) (24 - (8 * (Int.tmod x6 4))))) ∧ (i2B (iShr (if 4 ≤ x6 then (if 8 ≤ x6 then (if 12 ≤ x6 then (if 16 ≤ x6 then x5 else x4 : Int) else x3 : Int) else x2 : Int) else x1 : Int) (24 - (8 * (Int.tmod x6 4))))) ≤ 127) ∧ ∀ m2 : MM, m2 = up m 2 ((m 1 1) + x6) (i2B (iShr (if 4 ≤ x6 then (if 8 ≤ x6 then (if 12 ≤ x6 then (if 16 ≤ x6 then x5 else x4 : Int) else x3 : Int) else x2 : Int) else x1 : Int) (24 - (8 * (Int.tmod x6 4))))) → P_X0_feed_18 Q n x1 x2 x3 x4 x5 (x6 + 1) m2) := h
    refine b_iload dX0_feed_18 rfl ?_
    refine b_bipush dX0_feed_20 (by decide) ?_
    obtain ⟨g1, h⟩ := h
    refine b_icmp_ge 105 dX0_feed_22 g1 (by decide) (by decide) (fun c1 => ?_) (fun c1 => ?_)
    · have h := ifT c1 h
      refine b_aload_n dX0_feed_105 rfl ?_
      refine b_dup dX0_feed_106 rfl ?_
      refine b_getI dX0_feed_107 fk_X0_65 ly_1 ?_
      refine b_bipush dX0_feed_110 (by decide) ?_
      refine b_iadd dX0_feed_112 ?_
      refine b_putI dX0_feed_113 fk_X0_65 ly_1 (fun m1 em1 => ?_)
      have h := h m1 em1
      refine b_aload_n dX0_feed_116 rfl ?_
      refine b_getI dX0_feed_117 fk_X0_65 ly_1 ?_
      exact b_iret dX0_feed_120 rfl h
    · have h := ifF c1 h
      refine b_iload dX0_feed_25 rfl ?_
      refine b_iconst dX0_feed_27 ?_
      have K : B f M_X0_feed 71 [vR 1, vI x1, vI x2, vI x3, vI x4, vI x5, vI x6, vU] [vI (if 4 ≤ x6 then (if 8 ≤ x6 then (if 12 ≤ x6 then (if 16 ≤ x6 then x5 else x4 : Int) else x3 : Int) else x2 : Int) else x1 : Int)] m Q T := by
        refine b_istore (ls' := [vR 1, vI x1, vI x2, vI x3, vI x4, vI x5, vI x6, vI (if 4 ≤ x6 then (if 8 ≤ x6 then (if 12 ≤ x6 then (if 16 ≤ x6 then x5 else x4 : Int) else x3 : Int) else x2 : Int) else x1 : Int)]) dX0_feed_71 (Nat.le_of_ble_eq_true rfl) rfl ?_
        refine b_aload_n dX0_feed_73 rfl ?_
        refine b_getR dX0_feed_74 fk_X0_9 ly_1 gg_1_0 ?_
        refine b_aload_n dX0_feed_77 rfl ?_
        refine b_getI dX0_feed_78 fk_X0_65 ly_1 ?_
        refine b_iload dX0_feed_81 rfl ?_
        refine b_iadd dX0_feed_83 ?_
        refine b_iload dX0_feed_84 rfl ?_
        refine b_bipush dX0_feed_86 (by decide) ?_
        refine b_bipush dX0_feed_88 (by decide) ?_
        refine b_iload dX0_feed_90 rfl ?_
        refine b_iconst dX0_feed_92 ?_
        refine b_irem dX0_feed_93 g1 (by decide) (by decide) ?_
        refine b_imul dX0_feed_94 ?_
        refine b_isub dX0_feed_95 ?_
        refine b_ishr dX0_feed_96 ?_
        refine b_i2b dX0_feed_97 ?_
        obtain ⟨g2, h⟩ := h
        obtain ⟨g3, h⟩ := h
        refine b_bast dX0_feed_98 ly_2 g2 g3 (fun m2 em2 => ?_)
        have h := h m2 em2
        refine b_iinc (ls' := [vR 1, vI x1, vI x2, vI x3, vI x4, vI x5, vI (x6 + 1), vI (if 4 ≤ x6 then (if 8 ≤ x6 then (if 12 ≤ x6 then (if 16 ≤ x6 then x5 else x4 : Int) else x3 : Int) else x2 : Int) else x1 : Int)]) dX0_feed_99 rfl rfl ?_
        refine b_goto 18 dX0_feed_102 (by decide) ?_
        refine b_fgt [true, true, true, true, true, true, true, false] (ls' := [vR 1, vI x1, vI x2, vI x3, vI x4, vI x5, vI (x6 + 1), vU]) rfl rfl ?_
        exact ih _ _ _ _ _ _ _ h
      refine b_icmp_ge 35 dX0_feed_28 g1 (by decide) (by decide) (fun c2 => ?_) (fun c2 => ?_)
      ·
        refine b_iload dX0_feed_35 rfl ?_
        refine b_bipush dX0_feed_37 (by decide) ?_
        refine b_icmp_ge 46 dX0_feed_39 g1 (by decide) (by decide) (fun c3 => ?_) (fun c3 => ?_)
        ·
          refine b_iload dX0_feed_46 rfl ?_
          refine b_bipush dX0_feed_48 (by decide) ?_
          refine b_icmp_ge 57 dX0_feed_50 g1 (by decide) (by decide) (fun c4 => ?_) (fun c4 => ?_)
          ·
            refine b_iload dX0_feed_57 rfl ?_
            refine b_bipush dX0_feed_59 (by decide) ?_
            refine b_icmp_ge 69 dX0_feed_61 g1 (by decide) (by decide) (fun c5 => ?_) (fun c5 => ?_)
            ·
              refine b_iload dX0_feed_69 rfl ?_
              rw [if_pos c2, if_pos c3, if_pos c4, if_pos c5] at K
              exact K
            ·
              refine b_iload dX0_feed_64 rfl ?_
              refine b_goto 71 dX0_feed_66 (by decide) ?_
              rw [if_pos c2, if_pos c3, if_pos c4, if_neg c5] at K
              exact K
          ·
            refine b_iload_n dX0_feed_53 rfl ?_
            refine b_goto 71 dX0_feed_54 (by decide) ?_
            rw [if_pos c2, if_pos c3, if_neg c4] at K
            exact K
        ·
          refine b_iload_n dX0_feed_42 rfl ?_
          refine b_goto 71 dX0_feed_43 (by decide) ?_
          rw [if_pos c2, if_neg c3] at K
          exact K
      ·
        refine b_iload_n dX0_feed_31 rfl ?_
        refine b_goto 71 dX0_feed_32 (by decide) ?_
        rw [if_neg c2] at K
        exact K
theorem p_X0_feed {f : Nat} {Q : Int → MM → Prop} {T : MM → Prop} (hf : 1 ≤ f) (x1 : Int) (x2 : Int) (x3 : Int) (x4 : Int) (x5 : Int) (m : MM) (h : P_X0_feed x1 x2 x3 x4 x5 m Q) : CC f M_X0_feed [vR 1, vI x1, vI x2, vI x3, vI x4, vI x5] m Q T := by
  refine CC.of (plainFor_of_name (by decide)) (Nat.le_of_ble_eq_true rfl) (ls := [vR 1, vI x1, vI x2, vI x3, vI x4, vI x5, vU, vU]) rfl ?_
  have h : (RI ((m 1 1) + 20)) ∧ (if ((m 1 1) + 20) ≤ 400 then ∃ nn, P_X0_feed_18 Q nn x1 x2 x3 x4 x5 0 m else Q (-1) m) := h
  refine b_aload_n dX0_feed_0 rfl ?_
  refine b_getI dX0_feed_1 fk_X0_65 ly_1 ?_
  refine b_bipush dX0_feed_4 (by decide) ?_
  refine b_iadd dX0_feed_6 ?_
  refine b_sipush dX0_feed_7 (by decide) ?_
  obtain ⟨g1, h⟩ := h
  refine b_icmp_le 15 dX0_feed_10 g1 (by decide) (by decide) (fun c1 => ?_) (fun c1 => ?_)
  · have h := ifT c1 h
    refine b_iconst dX0_feed_15 ?_
    refine b_istore (ls' := [vR 1, vI x1, vI x2, vI x3, vI x4, vI x5, vI 0, vU]) dX0_feed_16 (Nat.le_of_ble_eq_true rfl) rfl ?_
    obtain ⟨nn, h⟩ := h
    exact pl_X0_feed_18 hf nn _ _ _ _ _ _ _ h
  · have h := ifF c1 h
    refine b_iconst dX0_feed_13 ?_
    exact b_iret dX0_feed_14 rfl h
theorem dX0_shown_0 : decode cX0_shown 0 = .ok (.iload_n 1, 1) := by decide +kernel
theorem dX0_shown_1 : decode cX0_shown 1 = .ok (.ifCond .ne 21, 3) := by decide +kernel
theorem dX0_shown_4 : decode cX0_shown 4 = .ok (.iload_n 0, 1) := by decide +kernel
theorem dX0_shown_5 : decode cX0_shown 5 = .ok (.bipush (-2), 2) := by decide +kernel
theorem dX0_shown_7 : decode cX0_shown 7 = .ok (.if_icmp .ne 8, 3) := by decide +kernel
theorem dX0_shown_10 : decode cX0_shown 10 = .ok (.bipush (-2), 2) := by decide +kernel
theorem dX0_shown_12 : decode cX0_shown 12 = .ok (.goto 51, 3) := by decide +kernel
theorem dX0_shown_15 : decode cX0_shown 15 = .ok (.iload_n 0, 1) := by decide +kernel
theorem dX0_shown_16 : decode cX0_shown 16 = .ok (.invokestatic 160, 3) := by decide +kernel
theorem dX0_shown_19 : decode cX0_shown 19 = .ok (.goto 44, 3) := by decide +kernel
theorem dX0_shown_22 : decode cX0_shown 22 = .ok (.iload_n 1, 1) := by decide +kernel
theorem dX0_shown_23 : decode cX0_shown 23 = .ok (.iconst 1, 1) := by decide +kernel
theorem dX0_shown_24 : decode cX0_shown 24 = .ok (.if_icmp .ne 18, 3) := by decide +kernel
theorem dX0_shown_27 : decode cX0_shown 27 = .ok (.iload_n 0, 1) := by decide +kernel
theorem dX0_shown_28 : decode cX0_shown 28 = .ok (.ifCond .ge 7, 3) := by decide +kernel
theorem dX0_shown_31 : decode cX0_shown 31 = .ok (.iconst 0, 1) := by decide +kernel
theorem dX0_shown_32 : decode cX0_shown 32 = .ok (.goto 31, 3) := by decide +kernel
theorem dX0_shown_35 : decode cX0_shown 35 = .ok (.iload_n 0, 1) := by decide +kernel
theorem dX0_shown_36 : decode cX0_shown 36 = .ok (.invokestatic 163, 3) := by decide +kernel
theorem dX0_shown_39 : decode cX0_shown 39 = .ok (.goto 24, 3) := by decide +kernel
theorem dX0_shown_42 : decode cX0_shown 42 = .ok (.iload_n 1, 1) := by decide +kernel
theorem dX0_shown_43 : decode cX0_shown 43 = .ok (.iconst 2, 1) := by decide +kernel
theorem dX0_shown_44 : decode cX0_shown 44 = .ok (.if_icmp .ne 18, 3) := by decide +kernel
theorem dX0_shown_47 : decode cX0_shown 47 = .ok (.iload_n 0, 1) := by decide +kernel
theorem dX0_shown_48 : decode cX0_shown 48 = .ok (.ifCond .ge 7, 3) := by decide +kernel
theorem dX0_shown_51 : decode cX0_shown 51 = .ok (.iconst 0, 1) := by decide +kernel
theorem dX0_shown_52 : decode cX0_shown 52 = .ok (.goto 11, 3) := by decide +kernel
theorem dX0_shown_55 : decode cX0_shown 55 = .ok (.iload_n 0, 1) := by decide +kernel
theorem dX0_shown_56 : decode cX0_shown 56 = .ok (.invokestatic 166, 3) := by decide +kernel
theorem dX0_shown_59 : decode cX0_shown 59 = .ok (.goto 4, 3) := by decide +kernel
theorem dX0_shown_62 : decode cX0_shown 62 = .ok (.iconst (-1), 1) := by decide +kernel
theorem dX0_shown_63 : decode cX0_shown 63 = .ok (.ireturn, 1) := by decide +kernel
/-! AlgebraHouse.shown(II)I -/
def P_X0_shown (x0 : Int) (x1 : Int) (m : MM) (Q : Int → MM → Prop) : Prop := (RI x1) ∧ (if x1 = 0 then (RI x0) ∧ (if x0 = (-2) then Q (-2) m else P_X11_base x0 m (fun r3 m3 => Q r3 m3)) else (if x1 = 1 then (RI x0) ∧ (if 0 ≤ x0 then P_X11_depth x0 m (fun r2 m2 => Q r2 m2) else Q 0 m) else (if x1 = 2 then (RI x0) ∧ (if 0 ≤ x0 then P_X11_size x0 m (fun r1 m1 => Q r1 m1) else Q 0 m) else Q (-1) m)))
theorem p_X0_shown {f : Nat} {Q : Int → MM → Prop} {T : MM → Prop} (hf : 2 ≤ f) (x0 : Int) (x1 : Int) (m : MM) (h : P_X0_shown x0 x1 m Q) : CC f M_X0_shown [vI x0, vI x1] m Q T := by
  refine CC.of (plainFor_of_name (by decide)) (Nat.le_of_ble_eq_true rfl) (ls := [vI x0, vI x1]) rfl ?_
  have h : (RI x1) ∧ (if x1 = 0 then (RI x0) ∧ (if x0 = (-2) then Q (-2) m else P_X11_base x0 m (fun r3 m3 => Q r3 m3)) else (if x1 = 1 then (RI x0) ∧ (if 0 ≤ x0 then P_X11_depth x0 m (fun r2 m2 => Q r2 m2) else Q 0 m) else (if x1 = 2 then (RI x0) ∧ (if 0 ≤ x0 then P_X11_size x0 m (fun r1 m1 => Q r1 m1) else Q 0 m) else Q (-1) m))) := h
  refine b_iload_n dX0_shown_0 rfl ?_
  obtain ⟨g1, h⟩ := h
  refine b_if_ne 22 dX0_shown_1 g1 (by decide) (fun c1 => ?_) (fun c1 => ?_)
  · have h := ifF c1 h
    refine b_iload_n dX0_shown_22 rfl ?_
    refine b_iconst dX0_shown_23 ?_
    refine b_icmp_ne 42 dX0_shown_24 g1 (by decide) (by decide) (fun c2 => ?_) (fun c2 => ?_)
    · have h := ifF c2 h
      refine b_iload_n dX0_shown_42 rfl ?_
      refine b_iconst dX0_shown_43 ?_
      refine b_icmp_ne 62 dX0_shown_44 g1 (by decide) (by decide) (fun c3 => ?_) (fun c3 => ?_)
      · have h := ifF c3 h
        refine b_iconst dX0_shown_62 ?_
        exact b_iret dX0_shown_63 rfl h
      · have h := ifT (Decidable.of_not_not c3) h
        refine b_iload_n dX0_shown_47 rfl ?_
        obtain ⟨g2, h⟩ := h
        refine b_if_ge 55 dX0_shown_48 g2 (by decide) (fun c4 => ?_) (fun c4 => ?_)
        · have h := ifT c4 h
          refine b_iload_n dX0_shown_55 rfl ?_
          refine b_cSi (as := [vI x0]) (st := []) dX0_shown_56 mf_X11_size lk_X0_166 (p_X11_size (f := 1) (Nat.le_refl _) _ _ h) (by omega) rfl rfl (Nat.le_of_ble_eq_true rfl) (by decide) rfl (fun _ => rfl) (fun r1 m1 h => ?_) (fun _ h => h)
          refine b_goto 63 dX0_shown_59 (by decide) ?_
          exact b_iret dX0_shown_63 rfl h
        · have h := ifF c4 h
          refine b_iconst dX0_shown_51 ?_
          refine b_goto 63 dX0_shown_52 (by decide) ?_
          exact b_iret dX0_shown_63 rfl h
    · have h := ifT (Decidable.of_not_not c2) h
      refine b_iload_n dX0_shown_27 rfl ?_
      obtain ⟨g3, h⟩ := h
      refine b_if_ge 35 dX0_shown_28 g3 (by decide) (fun c5 => ?_) (fun c5 => ?_)
      · have h := ifT c5 h
        refine b_iload_n dX0_shown_35 rfl ?_
        refine b_cSi (as := [vI x0]) (st := []) dX0_shown_36 mf_X11_depth lk_X0_163 (p_X11_depth (f := 1) (Nat.le_refl _) _ _ h) (by omega) rfl rfl (Nat.le_of_ble_eq_true rfl) (by decide) rfl (fun _ => rfl) (fun r2 m2 h => ?_) (fun _ h => h)
        refine b_goto 63 dX0_shown_39 (by decide) ?_
        exact b_iret dX0_shown_63 rfl h
      · have h := ifF c5 h
        refine b_iconst dX0_shown_31 ?_
        refine b_goto 63 dX0_shown_32 (by decide) ?_
        exact b_iret dX0_shown_63 rfl h
  · have h := ifT (Decidable.of_not_not c1) h
    refine b_iload_n dX0_shown_4 rfl ?_
    refine b_bipush dX0_shown_5 (by decide) ?_
    obtain ⟨g4, h⟩ := h
    refine b_icmp_ne 15 dX0_shown_7 g4 (by decide) (by decide) (fun c6 => ?_) (fun c6 => ?_)
    · have h := ifF c6 h
      refine b_iload_n dX0_shown_15 rfl ?_
      refine b_cSi (as := [vI x0]) (st := []) dX0_shown_16 mf_X11_base lk_X0_160 (p_X11_base (f := 1) (Nat.le_refl _) _ _ h) (by omega) rfl rfl (Nat.le_of_ble_eq_true rfl) (by decide) rfl (fun _ => rfl) (fun r3 m3 h => ?_) (fun _ h => h)
      refine b_goto 63 dX0_shown_19 (by decide) ?_
      exact b_iret dX0_shown_63 rfl h
    · have h := ifT (Decidable.of_not_not c6) h
      refine b_bipush dX0_shown_10 (by decide) ?_
      refine b_goto 63 dX0_shown_12 (by decide) ?_
      exact b_iret dX0_shown_63 rfl h
theorem dX0_function_0 : decode cX0_function 0 = .ok (.iload_n 1, 1) := by decide +kernel
theorem dX0_function_1 : decode cX0_function 1 = .ok (.ifCond .lt 18, 3) := by decide +kernel
theorem dX0_function_4 : decode cX0_function 4 = .ok (.iload_n 1, 1) := by decide +kernel
theorem dX0_function_5 : decode cX0_function 5 = .ok (.aload_n 0, 1) := by decide +kernel
theorem dX0_function_6 : decode cX0_function 6 = .ok (.getfield 16, 3) := by decide +kernel
theorem dX0_function_9 : decode cX0_function 9 = .ok (.getfield 81, 3) := by decide +kernel
theorem dX0_function_12 : decode cX0_function 12 = .ok (.if_icmp .ge 7, 3) := by decide +kernel
theorem dX0_function_15 : decode cX0_function 15 = .ok (.iload_n 2, 1) := by decide +kernel
theorem dX0_function_16 : decode cX0_function 16 = .ok (.ifCond .ge 5, 3) := by decide +kernel
theorem dX0_function_19 : decode cX0_function 19 = .ok (.iconst (-1), 1) := by decide +kernel
theorem dX0_function_20 : decode cX0_function 20 = .ok (.ireturn, 1) := by decide +kernel
theorem dX0_function_21 : decode cX0_function 21 = .ok (.aload_n 0, 1) := by decide +kernel
theorem dX0_function_22 : decode cX0_function 22 = .ok (.getfield 16, 3) := by decide +kernel
theorem dX0_function_25 : decode cX0_function 25 = .ok (.getfield 77, 3) := by decide +kernel
theorem dX0_function_28 : decode cX0_function 28 = .ok (.iload_n 1, 1) := by decide +kernel
theorem dX0_function_29 : decode cX0_function 29 = .ok (.aaload, 1) := by decide +kernel
theorem dX0_function_30 : decode cX0_function 30 = .ok (.astore_n 3, 1) := by decide +kernel
theorem dX0_function_31 : decode cX0_function 31 = .ok (.iload_n 2, 1) := by decide +kernel
theorem dX0_function_32 : decode cX0_function 32 = .ok (.iconst 2, 1) := by decide +kernel
theorem dX0_function_33 : decode cX0_function 33 = .ok (.if_icmp .ge 19, 3) := by decide +kernel
theorem dX0_function_36 : decode cX0_function 36 = .ok (.iload_n 2, 1) := by decide +kernel
theorem dX0_function_37 : decode cX0_function 37 = .ok (.ifCond .ne 10, 3) := by decide +kernel
theorem dX0_function_40 : decode cX0_function 40 = .ok (.aload_n 3, 1) := by decide +kernel
theorem dX0_function_41 : decode cX0_function 41 = .ok (.getfield 187, 3) := by decide +kernel
theorem dX0_function_44 : decode cX0_function 44 = .ok (.goto 7, 3) := by decide +kernel
theorem dX0_function_47 : decode cX0_function 47 = .ok (.aload_n 3, 1) := by decide +kernel
theorem dX0_function_48 : decode cX0_function 48 = .ok (.getfield 190, 3) := by decide +kernel
theorem dX0_function_51 : decode cX0_function 51 = .ok (.ireturn, 1) := by decide +kernel
theorem dX0_function_52 : decode cX0_function 52 = .ok (.iload_n 2, 1) := by decide +kernel
theorem dX0_function_53 : decode cX0_function 53 = .ok (.iconst 2, 1) := by decide +kernel
theorem dX0_function_54 : decode cX0_function 54 = .ok (.isub, 1) := by decide +kernel
theorem dX0_function_55 : decode cX0_function 55 = .ok (.iconst 5, 1) := by decide +kernel
theorem dX0_function_56 : decode cX0_function 56 = .ok (.idiv, 1) := by decide +kernel
theorem dX0_function_57 : decode cX0_function 57 = .ok (.istore 4, 2) := by decide +kernel
theorem dX0_function_59 : decode cX0_function 59 = .ok (.iload 4, 2) := by decide +kernel
theorem dX0_function_61 : decode cX0_function 61 = .ok (.aload_n 3, 1) := by decide +kernel
theorem dX0_function_62 : decode cX0_function 62 = .ok (.getfield 187, 3) := by decide +kernel
theorem dX0_function_65 : decode cX0_function 65 = .ok (.if_icmp .le 5, 3) := by decide +kernel
theorem dX0_function_68 : decode cX0_function 68 = .ok (.iconst (-1), 1) := by decide +kernel
theorem dX0_function_69 : decode cX0_function 69 = .ok (.ireturn, 1) := by decide +kernel
theorem dX0_function_70 : decode cX0_function 70 = .ok (.aload_n 3, 1) := by decide +kernel
theorem dX0_function_71 : decode cX0_function 71 = .ok (.getfield 193, 3) := by decide +kernel
theorem dX0_function_74 : decode cX0_function 74 = .ok (.iload 4, 2) := by decide +kernel
theorem dX0_function_76 : decode cX0_function 76 = .ok (.baload, 1) := by decide +kernel
theorem dX0_function_77 : decode cX0_function 77 = .ok (.istore 5, 2) := by decide +kernel
theorem dX0_function_79 : decode cX0_function 79 = .ok (.aload_n 3, 1) := by decide +kernel
theorem dX0_function_80 : decode cX0_function 80 = .ok (.getfield 197, 3) := by decide +kernel
theorem dX0_function_83 : decode cX0_function 83 = .ok (.iload 4, 2) := by decide +kernel
theorem dX0_function_85 : decode cX0_function 85 = .ok (.iaload, 1) := by decide +kernel
theorem dX0_function_86 : decode cX0_function 86 = .ok (.istore 6, 2) := by decide +kernel
theorem dX0_function_88 : decode cX0_function 88 = .ok (.iload_n 2, 1) := by decide +kernel
theorem dX0_function_89 : decode cX0_function 89 = .ok (.iconst 2, 1) := by decide +kernel
theorem dX0_function_90 : decode cX0_function 90 = .ok (.isub, 1) := by decide +kernel
theorem dX0_function_91 : decode cX0_function 91 = .ok (.iconst 5, 1) := by decide +kernel
theorem dX0_function_92 : decode cX0_function 92 = .ok (.irem, 1) := by decide +kernel
theorem dX0_function_93 : decode cX0_function 93 = .ok (.tableswitch 102 0 3 #[31, 42, 58, 80], 31) := by decide +kernel
theorem dX0_function_124 : decode cX0_function 124 = .ok (.iload 5, 2) := by decide +kernel
theorem dX0_function_126 : decode cX0_function 126 = .ok (.ifCond .eq 7, 3) := by decide +kernel
theorem dX0_function_129 : decode cX0_function 129 = .ok (.iconst 1, 1) := by decide +kernel
theorem dX0_function_130 : decode cX0_function 130 = .ok (.goto 4, 3) := by decide +kernel
theorem dX0_function_133 : decode cX0_function 133 = .ok (.iconst 0, 1) := by decide +kernel
theorem dX0_function_134 : decode cX0_function 134 = .ok (.ireturn, 1) := by decide +kernel
theorem dX0_function_135 : decode cX0_function 135 = .ok (.iload 5, 2) := by decide +kernel
theorem dX0_function_137 : decode cX0_function 137 = .ok (.ifCond .eq 7, 3) := by decide +kernel
theorem dX0_function_140 : decode cX0_function 140 = .ok (.iconst 0, 1) := by decide +kernel
theorem dX0_function_141 : decode cX0_function 141 = .ok (.goto 9, 3) := by decide +kernel
theorem dX0_function_144 : decode cX0_function 144 = .ok (.iload 6, 2) := by decide +kernel
theorem dX0_function_146 : decode cX0_function 146 = .ok (.iconst 0, 1) := by decide +kernel
theorem dX0_function_147 : decode cX0_function 147 = .ok (.invokestatic 175, 3) := by decide +kernel
theorem dX0_function_150 : decode cX0_function 150 = .ok (.ireturn, 1) := by decide +kernel
theorem dX0_function_151 : decode cX0_function 151 = .ok (.iload 5, 2) := by decide +kernel
theorem dX0_function_153 : decode cX0_function 153 = .ok (.ifCond .eq 13, 3) := by decide +kernel
theorem dX0_function_156 : decode cX0_function 156 = .ok (.aload_n 3, 1) := by decide +kernel
theorem dX0_function_157 : decode cX0_function 157 = .ok (.getfield 199, 3) := by decide +kernel
theorem dX0_function_160 : decode cX0_function 160 = .ok (.iload 4, 2) := by decide +kernel
theorem dX0_function_162 : decode cX0_function 162 = .ok (.iaload, 1) := by decide +kernel
theorem dX0_function_163 : decode cX0_function 163 = .ok (.goto 9, 3) := by decide +kernel
theorem dX0_function_166 : decode cX0_function 166 = .ok (.iload 6, 2) := by decide +kernel
theorem dX0_function_168 : decode cX0_function 168 = .ok (.iconst 1, 1) := by decide +kernel
theorem dX0_function_169 : decode cX0_function 169 = .ok (.invokestatic 175, 3) := by decide +kernel
theorem dX0_function_172 : decode cX0_function 172 = .ok (.ireturn, 1) := by decide +kernel
theorem dX0_function_173 : decode cX0_function 173 = .ok (.iload 5, 2) := by decide +kernel
theorem dX0_function_175 : decode cX0_function 175 = .ok (.ifCond .eq 13, 3) := by decide +kernel
theorem dX0_function_178 : decode cX0_function 178 = .ok (.aload_n 3, 1) := by decide +kernel
theorem dX0_function_179 : decode cX0_function 179 = .ok (.getfield 202, 3) := by decide +kernel
theorem dX0_function_182 : decode cX0_function 182 = .ok (.iload 4, 2) := by decide +kernel
theorem dX0_function_184 : decode cX0_function 184 = .ok (.iaload, 1) := by decide +kernel
theorem dX0_function_185 : decode cX0_function 185 = .ok (.goto 9, 3) := by decide +kernel
theorem dX0_function_188 : decode cX0_function 188 = .ok (.iload 6, 2) := by decide +kernel
theorem dX0_function_190 : decode cX0_function 190 = .ok (.iconst 2, 1) := by decide +kernel
theorem dX0_function_191 : decode cX0_function 191 = .ok (.invokestatic 175, 3) := by decide +kernel
theorem dX0_function_194 : decode cX0_function 194 = .ok (.ireturn, 1) := by decide +kernel
theorem dX0_function_195 : decode cX0_function 195 = .ok (.iload 6, 2) := by decide +kernel
theorem dX0_function_197 : decode cX0_function 197 = .ok (.bipush (-2), 2) := by decide +kernel
theorem dX0_function_199 : decode cX0_function 199 = .ok (.if_icmp .ne 7, 3) := by decide +kernel
theorem dX0_function_202 : decode cX0_function 202 = .ok (.iconst 1, 1) := by decide +kernel
theorem dX0_function_203 : decode cX0_function 203 = .ok (.goto 4, 3) := by decide +kernel
theorem dX0_function_206 : decode cX0_function 206 = .ok (.iconst 0, 1) := by decide +kernel
theorem dX0_function_207 : decode cX0_function 207 = .ok (.ireturn, 1) := by decide +kernel
/-! AlgebraHouse.function(II)I -/
def P_X0_function (x1 : Int) (x2 : Int) (m : MM) (Q : Int → MM → Prop) : Prop := (RI x1) ∧ (if x1 < 0 then Q (-1) m else (RI (m 3 1)) ∧ (if (m 3 1) ≤ x1 then Q (-1) m else (RI x2) ∧ (if 0 ≤ x2 then (0 ≤ x1 ∧ x1 < 21) ∧ (if 2 ≤ x2 then (RI (x2 - 2)) ∧ (isTx (8 + 17 * x1)) ∧ (RI (Int.tdiv (x2 - 2) 5)) ∧ (RI (m (8 + 17 * x1) 5)) ∧ (if (Int.tdiv (x2 - 2) 5) ≤ (m (8 + 17 * x1) 5) then (0 ≤ (Int.tdiv (x2 - 2) 5) ∧ (Int.tdiv (x2 - 2) 5) < 4) ∧ (RI (Int.tmod (x2 - 2) 5)) ∧ (if (Int.tmod (x2 - 2) 5) = 0 then (RI (m ((8 + 17 * x1) + 13) (Int.tdiv (x2 - 2) 5))) ∧ (if (m ((8 + 17 * x1) + 13) (Int.tdiv (x2 - 2) 5)) = 0 then Q 0 m else Q 1 m) else (if (Int.tmod (x2 - 2) 5) = 1 then (RI (m ((8 + 17 * x1) + 13) (Int.tdiv (x2 - 2) 5))) ∧ (if (m ((8 + 17 * x1) + 13) (Int.tdiv (x2 - 2) 5)) = 0 then P_X0_shown (m ((8 + 17 * x1) + 14) (Int.tdiv (x2 - 2) 5)) 0 m (fun r1 m1 => Q r1 m1) else Q 0 m) else (if (Int.tmod (x2 - 2) 5) = 2 then (RI (m ((8 + 17 * x1) + 13) (Int.tdiv (x2 - 2) 5))) ∧ (if (m ((8 + 17 * x1) + 13) (Int.tdiv (x2 - 2) 5)) = 0 then P_X0_shown (m ((8 + 17 * x1) + 14) (Int.tdiv (x2 - 2) 5)) 1 m (fun r2 m2 => Q r2 m2) else Q (m ((8 + 17 * x1) + 15) (Int.tdiv (x2 - 2) 5)) m) else (if (Int.tmod (x2 - 2) 5) = 3 then (RI (m ((8 + 17 * x1) + 13) (Int.tdiv (x2 - 2) 5))) ∧ (if (m ((8 + 17 * x1) + 13) (Int.tdiv (x2 - 2) 5)) = 0 then P_X0_shown (m ((8 + 17 * x1) + 14) (Int.tdiv (x2 - 2) 5)) 2 m (fun r3 m3 => Q r3 m3) else Q (m ((8 + 17 * x1) + 16) (Int.tdiv (x2 - 2) 5)) m) else (RI (m ((8 + 17 * x1) + 14) (Int.tdiv (x2 - 2) 5))) ∧ (if (m ((8 + 17 * x1) + 14) (Int.tdiv (x2 - 2) 5)) = (-2) then Q 1 m else Q 0 m))))) else Q (-1) m) else (if x2 = 0 then (isTx (8 + 17 * x1)) ∧ Q (m (8 + 17 * x1) 5) m else (isTx (8 + 17 * x1)) ∧ Q (m (8 + 17 * x1) 22) m)) else Q (-1) m)))
theorem p_X0_function {f : Nat} {Q : Int → MM → Prop} {T : MM → Prop} (hf : 3 ≤ f) (x1 : Int) (x2 : Int) (m : MM) (h : P_X0_function x1 x2 m Q) : CC f M_X0_function [vR 1, vI x1, vI x2] m Q T := by
  refine CC.of (plainFor_of_name (by decide)) (Nat.le_of_ble_eq_true rfl) (ls := [vR 1, vI x1, vI x2, vU, vU, vU, vU]) rfl ?_
  have h : (RI x1) ∧ (if x1 < 0 then Q (-1) m else (RI (m 3 1)) ∧ (if (m 3 1) ≤ x1 then Q (-1) m else (RI x2) ∧ (if 0 ≤ x2 then (0 ≤ x1 ∧ x1 < 21) ∧ (if 2 ≤ x2 then (RI (x2 - 2)) ∧ (isTx (8 + 17 * x1)) ∧ (RI (Int.tdiv (x2 - 2) 5)) ∧ (RI (m (8 + 17 * x1) 5)) ∧ (if (Int.tdiv (x2 - 2) 5) ≤ (m (8 + 17 * x1) 5) then (0 ≤ (Int.tdiv (x2 - 2) 5) ∧ (Int.tdiv (x2 - 2) 5) < 4) ∧ (RI (Int.tmod (x2 - 2) 5)) ∧ (if (Int.tmod (x2 - 2) 5) = 0 then (RI (m ((8 + 17 * x1) + 13) (Int.tdiv (x2 - 2) 5))) ∧ (if (m ((8 + 17 * x1) + 13) (Int.tdiv (x2 - 2) 5)) = 0 then Q 0 m else Q 1 m) else (if (Int.tmod (x2 - 2) 5) = 1 then (RI (m ((8 + 17 * x1) + 13) (Int.tdiv (x2 - 2) 5))) ∧ (if (m ((8 + 17 * x1) + 13) (Int.tdiv (x2 - 2) 5)) = 0 then P_X0_shown (m ((8 + 17 * x1) + 14) (Int.tdiv (x2 - 2) 5)) 0 m (fun r1 m1 => Q r1 m1) else Q 0 m) else (if (Int.tmod (x2 - 2) 5) = 2 then (RI (m ((8 + 17 * x1) + 13) (Int.tdiv (x2 - 2) 5))) ∧ (if (m ((8 + 17 * x1) + 13) (Int.tdiv (x2 - 2) 5)) = 0 then P_X0_shown (m ((8 + 17 * x1) + 14) (Int.tdiv (x2 - 2) 5)) 1 m (fun r2 m2 => Q r2 m2) else Q (m ((8 + 17 * x1) + 15) (Int.tdiv (x2 - 2) 5)) m) else (if (Int.tmod (x2 - 2) 5) = 3 then (RI (m ((8 + 17 * x1) + 13) (Int.tdiv (x2 - 2) 5))) ∧ (if (m ((8 + 17 * x1) + 13) (Int.tdiv (x2 - 2) 5)) = 0 then P_X0_shown (m ((8 + 17 * x1) + 14) (Int.tdiv (x2 - 2) 5)) 2 m (fun r3 m3 => Q r3 m3) else Q (m ((8 + 17 * x1) + 16) (Int.tdiv (x2 - 2) 5)) m) else (RI (m ((8 + 17 * x1) + 14) (Int.tdiv (x2 - 2) 5))) ∧ (if (m ((8 + 17 * x1) + 14) (Int.tdiv (x2 - 2) 5)) = (-2) then Q 1 m else Q 0 m))))) else Q (-1) m) else (if x2 = 0 then (isTx (8 + 17 * x1)) ∧ Q (m (8 + 17 * x1) 5) m else (isTx (8 + 17 * x1)) ∧ Q (m (8 + 17 * x1) 22) m)) else Q (-1) m))) := h
  refine b_iload_n dX0_function_0 rfl ?_
  obtain ⟨g1, h⟩ := h
  refine b_if_lt 19 dX0_function_1 g1 (by decide) (fun c1 => ?_) (fun c1 => ?_)
  · have h := ifT c1 h
    refine b_iconst dX0_function_19 ?_
    exact b_iret dX0_function_20 rfl h
  · have h := ifF c1 h
    refine b_iload_n dX0_function_4 rfl ?_
    refine b_aload_n dX0_function_5 rfl ?_
    refine b_getR dX0_function_6 fk_X0_16 ly_1 gg_1_2 ?_
    refine b_getI dX0_function_9 fk_X0_81 ly_3 ?_
    obtain ⟨g2, h⟩ := h
    refine b_icmp_ge 19 dX0_function_12 g1 g2 (by decide) (fun c2 => ?_) (fun c2 => ?_)
    · have h := ifT c2 h
      refine b_iconst dX0_function_19 ?_
      exact b_iret dX0_function_20 rfl h
    · have h := ifF c2 h
      refine b_iload_n dX0_function_15 rfl ?_
      obtain ⟨g3, h⟩ := h
      refine b_if_ge 21 dX0_function_16 g3 (by decide) (fun c3 => ?_) (fun c3 => ?_)
      · have h := ifT c3 h
        refine b_aload_n dX0_function_21 rfl ?_
        refine b_getR dX0_function_22 fk_X0_16 ly_1 gg_1_2 ?_
        refine b_getR dX0_function_25 fk_X0_77 ly_3 gg_3_0 ?_
        refine b_iload_n dX0_function_28 rfl ?_
        obtain ⟨g4, h⟩ := h
        refine b_aald dX0_function_29 ly_4 (Or.inl rfl) g4 (gg_told _) ?_
        refine b_astore_n (ls' := [vR 1, vI x1, vI x2, vR (8 + 17 * x1), vU, vU, vU]) dX0_function_30 (Nat.le_of_ble_eq_true rfl) rfl ?_
        refine b_iload_n dX0_function_31 rfl ?_
        refine b_iconst dX0_function_32 ?_
        refine b_icmp_ge 52 dX0_function_33 g3 (by decide) (by decide) (fun c4 => ?_) (fun c4 => ?_)
        · have h := ifT c4 h
          refine b_iload_n dX0_function_52 rfl ?_
          refine b_iconst dX0_function_53 ?_
          refine b_isub dX0_function_54 ?_
          refine b_iconst dX0_function_55 ?_
          obtain ⟨g5, h⟩ := h
          refine b_idiv dX0_function_56 g5 (by decide) (by decide) ?_
          refine b_istore (ls' := [vR 1, vI x1, vI x2, vR (8 + 17 * x1), vI (Int.tdiv (x2 - 2) 5), vU, vU]) dX0_function_57 (Nat.le_of_ble_eq_true rfl) rfl ?_
          refine b_iload dX0_function_59 rfl ?_
          refine b_aload_n dX0_function_61 rfl ?_
          obtain ⟨g6, h⟩ := h
          refine b_getI dX0_function_62 fk_X0_187 (tx_ly0 g6) ?_
          obtain ⟨g7, h⟩ := h
          obtain ⟨g8, h⟩ := h
          refine b_icmp_le 70 dX0_function_65 g7 g8 (by decide) (fun c5 => ?_) (fun c5 => ?_)
          · have h := ifT c5 h
            refine b_aload_n dX0_function_70 rfl ?_
            refine b_getR dX0_function_71 fk_X0_193 (tx_ly0 g6) (tx_gg23 g6) ?_
            refine b_iload dX0_function_74 rfl ?_
            obtain ⟨g9, h⟩ := h
            refine b_zald dX0_function_76 (tx_ly13 g6) g9 ?_
            refine b_istore (ls' := [vR 1, vI x1, vI x2, vR (8 + 17 * x1), vI (Int.tdiv (x2 - 2) 5), vI (m ((8 + 17 * x1) + 13) (Int.tdiv (x2 - 2) 5)), vU]) dX0_function_77 (Nat.le_of_ble_eq_true rfl) rfl ?_
            refine b_aload_n dX0_function_79 rfl ?_
            refine b_getR dX0_function_80 fk_X0_197 (tx_ly0 g6) (tx_gg24 g6) ?_
            refine b_iload dX0_function_83 rfl ?_
            refine b_iald dX0_function_85 (tx_ly14 g6) g9 ?_
            refine b_istore (ls' := [vR 1, vI x1, vI x2, vR (8 + 17 * x1), vI (Int.tdiv (x2 - 2) 5), vI (m ((8 + 17 * x1) + 13) (Int.tdiv (x2 - 2) 5)), vI (m ((8 + 17 * x1) + 14) (Int.tdiv (x2 - 2) 5))]) dX0_function_86 (Nat.le_of_ble_eq_true rfl) rfl ?_
            refine b_iload_n dX0_function_88 rfl ?_
            refine b_iconst dX0_function_89 ?_
            refine b_isub dX0_function_90 ?_
            refine b_iconst dX0_function_91 ?_
            refine b_irem dX0_function_92 g5 (by decide) (by decide) ?_
            obtain ⟨g10, h⟩ := h
            by_cases c6 : (Int.tmod (x2 - 2) 5) = 0
            · have h := ifT c6 h
              refine b_tswIn 124 dX0_function_93 g10 (by omega) (by omega) (by rw [c6]; rfl) (by decide) ?_
              refine b_iload dX0_function_124 rfl ?_
              obtain ⟨g11, h⟩ := h
              refine b_if_eq 133 dX0_function_126 g11 (by decide) (fun c7 => ?_) (fun c7 => ?_)
              · have h := ifT c7 h
                refine b_iconst dX0_function_133 ?_
                exact b_iret dX0_function_134 rfl h
              · have h := ifF c7 h
                refine b_iconst dX0_function_129 ?_
                refine b_goto 134 dX0_function_130 (by decide) ?_
                exact b_iret dX0_function_134 rfl h
            have h := ifF c6 h
            by_cases c8 : (Int.tmod (x2 - 2) 5) = 1
            · have h := ifT c8 h
              refine b_tswIn 135 dX0_function_93 g10 (by omega) (by omega) (by rw [c8]; rfl) (by decide) ?_
              refine b_iload dX0_function_135 rfl ?_
              obtain ⟨g12, h⟩ := h
              refine b_if_eq 144 dX0_function_137 g12 (by decide) (fun c9 => ?_) (fun c9 => ?_)
              · have h := ifT c9 h
                refine b_iload dX0_function_144 rfl ?_
                refine b_iconst dX0_function_146 ?_
                refine b_cSi (as := [vI (m ((8 + 17 * x1) + 14) (Int.tdiv (x2 - 2) 5)), vI 0]) (st := []) dX0_function_147 mf_X0_shown lk_X0_175 (p_X0_shown (f := 2) (Nat.le_refl _) _ _ _ h) (by omega) rfl rfl (Nat.le_of_ble_eq_true rfl) (by decide) rfl (fun _ => rfl) (fun r1 m1 h => ?_) (fun _ h => h)
                exact b_iret dX0_function_150 rfl h
              · have h := ifF c9 h
                refine b_iconst dX0_function_140 ?_
                refine b_goto 150 dX0_function_141 (by decide) ?_
                exact b_iret dX0_function_150 rfl h
            have h := ifF c8 h
            by_cases c10 : (Int.tmod (x2 - 2) 5) = 2
            · have h := ifT c10 h
              refine b_tswIn 151 dX0_function_93 g10 (by omega) (by omega) (by rw [c10]; rfl) (by decide) ?_
              refine b_iload dX0_function_151 rfl ?_
              obtain ⟨g13, h⟩ := h
              refine b_if_eq 166 dX0_function_153 g13 (by decide) (fun c11 => ?_) (fun c11 => ?_)
              · have h := ifT c11 h
                refine b_iload dX0_function_166 rfl ?_
                refine b_iconst dX0_function_168 ?_
                refine b_cSi (as := [vI (m ((8 + 17 * x1) + 14) (Int.tdiv (x2 - 2) 5)), vI 1]) (st := []) dX0_function_169 mf_X0_shown lk_X0_175 (p_X0_shown (f := 2) (Nat.le_refl _) _ _ _ h) (by omega) rfl rfl (Nat.le_of_ble_eq_true rfl) (by decide) rfl (fun _ => rfl) (fun r2 m2 h => ?_) (fun _ h => h)
                exact b_iret dX0_function_172 rfl h
              · have h := ifF c11 h
                refine b_aload_n dX0_function_156 rfl ?_
                refine b_getR dX0_function_157 fk_X0_199 (tx_ly0 g6) (tx_gg25 g6) ?_
                refine b_iload dX0_function_160 rfl ?_
                refine b_iald dX0_function_162 (tx_ly15 g6) g9 ?_
                refine b_goto 172 dX0_function_163 (by decide) ?_
                exact b_iret dX0_function_172 rfl h
            have h := ifF c10 h
            by_cases c12 : (Int.tmod (x2 - 2) 5) = 3
            · have h := ifT c12 h
              refine b_tswIn 173 dX0_function_93 g10 (by omega) (by omega) (by rw [c12]; rfl) (by decide) ?_
              refine b_iload dX0_function_173 rfl ?_
              obtain ⟨g14, h⟩ := h
              refine b_if_eq 188 dX0_function_175 g14 (by decide) (fun c13 => ?_) (fun c13 => ?_)
              · have h := ifT c13 h
                refine b_iload dX0_function_188 rfl ?_
                refine b_iconst dX0_function_190 ?_
                refine b_cSi (as := [vI (m ((8 + 17 * x1) + 14) (Int.tdiv (x2 - 2) 5)), vI 2]) (st := []) dX0_function_191 mf_X0_shown lk_X0_175 (p_X0_shown (f := 2) (Nat.le_refl _) _ _ _ h) (by omega) rfl rfl (Nat.le_of_ble_eq_true rfl) (by decide) rfl (fun _ => rfl) (fun r3 m3 h => ?_) (fun _ h => h)
                exact b_iret dX0_function_194 rfl h
              · have h := ifF c13 h
                refine b_aload_n dX0_function_178 rfl ?_
                refine b_getR dX0_function_179 fk_X0_202 (tx_ly0 g6) (tx_gg26 g6) ?_
                refine b_iload dX0_function_182 rfl ?_
                refine b_iald dX0_function_184 (tx_ly16 g6) g9 ?_
                refine b_goto 194 dX0_function_185 (by decide) ?_
                exact b_iret dX0_function_194 rfl h
            have h := ifF c12 h
            refine b_tswOut 195 dX0_function_93 g10 (by omega) (by decide) ?_
            refine b_iload dX0_function_195 rfl ?_
            refine b_bipush dX0_function_197 (by decide) ?_
            obtain ⟨g15, h⟩ := h
            refine b_icmp_ne 206 dX0_function_199 g15 (by decide) (by decide) (fun c14 => ?_) (fun c14 => ?_)
            · have h := ifF c14 h
              refine b_iconst dX0_function_206 ?_
              exact b_iret dX0_function_207 rfl h
            · have h := ifT (Decidable.of_not_not c14) h
              refine b_iconst dX0_function_202 ?_
              refine b_goto 207 dX0_function_203 (by decide) ?_
              exact b_iret dX0_function_207 rfl h
          · have h := ifF c5 h
            refine b_iconst dX0_function_68 ?_
            exact b_iret dX0_function_69 rfl h
        · have h := ifF c4 h
          refine b_iload_n dX0_function_36 rfl ?_
          refine b_if_ne 47 dX0_function_37 g3 (by decide) (fun c15 => ?_) (fun c15 => ?_)
          · have h := ifF c15 h
            refine b_aload_n dX0_function_47 rfl ?_
            obtain ⟨g16, h⟩ := h
            refine b_getI dX0_function_48 fk_X0_190 (tx_ly0 g16) ?_
            exact b_iret dX0_function_51 rfl h
          · have h := ifT (Decidable.of_not_not c15) h
            refine b_aload_n dX0_function_40 rfl ?_
            obtain ⟨g17, h⟩ := h
            refine b_getI dX0_function_41 fk_X0_187 (tx_ly0 g17) ?_
            refine b_goto 51 dX0_function_44 (by decide) ?_
            exact b_iret dX0_function_51 rfl h
      · have h := ifF c3 h
        refine b_iconst dX0_function_19 ?_
        exact b_iret dX0_function_20 rfl h
theorem dX0_keep_0 : decode cX0_keep 0 = .ok (.iload_n 2, 1) := by decide +kernel
theorem dX0_keep_1 : decode cX0_keep 1 = .ok (.invokestatic 122, 3) := by decide +kernel
theorem dX0_keep_4 : decode cX0_keep 4 = .ok (.istore_n 3, 1) := by decide +kernel
theorem dX0_keep_5 : decode cX0_keep 5 = .ok (.aload_n 0, 1) := by decide +kernel
theorem dX0_keep_6 : decode cX0_keep 6 = .ok (.getfield 51, 3) := by decide +kernel
theorem dX0_keep_9 : decode cX0_keep 9 = .ok (.getfield 128, 3) := by decide +kernel
theorem dX0_keep_12 : decode cX0_keep 12 = .ok (.iconst 0, 1) := by decide +kernel
theorem dX0_keep_13 : decode cX0_keep 13 = .ok (.aload_n 0, 1) := by decide +kernel
theorem dX0_keep_14 : decode cX0_keep 14 = .ok (.getfield 39, 3) := by decide +kernel
theorem dX0_keep_17 : decode cX0_keep 17 = .ok (.sipush 882, 3) := by decide +kernel
theorem dX0_keep_20 : decode cX0_keep 20 = .ok (.aload_n 0, 1) := by decide +kernel
theorem dX0_keep_21 : decode cX0_keep 21 = .ok (.getfield 16, 3) := by decide +kernel
theorem dX0_keep_24 : decode cX0_keep 24 = .ok (.getfield 131, 3) := by decide +kernel
theorem dX0_keep_27 : decode cX0_keep 27 = .ok (.imul, 1) := by decide +kernel
theorem dX0_keep_28 : decode cX0_keep 28 = .ok (.iload_n 3, 1) := by decide +kernel
theorem dX0_keep_29 : decode cX0_keep 29 = .ok (.invokestatic 134, 3) := by decide +kernel
theorem dX0_keep_32 : decode cX0_keep 32 = .ok (.aload_n 0, 1) := by decide +kernel
theorem dX0_keep_33 : decode cX0_keep 33 = .ok (.getfield 16, 3) := by decide +kernel
theorem dX0_keep_36 : decode cX0_keep 36 = .ok (.getfield 140, 3) := by decide +kernel
theorem dX0_keep_39 : decode cX0_keep 39 = .ok (.aload_n 0, 1) := by decide +kernel
theorem dX0_keep_40 : decode cX0_keep 40 = .ok (.getfield 16, 3) := by decide +kernel
theorem dX0_keep_43 : decode cX0_keep 43 = .ok (.getfield 131, 3) := by decide +kernel
theorem dX0_keep_46 : decode cX0_keep 46 = .ok (.iload_n 2, 1) := by decide +kernel
theorem dX0_keep_47 : decode cX0_keep 47 = .ok (.iastore, 1) := by decide +kernel
theorem dX0_keep_48 : decode cX0_keep 48 = .ok (.aload_n 0, 1) := by decide +kernel
theorem dX0_keep_49 : decode cX0_keep 49 = .ok (.aload_n 0, 1) := by decide +kernel
theorem dX0_keep_50 : decode cX0_keep 50 = .ok (.getfield 16, 3) := by decide +kernel
theorem dX0_keep_53 : decode cX0_keep 53 = .ok (.getfield 131, 3) := by decide +kernel
theorem dX0_keep_56 : decode cX0_keep 56 = .ok (.putfield 62, 3) := by decide +kernel
theorem dX0_keep_59 : decode cX0_keep 59 = .ok (.aload_n 0, 1) := by decide +kernel
theorem dX0_keep_60 : decode cX0_keep 60 = .ok (.getfield 16, 3) := by decide +kernel
theorem dX0_keep_63 : decode cX0_keep 63 = .ok (.dup, 1) := by decide +kernel
theorem dX0_keep_64 : decode cX0_keep 64 = .ok (.getfield 131, 3) := by decide +kernel
theorem dX0_keep_67 : decode cX0_keep 67 = .ok (.iconst 1, 1) := by decide +kernel
theorem dX0_keep_68 : decode cX0_keep 68 = .ok (.iadd, 1) := by decide +kernel
theorem dX0_keep_69 : decode cX0_keep 69 = .ok (.putfield 131, 3) := by decide +kernel
theorem dX0_keep_72 : decode cX0_keep 72 = .ok (.aload_n 1, 1) := by decide +kernel
theorem dX0_keep_73 : decode cX0_keep 73 = .ok (.getfield 99, 3) := by decide +kernel
theorem dX0_keep_76 : decode cX0_keep 76 = .ok (.iconst 1, 1) := by decide +kernel
theorem dX0_keep_77 : decode cX0_keep 77 = .ok (.if_icmp .eq 4, 3) := by decide +kernel
theorem dX0_keep_80 : decode cX0_keep 80 = .ok (.return_, 1) := by decide +kernel
theorem dX0_keep_81 : decode cX0_keep 81 = .ok (.aload_n 0, 1) := by decide +kernel
theorem dX0_keep_82 : decode cX0_keep 82 = .ok (.getfield 16, 3) := by decide +kernel
theorem dX0_keep_85 : decode cX0_keep 85 = .ok (.aload_n 1, 1) := by decide +kernel
theorem dX0_keep_86 : decode cX0_keep 86 = .ok (.getfield 143, 3) := by decide +kernel
theorem dX0_keep_89 : decode cX0_keep 89 = .ok (.invokevirtual 147, 3) := by decide +kernel
theorem dX0_keep_92 : decode cX0_keep 92 = .ok (.istore 4, 2) := by decide +kernel
theorem dX0_keep_94 : decode cX0_keep 94 = .ok (.iload 4, 2) := by decide +kernel
theorem dX0_keep_96 : decode cX0_keep 96 = .ok (.iconst (-1), 1) := by decide +kernel
theorem dX0_keep_97 : decode cX0_keep 97 = .ok (.if_icmp .ne 39, 3) := by decide +kernel
theorem dX0_keep_100 : decode cX0_keep 100 = .ok (.aload_n 0, 1) := by decide +kernel
theorem dX0_keep_101 : decode cX0_keep 101 = .ok (.getfield 16, 3) := by decide +kernel
theorem dX0_keep_104 : decode cX0_keep 104 = .ok (.getfield 151, 3) := by decide +kernel
theorem dX0_keep_107 : decode cX0_keep 107 = .ok (.istore 4, 2) := by decide +kernel
theorem dX0_keep_109 : decode cX0_keep 109 = .ok (.aload_n 0, 1) := by decide +kernel
theorem dX0_keep_110 : decode cX0_keep 110 = .ok (.getfield 16, 3) := by decide +kernel
theorem dX0_keep_113 : decode cX0_keep 113 = .ok (.getfield 154, 3) := by decide +kernel
theorem dX0_keep_116 : decode cX0_keep 116 = .ok (.iload 4, 2) := by decide +kernel
theorem dX0_keep_118 : decode cX0_keep 118 = .ok (.aload_n 1, 1) := by decide +kernel
theorem dX0_keep_119 : decode cX0_keep 119 = .ok (.getfield 143, 3) := by decide +kernel
theorem dX0_keep_122 : decode cX0_keep 122 = .ok (.lastore, 1) := by decide +kernel
theorem dX0_keep_123 : decode cX0_keep 123 = .ok (.aload_n 0, 1) := by decide +kernel
theorem dX0_keep_124 : decode cX0_keep 124 = .ok (.getfield 16, 3) := by decide +kernel
theorem dX0_keep_127 : decode cX0_keep 127 = .ok (.dup, 1) := by decide +kernel
theorem dX0_keep_128 : decode cX0_keep 128 = .ok (.getfield 151, 3) := by decide +kernel
theorem dX0_keep_131 : decode cX0_keep 131 = .ok (.iconst 1, 1) := by decide +kernel
theorem dX0_keep_132 : decode cX0_keep 132 = .ok (.iadd, 1) := by decide +kernel
theorem dX0_keep_133 : decode cX0_keep 133 = .ok (.putfield 151, 3) := by decide +kernel
theorem dX0_keep_136 : decode cX0_keep 136 = .ok (.aload_n 0, 1) := by decide +kernel
theorem dX0_keep_137 : decode cX0_keep 137 = .ok (.getfield 51, 3) := by decide +kernel
theorem dX0_keep_140 : decode cX0_keep 140 = .ok (.getfield 128, 3) := by decide +kernel
theorem dX0_keep_143 : decode cX0_keep 143 = .ok (.iconst 0, 1) := by decide +kernel
theorem dX0_keep_144 : decode cX0_keep 144 = .ok (.aload_n 0, 1) := by decide +kernel
theorem dX0_keep_145 : decode cX0_keep 145 = .ok (.getfield 43, 3) := by decide +kernel
theorem dX0_keep_148 : decode cX0_keep 148 = .ok (.sipush 882, 3) := by decide +kernel
theorem dX0_keep_151 : decode cX0_keep 151 = .ok (.iload 4, 2) := by decide +kernel
theorem dX0_keep_153 : decode cX0_keep 153 = .ok (.imul, 1) := by decide +kernel
theorem dX0_keep_154 : decode cX0_keep 154 = .ok (.iload_n 3, 1) := by decide +kernel
theorem dX0_keep_155 : decode cX0_keep 155 = .ok (.invokestatic 134, 3) := by decide +kernel
theorem dX0_keep_158 : decode cX0_keep 158 = .ok (.aload_n 0, 1) := by decide +kernel
theorem dX0_keep_159 : decode cX0_keep 159 = .ok (.getfield 16, 3) := by decide +kernel
theorem dX0_keep_162 : decode cX0_keep 162 = .ok (.getfield 157, 3) := by decide +kernel
theorem dX0_keep_165 : decode cX0_keep 165 = .ok (.iload 4, 2) := by decide +kernel
theorem dX0_keep_167 : decode cX0_keep 167 = .ok (.iload_n 2, 1) := by decide +kernel
theorem dX0_keep_168 : decode cX0_keep 168 = .ok (.iastore, 1) := by decide +kernel
theorem dX0_keep_169 : decode cX0_keep 169 = .ok (.return_, 1) := by decide +kernel
/-! AlgebraHouse.keep(LAlgebraHouse$Text;I)V -/
def P_X0_keep_136 (Q : Int → MM → Prop) (x2 : Int) (x3 : Int) (x4 : Int) (m : MM) : Prop := (0 ≤ x3) ∧ (inR 379 0 0 x3) ∧ (inR 375 0 (882 * x4) x3) ∧ ∀ m1 : MM, m1 = cpm m 379 0 375 (882 * x4) x3 → (0 ≤ x4 ∧ x4 < 20) ∧ ∀ m2 : MM, m2 = up m1 6 x4 x2 → Q 0 m2
def P_X0_keep (x1 : Int) (x2 : Int) (m : MM) (Q : Int → MM → Prop) : Prop := P_X11_cells x2 m (fun r1 m1 => (0 ≤ r1) ∧ (inR 379 0 0 r1) ∧ (inR 374 0 (882 * (m1 3 3)) r1) ∧ ∀ m2 : MM, m2 = cpm m1 379 0 374 (882 * (m1 3 3)) r1 → (0 ≤ (m2 3 3) ∧ (m2 3 3) < 200) ∧ ∀ m3 : MM, m3 = up m2 7 (m2 3 3) x2 → ∀ m4 : MM, m4 = up m3 1 14 (m3 3 3) → ∀ m5 : MM, m5 = up m4 3 3 ((m4 3 3) + 1) → (isTx x1) ∧ (RI (m5 x1 1)) ∧ (if (m5 x1 1) = 1 then P_X1_variable (m5 x1 16) m5 (fun r2 m6 => (RI r2) ∧ (if r2 = (-1) then (0 ≤ (m6 3 2) ∧ (m6 3 2) < 20) ∧ ∀ m7 : MM, m7 = up m6 5 (m6 3 2) (m6 x1 16) → ∀ m8 : MM, m8 = up m7 3 2 ((m7 3 2) + 1) → P_X0_keep_136 Q x2 r1 (m6 3 2) m8 else P_X0_keep_136 Q x2 r1 r2 m6)) else Q 0 m5))
theorem pl_X0_keep_136 {f : Nat} {Q : Int → MM → Prop} {T : MM → Prop} (hf : 4 ≤ f) : ∀ (x2 : Int) (x3 : Int) (x4 : Int) (m : MM), P_X0_keep_136 Q x2 x3 x4 m → B f M_X0_keep 136 [vR 1, vU, vI x2, vI x3, vI x4] [] m Q T := by
  intro x2 x3 x4 m h
  have h : (0 ≤ x3) ∧ (inR 379 0 0 x3) ∧ (inR 375 0 (882 * x4) x3) ∧ ∀ m1 : MM, m1 = cpm m 379 0 375 (882 * x4) x3 → (0 ≤ x4 ∧ x4 < 20) ∧ ∀ m2 : MM, m2 = up m1 6 x4 x2 → Q 0 m2 := h
  refine b_aload_n dX0_keep_136 rfl ?_
  refine b_getR dX0_keep_137 fk_X0_51 ly_1 gg_1_7 ?_
  refine b_getR dX0_keep_140 fk_X0_128 ly_376 gg_376_4 ?_
  refine b_iconst dX0_keep_143 ?_
  refine b_aload_n dX0_keep_144 rfl ?_
  refine b_getR dX0_keep_145 fk_X0_43 ly_1 gg_1_6 ?_
  refine b_sipush dX0_keep_148 (by decide) ?_
  refine b_iload dX0_keep_151 rfl ?_
  refine b_imul dX0_keep_153 ?_
  refine b_iload_n dX0_keep_154 rfl ?_
  obtain ⟨g1, h⟩ := h
  obtain ⟨g2, h⟩ := h
  obtain ⟨g3, h⟩ := h
  refine b_copyi dX0_keep_155 lk_X0_134 g1 g2 g3 (by omega) (Nat.le_of_ble_eq_true rfl) rfl (fun m1 em1 => ?_)
  have h := h m1 em1
  refine b_aload_n dX0_keep_158 rfl ?_
  refine b_getR dX0_keep_159 fk_X0_16 ly_1 gg_1_2 ?_
  refine b_getR dX0_keep_162 fk_X0_157 ly_3 gg_3_5 ?_
  refine b_iload dX0_keep_165 rfl ?_
  refine b_iload_n dX0_keep_167 rfl ?_
  obtain ⟨g4, h⟩ := h
  refine b_iast dX0_keep_168 ly_6 g4 (fun m2 em2 => ?_)
  have h := h m2 em2
  exact b_vret dX0_keep_169 rfl h
theorem p_X0_keep {f : Nat} {Q : Int → MM → Prop} {T : MM → Prop} (hf : 4 ≤ f) (x1 : Int) (x2 : Int) (m : MM) (h : P_X0_keep x1 x2 m Q) : CC f M_X0_keep [vR 1, vR x1, vI x2] m Q T := by
  refine CC.of (plainFor_of_name (by decide)) (Nat.le_of_ble_eq_true rfl) (ls := [vR 1, vR x1, vI x2, vU, vU]) rfl ?_
  have h : P_X11_cells x2 m (fun r1 m1 => (0 ≤ r1) ∧ (inR 379 0 0 r1) ∧ (inR 374 0 (882 * (m1 3 3)) r1) ∧ ∀ m2 : MM, m2 = cpm m1 379 0 374 (882 * (m1 3 3)) r1 → (0 ≤ (m2 3 3) ∧ (m2 3 3) < 200) ∧ ∀ m3 : MM, m3 = up m2 7 (m2 3 3) x2 → ∀ m4 : MM, m4 = up m3 1 14 (m3 3 3) → ∀ m5 : MM, m5 = up m4 3 3 ((m4 3 3) + 1) → (isTx x1) ∧ (RI (m5 x1 1)) ∧ (if (m5 x1 1) = 1 then P_X1_variable (m5 x1 16) m5 (fun r2 m6 => (RI r2) ∧ (if r2 = (-1) then (0 ≤ (m6 3 2) ∧ (m6 3 2) < 20) ∧ ∀ m7 : MM, m7 = up m6 5 (m6 3 2) (m6 x1 16) → ∀ m8 : MM, m8 = up m7 3 2 ((m7 3 2) + 1) → P_X0_keep_136 Q x2 r1 (m6 3 2) m8 else P_X0_keep_136 Q x2 r1 r2 m6)) else Q 0 m5)) := h
  refine b_iload_n dX0_keep_0 rfl ?_
  refine b_cSi (as := [vI x2]) (st := []) dX0_keep_1 mf_X11_cells lk_X0_122 (p_X11_cells (f := 3) (Nat.le_refl _) _ _ h) (by omega) rfl rfl (Nat.le_of_ble_eq_true rfl) (by decide) rfl (fun _ => rfl) (fun r1 m1 h => ?_) (fun _ h => h)
  refine b_istore_n (ls' := [vR 1, vR x1, vI x2, vI r1, vU]) dX0_keep_4 (Nat.le_of_ble_eq_true rfl) rfl ?_
  refine b_aload_n dX0_keep_5 rfl ?_
  refine b_getR dX0_keep_6 fk_X0_51 ly_1 gg_1_7 ?_
  refine b_getR dX0_keep_9 fk_X0_128 ly_376 gg_376_4 ?_
  refine b_iconst dX0_keep_12 ?_
  refine b_aload_n dX0_keep_13 rfl ?_
  refine b_getR dX0_keep_14 fk_X0_39 ly_1 gg_1_5 ?_
  refine b_sipush dX0_keep_17 (by decide) ?_
  refine b_aload_n dX0_keep_20 rfl ?_
  refine b_getR dX0_keep_21 fk_X0_16 ly_1 gg_1_2 ?_
  refine b_getI dX0_keep_24 fk_X0_131 ly_3 ?_
  refine b_imul dX0_keep_27 ?_
  refine b_iload_n dX0_keep_28 rfl ?_
  obtain ⟨g1, h⟩ := h
  obtain ⟨g2, h⟩ := h
  obtain ⟨g3, h⟩ := h
  refine b_copyi dX0_keep_29 lk_X0_134 g1 g2 g3 (by omega) (Nat.le_of_ble_eq_true rfl) rfl (fun m2 em2 => ?_)
  have h := h m2 em2
  refine b_aload_n dX0_keep_32 rfl ?_
  refine b_getR dX0_keep_33 fk_X0_16 ly_1 gg_1_2 ?_
  refine b_getR dX0_keep_36 fk_X0_140 ly_3 gg_3_6 ?_
  refine b_aload_n dX0_keep_39 rfl ?_
  refine b_getR dX0_keep_40 fk_X0_16 ly_1 gg_1_2 ?_
  refine b_getI dX0_keep_43 fk_X0_131 ly_3 ?_
  refine b_iload_n dX0_keep_46 rfl ?_
  obtain ⟨g4, h⟩ := h
  refine b_iast dX0_keep_47 ly_7 g4 (fun m3 em3 => ?_)
  have h := h m3 em3
  refine b_aload_n dX0_keep_48 rfl ?_
  refine b_aload_n dX0_keep_49 rfl ?_
  refine b_getR dX0_keep_50 fk_X0_16 ly_1 gg_1_2 ?_
  refine b_getI dX0_keep_53 fk_X0_131 ly_3 ?_
  refine b_putI dX0_keep_56 fk_X0_62 ly_1 (fun m4 em4 => ?_)
  have h := h m4 em4
  refine b_aload_n dX0_keep_59 rfl ?_
  refine b_getR dX0_keep_60 fk_X0_16 ly_1 gg_1_2 ?_
  refine b_dup dX0_keep_63 rfl ?_
  refine b_getI dX0_keep_64 fk_X0_131 ly_3 ?_
  refine b_iconst dX0_keep_67 ?_
  refine b_iadd dX0_keep_68 ?_
  refine b_putI dX0_keep_69 fk_X0_131 ly_3 (fun m5 em5 => ?_)
  have h := h m5 em5
  refine b_aload_n dX0_keep_72 rfl ?_
  obtain ⟨g5, h⟩ := h
  refine b_getI dX0_keep_73 fk_X0_99 (tx_ly0 g5) ?_
  refine b_iconst dX0_keep_76 ?_
  obtain ⟨g6, h⟩ := h
  refine b_icmp_eq 81 dX0_keep_77 g6 (by decide) (by decide) (fun c1 => ?_) (fun c1 => ?_)
  · have h := ifT c1 h
    refine b_aload_n dX0_keep_81 rfl ?_
    refine b_getR dX0_keep_82 fk_X0_16 ly_1 gg_1_2 ?_
    refine b_aload_n dX0_keep_85 rfl ?_
    refine b_getL dX0_keep_86 fk_X0_143 (tx_ly0 g5) ?_
    refine b_cVi (as := [vL (m5 x1 16)]) (st := []) dX0_keep_89 mf_X1_variable q1112 lk_X0_147 ly_3 rfl (p_X1_variable (f := 1) (Nat.le_refl _) _ _ h) (by omega) rfl rfl (Nat.le_of_ble_eq_true rfl) (by decide) rfl (fun _ => rfl) (fun r2 m6 h => ?_) (fun _ h => h)
    refine b_istore (ls' := [vR 1, vR x1, vI x2, vI r1, vI r2]) dX0_keep_92 (Nat.le_of_ble_eq_true rfl) rfl ?_
    refine b_iload dX0_keep_94 rfl ?_
    refine b_iconst dX0_keep_96 ?_
    obtain ⟨g7, h⟩ := h
    refine b_icmp_ne 136 dX0_keep_97 g7 (by decide) (by decide) (fun c2 => ?_) (fun c2 => ?_)
    · have h := ifF c2 h
      refine b_fgt [true, false, true, true, true] (ls' := [vR 1, vU, vI x2, vI r1, vI r2]) rfl rfl ?_
      exact pl_X0_keep_136 hf _ _ _ _ h
    · have h := ifT (Decidable.of_not_not c2) h
      refine b_aload_n dX0_keep_100 rfl ?_
      refine b_getR dX0_keep_101 fk_X0_16 ly_1 gg_1_2 ?_
      refine b_getI dX0_keep_104 fk_X0_151 ly_3 ?_
      refine b_istore (ls' := [vR 1, vR x1, vI x2, vI r1, vI (m6 3 2)]) dX0_keep_107 (Nat.le_of_ble_eq_true rfl) rfl ?_
      refine b_aload_n dX0_keep_109 rfl ?_
      refine b_getR dX0_keep_110 fk_X0_16 ly_1 gg_1_2 ?_
      refine b_getR dX0_keep_113 fk_X0_154 ly_3 gg_3_4 ?_
      refine b_iload dX0_keep_116 rfl ?_
      refine b_aload_n dX0_keep_118 rfl ?_
      refine b_getL dX0_keep_119 fk_X0_143 (tx_ly0 g5) ?_
      obtain ⟨g8, h⟩ := h
      refine b_last dX0_keep_122 ly_5 g8 (fun m7 em7 => ?_)
      have h := h m7 em7
      refine b_aload_n dX0_keep_123 rfl ?_
      refine b_getR dX0_keep_124 fk_X0_16 ly_1 gg_1_2 ?_
      refine b_dup dX0_keep_127 rfl ?_
      refine b_getI dX0_keep_128 fk_X0_151 ly_3 ?_
      refine b_iconst dX0_keep_131 ?_
      refine b_iadd dX0_keep_132 ?_
      refine b_putI dX0_keep_133 fk_X0_151 ly_3 (fun m8 em8 => ?_)
      have h := h m8 em8
      refine b_fgt [true, false, true, true, true] (ls' := [vR 1, vU, vI x2, vI r1, vI (m6 3 2)]) rfl rfl ?_
      exact pl_X0_keep_136 hf _ _ _ _ h
  · have h := ifF c1 h
    exact b_vret dX0_keep_80 rfl h
theorem dX0_meant_0 : decode cX0_meant 0 = .ok (.iload 6, 2) := by decide +kernel
theorem dX0_meant_2 : decode cX0_meant 2 = .ok (.ifCond .lt 9, 3) := by decide +kernel
theorem dX0_meant_5 : decode cX0_meant 5 = .ok (.iload 6, 2) := by decide +kernel
theorem dX0_meant_7 : decode cX0_meant 7 = .ok (.iconst 3, 1) := by decide +kernel
theorem dX0_meant_8 : decode cX0_meant 8 = .ok (.if_icmp .le 5, 3) := by decide +kernel
theorem dX0_meant_11 : decode cX0_meant 11 = .ok (.iconst (-1), 1) := by decide +kernel
theorem dX0_meant_12 : decode cX0_meant 12 = .ok (.ireturn, 1) := by decide +kernel
theorem dX0_meant_13 : decode cX0_meant 13 = .ok (.iload_n 3, 1) := by decide +kernel
theorem dX0_meant_14 : decode cX0_meant 14 = .ok (.iconst (-1), 1) := by decide +kernel
theorem dX0_meant_15 : decode cX0_meant 15 = .ok (.if_icmp .ne 7, 3) := by decide +kernel
theorem dX0_meant_18 : decode cX0_meant 18 = .ok (.iconst 0, 1) := by decide +kernel
theorem dX0_meant_19 : decode cX0_meant 19 = .ok (.goto 24, 3) := by decide +kernel
theorem dX0_meant_22 : decode cX0_meant 22 = .ok (.iload 4, 2) := by decide +kernel
theorem dX0_meant_24 : decode cX0_meant 24 = .ok (.iconst (-1), 1) := by decide +kernel
theorem dX0_meant_25 : decode cX0_meant 25 = .ok (.if_icmp .ne 7, 3) := by decide +kernel
theorem dX0_meant_28 : decode cX0_meant 28 = .ok (.iconst 1, 1) := by decide +kernel
theorem dX0_meant_29 : decode cX0_meant 29 = .ok (.goto 14, 3) := by decide +kernel
theorem dX0_meant_32 : decode cX0_meant 32 = .ok (.iload 5, 2) := by decide +kernel
theorem dX0_meant_34 : decode cX0_meant 34 = .ok (.iconst (-1), 1) := by decide +kernel
theorem dX0_meant_35 : decode cX0_meant 35 = .ok (.if_icmp .ne 7, 3) := by decide +kernel
theorem dX0_meant_38 : decode cX0_meant 38 = .ok (.iconst 2, 1) := by decide +kernel
theorem dX0_meant_39 : decode cX0_meant 39 = .ok (.goto 4, 3) := by decide +kernel
theorem dX0_meant_42 : decode cX0_meant 42 = .ok (.iconst 3, 1) := by decide +kernel
theorem dX0_meant_43 : decode cX0_meant 43 = .ok (.istore 7, 2) := by decide +kernel
theorem dX0_meant_45 : decode cX0_meant 45 = .ok (.iconst 0, 1) := by decide +kernel
theorem dX0_meant_46 : decode cX0_meant 46 = .ok (.istore 8, 2) := by decide +kernel
theorem dX0_meant_48 : decode cX0_meant 48 = .ok (.iload 8, 2) := by decide +kernel
theorem dX0_meant_50 : decode cX0_meant 50 = .ok (.iload 7, 2) := by decide +kernel
theorem dX0_meant_52 : decode cX0_meant 52 = .ok (.if_icmp .ge 69, 3) := by decide +kernel
theorem dX0_meant_55 : decode cX0_meant 55 = .ok (.iload 8, 2) := by decide +kernel
theorem dX0_meant_57 : decode cX0_meant 57 = .ok (.ifCond .ne 7, 3) := by decide +kernel
theorem dX0_meant_60 : decode cX0_meant 60 = .ok (.iload_n 3, 1) := by decide +kernel
theorem dX0_meant_61 : decode cX0_meant 61 = .ok (.goto 16, 3) := by decide +kernel
theorem dX0_meant_64 : decode cX0_meant 64 = .ok (.iload 8, 2) := by decide +kernel
theorem dX0_meant_66 : decode cX0_meant 66 = .ok (.iconst 1, 1) := by decide +kernel
theorem dX0_meant_67 : decode cX0_meant 67 = .ok (.if_icmp .ne 8, 3) := by decide +kernel
theorem dX0_meant_70 : decode cX0_meant 70 = .ok (.iload 4, 2) := by decide +kernel
theorem dX0_meant_72 : decode cX0_meant 72 = .ok (.goto 5, 3) := by decide +kernel
theorem dX0_meant_75 : decode cX0_meant 75 = .ok (.iload 5, 2) := by decide +kernel
theorem dX0_meant_77 : decode cX0_meant 77 = .ok (.istore 9, 2) := by decide +kernel
theorem dX0_meant_79 : decode cX0_meant 79 = .ok (.iload 9, 2) := by decide +kernel
theorem dX0_meant_81 : decode cX0_meant 81 = .ok (.ifCond .lt 15, 3) := by decide +kernel
theorem dX0_meant_84 : decode cX0_meant 84 = .ok (.iload 9, 2) := by decide +kernel
theorem dX0_meant_86 : decode cX0_meant 86 = .ok (.aload_n 0, 1) := by decide +kernel
theorem dX0_meant_87 : decode cX0_meant 87 = .ok (.getfield 16, 3) := by decide +kernel
theorem dX0_meant_90 : decode cX0_meant 90 = .ok (.getfield 131, 3) := by decide +kernel
theorem dX0_meant_93 : decode cX0_meant 93 = .ok (.if_icmp .lt 5, 3) := by decide +kernel
theorem dX0_meant_96 : decode cX0_meant 96 = .ok (.iconst (-1), 1) := by decide +kernel
theorem dX0_meant_97 : decode cX0_meant 97 = .ok (.ireturn, 1) := by decide +kernel
theorem dX0_meant_98 : decode cX0_meant 98 = .ok (.aload_n 0, 1) := by decide +kernel
theorem dX0_meant_99 : decode cX0_meant 99 = .ok (.getfield 55, 3) := by decide +kernel
theorem dX0_meant_102 : decode cX0_meant 102 = .ok (.iload 8, 2) := by decide +kernel
theorem dX0_meant_104 : decode cX0_meant 104 = .ok (.aload_n 0, 1) := by decide +kernel
theorem dX0_meant_105 : decode cX0_meant 105 = .ok (.getfield 16, 3) := by decide +kernel
theorem dX0_meant_108 : decode cX0_meant 108 = .ok (.getfield 140, 3) := by decide +kernel
theorem dX0_meant_111 : decode cX0_meant 111 = .ok (.iload 9, 2) := by decide +kernel
theorem dX0_meant_113 : decode cX0_meant 113 = .ok (.iaload, 1) := by decide +kernel
theorem dX0_meant_114 : decode cX0_meant 114 = .ok (.iastore, 1) := by decide +kernel
theorem dX0_meant_115 : decode cX0_meant 115 = .ok (.iinc 8 1, 3) := by decide +kernel
theorem dX0_meant_118 : decode cX0_meant 118 = .ok (.goto (-70), 3) := by decide +kernel
theorem dX0_meant_121 : decode cX0_meant 121 = .ok (.lconst 0, 1) := by decide +kernel
theorem dX0_meant_122 : decode cX0_meant 122 = .ok (.lstore 8, 2) := by decide +kernel
theorem dX0_meant_124 : decode cX0_meant 124 = .ok (.bipush 56, 2) := by decide +kernel
theorem dX0_meant_126 : decode cX0_meant 126 = .ok (.istore 10, 2) := by decide +kernel
theorem dX0_meant_128 : decode cX0_meant 128 = .ok (.iload 10, 2) := by decide +kernel
theorem dX0_meant_130 : decode cX0_meant 130 = .ok (.ifCond .lt 38, 3) := by decide +kernel
theorem dX0_meant_133 : decode cX0_meant 133 = .ok (.lload_n 1, 1) := by decide +kernel
theorem dX0_meant_134 : decode cX0_meant 134 = .ok (.iload 10, 2) := by decide +kernel
theorem dX0_meant_136 : decode cX0_meant 136 = .ok (.lshr, 1) := by decide +kernel
theorem dX0_meant_137 : decode cX0_meant 137 = .ok (.ldc2_w 205, 3) := by decide +kernel
theorem dX0_meant_140 : decode cX0_meant 140 = .ok (.land, 1) := by decide +kernel
theorem dX0_meant_141 : decode cX0_meant 141 = .ok (.lconst 0, 1) := by decide +kernel
theorem dX0_meant_142 : decode cX0_meant 142 = .ok (.lcmp, 1) := by decide +kernel
theorem dX0_meant_143 : decode cX0_meant 143 = .ok (.ifCond .eq 19, 3) := by decide +kernel
theorem dX0_meant_146 : decode cX0_meant 146 = .ok (.lload 8, 2) := by decide +kernel
theorem dX0_meant_148 : decode cX0_meant 148 = .ok (.bipush 8, 2) := by decide +kernel
theorem dX0_meant_150 : decode cX0_meant 150 = .ok (.lshl, 1) := by decide +kernel
theorem dX0_meant_151 : decode cX0_meant 151 = .ok (.lload_n 1, 1) := by decide +kernel
theorem dX0_meant_152 : decode cX0_meant 152 = .ok (.iload 10, 2) := by decide +kernel
theorem dX0_meant_154 : decode cX0_meant 154 = .ok (.lshr, 1) := by decide +kernel
theorem dX0_meant_155 : decode cX0_meant 155 = .ok (.ldc2_w 205, 3) := by decide +kernel
theorem dX0_meant_158 : decode cX0_meant 158 = .ok (.land, 1) := by decide +kernel
theorem dX0_meant_159 : decode cX0_meant 159 = .ok (.lor, 1) := by decide +kernel
theorem dX0_meant_160 : decode cX0_meant 160 = .ok (.lstore 8, 2) := by decide +kernel
theorem dX0_meant_162 : decode cX0_meant 162 = .ok (.iinc 10 (-8), 3) := by decide +kernel
theorem dX0_meant_165 : decode cX0_meant 165 = .ok (.goto (-37), 3) := by decide +kernel
theorem dX0_meant_168 : decode cX0_meant 168 = .ok (.iload 7, 2) := by decide +kernel
theorem dX0_meant_170 : decode cX0_meant 170 = .ok (.ifCond .ne 7, 3) := by decide +kernel
theorem dX0_meant_173 : decode cX0_meant 173 = .ok (.iconst (-1), 1) := by decide +kernel
theorem dX0_meant_174 : decode cX0_meant 174 = .ok (.goto 25, 3) := by decide +kernel
theorem dX0_meant_177 : decode cX0_meant 177 = .ok (.aload_n 0, 1) := by decide +kernel
theorem dX0_meant_178 : decode cX0_meant 178 = .ok (.getfield 16, 3) := by decide +kernel
theorem dX0_meant_181 : decode cX0_meant 181 = .ok (.lload 8, 2) := by decide +kernel
theorem dX0_meant_183 : decode cX0_meant 183 = .ok (.aload_n 0, 1) := by decide +kernel
theorem dX0_meant_184 : decode cX0_meant 184 = .ok (.getfield 55, 3) := by decide +kernel
theorem dX0_meant_187 : decode cX0_meant 187 = .ok (.iload 7, 2) := by decide +kernel
theorem dX0_meant_189 : decode cX0_meant 189 = .ok (.aload_n 0, 1) := by decide +kernel
theorem dX0_meant_190 : decode cX0_meant 190 = .ok (.getfield 16, 3) := by decide +kernel
theorem dX0_meant_193 : decode cX0_meant 193 = .ok (.getfield 81, 3) := by decide +kernel
theorem dX0_meant_196 : decode cX0_meant 196 = .ok (.invokevirtual 207, 3) := by decide +kernel
theorem dX0_meant_199 : decode cX0_meant 199 = .ok (.istore 10, 2) := by decide +kernel
theorem dX0_meant_201 : decode cX0_meant 201 = .ok (.iload 10, 2) := by decide +kernel
theorem dX0_meant_203 : decode cX0_meant 203 = .ok (.iconst (-1), 1) := by decide +kernel
theorem dX0_meant_204 : decode cX0_meant 204 = .ok (.if_icmp .eq 8, 3) := by decide +kernel
theorem dX0_meant_207 : decode cX0_meant 207 = .ok (.iload 6, 2) := by decide +kernel
theorem dX0_meant_209 : decode cX0_meant 209 = .ok (.ifCond .ne 6, 3) := by decide +kernel
theorem dX0_meant_212 : decode cX0_meant 212 = .ok (.iload 10, 2) := by decide +kernel
theorem dX0_meant_214 : decode cX0_meant 214 = .ok (.ireturn, 1) := by decide +kernel
theorem dX0_meant_215 : decode cX0_meant 215 = .ok (.aload_n 0, 1) := by decide +kernel
theorem dX0_meant_216 : decode cX0_meant 216 = .ok (.getfield 16, 3) := by decide +kernel
theorem dX0_meant_219 : decode cX0_meant 219 = .ok (.getfield 211, 3) := by decide +kernel
theorem dX0_meant_222 : decode cX0_meant 222 = .ok (.iconst (-1), 1) := by decide +kernel
theorem dX0_meant_223 : decode cX0_meant 223 = .ok (.if_icmp .ne 7, 3) := by decide +kernel
theorem dX0_meant_226 : decode cX0_meant 226 = .ok (.iconst (-1), 1) := by decide +kernel
theorem dX0_meant_227 : decode cX0_meant 227 = .ok (.goto 17, 3) := by decide +kernel
theorem dX0_meant_230 : decode cX0_meant 230 = .ok (.aload_n 0, 1) := by decide +kernel
theorem dX0_meant_231 : decode cX0_meant 231 = .ok (.getfield 16, 3) := by decide +kernel
theorem dX0_meant_234 : decode cX0_meant 234 = .ok (.getfield 211, 3) := by decide +kernel
theorem dX0_meant_237 : decode cX0_meant 237 = .ok (.iload 6, 2) := by decide +kernel
theorem dX0_meant_239 : decode cX0_meant 239 = .ok (.iconst 1, 1) := by decide +kernel
theorem dX0_meant_240 : decode cX0_meant 240 = .ok (.isub, 1) := by decide +kernel
theorem dX0_meant_241 : decode cX0_meant 241 = .ok (.invokestatic 175, 3) := by decide +kernel
theorem dX0_meant_244 : decode cX0_meant 244 = .ok (.ireturn, 1) := by decide +kernel
/-! AlgebraHouse.meant(JIIII)I -/
def P_X0_meant_199 (Q : Int → MM → Prop) (x6 : Int) (s0 : Int) (m : MM) : Prop := (RI s0) ∧ (if s0 = (-1) then Q s0 m else (RI x6) ∧ (if x6 = 0 then Q s0 m else (RI (m 3 7)) ∧ (if (m 3 7) = (-1) then Q (-1) m else P_X0_shown (m 3 7) (x6 - 1) m (fun r1 m1 => Q r1 m1))))
def P_X0_meant_168 (Q : Int → MM → Prop) (x6 : Int) (x7 : Int) (x8 : Int) (m : MM) : Prop := (RI x7) ∧ (if x7 = 0 then P_X0_meant_199 Q x6 (-1) m else P_X1_meant x8 581 x7 (m 3 1) m (fun r1 m1 => P_X0_meant_199 Q x6 r1 m1))
def P_X0_meant_128 (Q : Int → MM → Prop) : Nat → Int → Int → Int → Int → Int → MM → Prop
  | 0, _, _, _, _, _, _ => False
  | n + 1, x1, x6, x7, x8, x10, m => (RI x10) ∧ (if x10 < 0 then P_X0_meant_168 Q x6 x7 x8 m else (RL (lAnd (lShr x1 x10) 255)) ∧ (if (lAnd (lShr x1 x10) 255) = 0 then P_X0_meant_128 Q n x1 x6 x7 x8 (x10 + (-8)) m else P_X0_meant_128 Q n x1 x6 x7 (lOr (lShl x8 8) (lAnd (lShr x1 x10) 255)) (x10 + (-8)) m))
def P_X0_meant_48 (Q : Int → MM → Prop) : Nat → Int → Int → Int → Int → Int → Int → Int → MM → Prop
  | 0, _, _, _, _, _, _, _, _ => False
  | n + 1, x1, x3, x4, x5, x6, x7, x8, m => (RI x8) ∧ (RI x7) ∧ (if x7 ≤ x8 then ∃ nn, P_X0_meant_128 Q nn x1 x6 x7 0 56 m else (RI (if x8 = 0 then x3 else (if x8 = 1 then x4 else x5 : Int) : Int)) ∧ (if (if x8 = 0 then x3 else (if x8 = 1 then x4 else x5 : Int) : Int) < 0 then Q (-1) m else (RI (m 3 3)) ∧ (if (if x8 = 0 then x3 else (if x8 = 1 then x4 else x5 : Int) : Int) < (m 3 3) then (0 ≤ (if x8 = 0 then x3 else (if x8 = 1 then x4 else x5 : Int) : Int) ∧ (if x8 = 0 then x3 else (if x8 = 1 then x4 else x5 : Int) : Int) < 200) ∧ (0 ≤ x8 ∧ x8 < 3) ∧ ∀ m1 : MM, m1 = up m 581 x8 (m 7 (if x8 = 0 then x3 else (if x8 = 1 then x4 else x5 : Int) : Int)) → P_X0_meant_48 Q n x1 x3 x4 x5 x6 x7 (x8 + 1) m1 else Q (-1) m)))
def P_X0_meant (x1 : Int) (x3 : Int) (x4 : Int) (x5 : Int) (x6 : Int) (m : MM) (Q : Int → MM → Prop) : Prop := (RI x6) ∧ (if x6 < 0 then Q (-1) m else (if x6 ≤ 3 then (RI x3) ∧ (if x3 = (-1) then ∃ nn, P_X0_meant_48 Q nn x1 x3 x4 x5 x6 0 0 m else (RI x4) ∧ (if x4 = (-1) then ∃ nn, P_X0_meant_48 Q nn x1 x3 x4 x5 x6 1 0 m else (RI x5) ∧ (if x5 = (-1) then ∃ nn, P_X0_meant_48 Q nn x1 x3 x4 x5 x6 2 0 m else ∃ nn, P_X0_meant_48 Q nn x1 x3 x4 x5 x6 3 0 m))) else Q (-1) m))
theorem pl_X0_meant_199 {f : Nat} {Q : Int → MM → Prop} {T : MM → Prop} (hf : 6 ≤ f) : ∀ (x6 : Int) (s0 : Int) (m : MM), P_X0_meant_199 Q x6 s0 m → B f M_X0_meant 199 [vR 1, vU, vU, vU, vU, vU, vI x6, vU, vU, vU, vU] [vI s0] m Q T := by
  intro x6 s0 m h
  have h : (RI s0) ∧ (if s0 = (-1) then Q s0 m else (RI x6) ∧ (if x6 = 0 then Q s0 m else (RI (m 3 7)) ∧ (if (m 3 7) = (-1) then Q (-1) m else P_X0_shown (m 3 7) (x6 - 1) m (fun r1 m1 => Q r1 m1)))) := h
  refine b_istore (ls' := [vR 1, vU, vU, vU, vU, vU, vI x6, vU, vU, vU, vI s0]) dX0_meant_199 (Nat.le_of_ble_eq_true rfl) rfl ?_
  refine b_iload dX0_meant_201 rfl ?_
  refine b_iconst dX0_meant_203 ?_
  obtain ⟨g1, h⟩ := h
  refine b_icmp_eq 212 dX0_meant_204 g1 (by decide) (by decide) (fun c1 => ?_) (fun c1 => ?_)
  · have h := ifT c1 h
    refine b_iload dX0_meant_212 rfl ?_
    exact b_iret dX0_meant_214 rfl h
  · have h := ifF c1 h
    refine b_iload dX0_meant_207 rfl ?_
    obtain ⟨g2, h⟩ := h
    refine b_if_ne 215 dX0_meant_209 g2 (by decide) (fun c2 => ?_) (fun c2 => ?_)
    · have h := ifF c2 h
      refine b_aload_n dX0_meant_215 rfl ?_
      refine b_getR dX0_meant_216 fk_X0_16 ly_1 gg_1_2 ?_
      refine b_getI dX0_meant_219 fk_X0_211 ly_3 ?_
      refine b_iconst dX0_meant_222 ?_
      obtain ⟨g3, h⟩ := h
      refine b_icmp_ne 230 dX0_meant_223 g3 (by decide) (by decide) (fun c3 => ?_) (fun c3 => ?_)
      · have h := ifF c3 h
        refine b_aload_n dX0_meant_230 rfl ?_
        refine b_getR dX0_meant_231 fk_X0_16 ly_1 gg_1_2 ?_
        refine b_getI dX0_meant_234 fk_X0_211 ly_3 ?_
        refine b_iload dX0_meant_237 rfl ?_
        refine b_iconst dX0_meant_239 ?_
        refine b_isub dX0_meant_240 ?_
        refine b_cSi (as := [vI (m 3 7), vI (x6 - 1)]) (st := []) dX0_meant_241 mf_X0_shown lk_X0_175 (p_X0_shown (f := 2) (Nat.le_refl _) _ _ _ h) (by omega) rfl rfl (Nat.le_of_ble_eq_true rfl) (by decide) rfl (fun _ => rfl) (fun r1 m1 h => ?_) (fun _ h => h)
        exact b_iret dX0_meant_244 rfl h
      · have h := ifT (Decidable.of_not_not c3) h
        refine b_iconst dX0_meant_226 ?_
        refine b_goto 244 dX0_meant_227 (by decide) ?_
        exact b_iret dX0_meant_244 rfl h
    · have h := ifT (Decidable.of_not_not c2) h
      refine b_iload dX0_meant_212 rfl ?_
      exact b_iret dX0_meant_214 rfl h
theorem pl_X0_meant_168 {f : Nat} {Q : Int → MM → Prop} {T : MM → Prop} (hf : 6 ≤ f) : ∀ (x6 : Int) (x7 : Int) (x8 : Int) (m : MM), P_X0_meant_168 Q x6 x7 x8 m → B f M_X0_meant 168 [vR 1, vU, vU, vU, vU, vU, vI x6, vI x7, vL x8, vU, vU] [] m Q T := by
  intro x6 x7 x8 m h
  have h : (RI x7) ∧ (if x7 = 0 then P_X0_meant_199 Q x6 (-1) m else P_X1_meant x8 581 x7 (m 3 1) m (fun r1 m1 => P_X0_meant_199 Q x6 r1 m1)) := h
  refine b_iload dX0_meant_168 rfl ?_
  obtain ⟨g1, h⟩ := h
  refine b_if_ne 177 dX0_meant_170 g1 (by decide) (fun c1 => ?_) (fun c1 => ?_)
  · have h := ifF c1 h
    refine b_aload_n dX0_meant_177 rfl ?_
    refine b_getR dX0_meant_178 fk_X0_16 ly_1 gg_1_2 ?_
    refine b_lload dX0_meant_181 rfl ?_
    refine b_aload_n dX0_meant_183 rfl ?_
    refine b_getR dX0_meant_184 fk_X0_55 ly_1 gg_1_8 ?_
    refine b_iload dX0_meant_187 rfl ?_
    refine b_aload_n dX0_meant_189 rfl ?_
    refine b_getR dX0_meant_190 fk_X0_16 ly_1 gg_1_2 ?_
    refine b_getI dX0_meant_193 fk_X0_81 ly_3 ?_
    refine b_cVi (as := [vL x8, vR 581, vI x7, vI (m 3 1)]) (st := []) dX0_meant_196 mf_X1_meant q1132 lk_X0_207 ly_3 rfl (p_X1_meant (f := 5) (Nat.le_refl _) _ _ _ _ _ h) (by omega) rfl rfl (Nat.le_of_ble_eq_true rfl) (by decide) rfl (fun _ => rfl) (fun r1 m1 h => ?_) (fun _ h => h)
    refine b_fgt [true, false, false, false, false, false, true, false, false, false, false] (ls' := [vR 1, vU, vU, vU, vU, vU, vI x6, vU, vU, vU, vU]) rfl rfl ?_
    exact pl_X0_meant_199 hf _ _ _ h
  · have h := ifT (Decidable.of_not_not c1) h
    refine b_iconst dX0_meant_173 ?_
    refine b_goto 199 dX0_meant_174 (by decide) ?_
    refine b_fgt [true, false, false, false, false, false, true, false, false, false, false] (ls' := [vR 1, vU, vU, vU, vU, vU, vI x6, vU, vU, vU, vU]) rfl rfl ?_
    exact pl_X0_meant_199 hf _ _ _ h
theorem pl_X0_meant_128 {f : Nat} {Q : Int → MM → Prop} {T : MM → Prop} (hf : 6 ≤ f) : ∀ (n : Nat) (x1 : Int) (x6 : Int) (x7 : Int) (x8 : Int) (x10 : Int) (m : MM), P_X0_meant_128 Q n x1 x6 x7 x8 x10 m → B f M_X0_meant 128 [vR 1, vL x1, vU, vU, vU, vU, vI x6, vI x7, vL x8, vU, vI x10] [] m Q T := by
  intro n
  induction n with
  | zero => intro x1 x6 x7 x8 x10 m h; exact h.elim
  | succ n ih =>
    intro x1 x6 x7 x8 x10 m h
    have h : (RI x10) ∧ (if x10 < 0 then P_X0_meant_168 Q x6 x7 x8 m else (RL (lAnd (lShr x1 x10) 255)) ∧ (if (lAnd (lShr x1 x10) 255) = 0 then P_X0_meant_128 Q n x1 x6 x7 x8 (x10 + (-8)) m else P_X0_meant_128 Q n x1 x6 x7 (lOr (lShl x8 8) (lAnd (lShr x1 x10) 255)) (x10 + (-8)) m)) := h
    refine b_iload dX0_meant_128 rfl ?_
    obtain ⟨g1, h⟩ := h
    refine b_if_lt 168 dX0_meant_130 g1 (by decide) (fun c1 => ?_) (fun c1 => ?_)
    · have h := ifT c1 h
      refine b_fgt [true, false, false, false, false, false, true, true, true, false, false] (ls' := [vR 1, vU, vU, vU, vU, vU, vI x6, vI x7, vL x8, vU, vU]) rfl rfl ?_
      exact pl_X0_meant_168 hf _ _ _ _ h
    · have h := ifF c1 h
      refine b_lload_n dX0_meant_133 rfl ?_
      refine b_iload dX0_meant_134 rfl ?_
      refine b_lshr dX0_meant_136 ?_
      refine b_ldc2 (255) dX0_meant_137 q1609 (by decide) ?_
      refine b_land dX0_meant_140 ?_
      refine b_lconst 0 dX0_meant_141 (by decide) ?_
      obtain ⟨g2, h⟩ := h
      refine b_lc_eq 162 dX0_meant_142 dX0_meant_143 g2 (by decide) (by decide) (fun c2 => ?_) (fun c2 => ?_)
      · have h := ifT c2 h
        refine b_iinc (ls' := [vR 1, vL x1, vU, vU, vU, vU, vI x6, vI x7, vL x8, vU, vI (x10 + (-8))]) dX0_meant_162 rfl rfl ?_
        refine b_goto 128 dX0_meant_165 (by decide) ?_
        exact ih _ _ _ _ _ _ h
      · have h := ifF c2 h
        refine b_lload dX0_meant_146 rfl ?_
        refine b_bipush dX0_meant_148 (by decide) ?_
        refine b_lshl dX0_meant_150 ?_
        refine b_lload_n dX0_meant_151 rfl ?_
        refine b_iload dX0_meant_152 rfl ?_
        refine b_lshr dX0_meant_154 ?_
        refine b_ldc2 (255) dX0_meant_155 q1609 (by decide) ?_
        refine b_land dX0_meant_158 ?_
        refine b_lor dX0_meant_159 ?_
        refine b_lstore (ls' := [vR 1, vL x1, vU, vU, vU, vU, vI x6, vI x7, vL (lOr (lShl x8 8) (lAnd (lShr x1 x10) 255)), vU, vI x10]) dX0_meant_160 (Nat.le_of_ble_eq_true rfl) rfl ?_
        refine b_iinc (ls' := [vR 1, vL x1, vU, vU, vU, vU, vI x6, vI x7, vL (lOr (lShl x8 8) (lAnd (lShr x1 x10) 255)), vU, vI (x10 + (-8))]) dX0_meant_162 rfl rfl ?_
        refine b_goto 128 dX0_meant_165 (by decide) ?_
        exact ih _ _ _ _ _ _ h
theorem pl_X0_meant_48 {f : Nat} {Q : Int → MM → Prop} {T : MM → Prop} (hf : 6 ≤ f) : ∀ (n : Nat) (x1 : Int) (x3 : Int) (x4 : Int) (x5 : Int) (x6 : Int) (x7 : Int) (x8 : Int) (m : MM), P_X0_meant_48 Q n x1 x3 x4 x5 x6 x7 x8 m → B f M_X0_meant 48 [vR 1, vL x1, vU, vI x3, vI x4, vI x5, vI x6, vI x7, vI x8, vU, vU] [] m Q T := by
  intro n
  induction n with
  | zero => intro x1 x3 x4 x5 x6 x7 x8 m h; exact h.elim
  | succ n ih =>
    intro x1 x3 x4 x5 x6 x7 x8 m h
    have h : (RI x8) ∧ (RI x7) ∧ (if x7 ≤ x8 then ∃ nn, P_X0_meant_128 Q nn x1 x6 x7 0 56 m else (RI (if x8 = 0 then x3 else (if x8 = 1 then x4 else x5 : Int) : Int)) ∧ (if (if x8 = 0 then x3 else (if x8 = 1 then x4 else x5 : Int) : Int) < 0 then Q (-1) m else (RI (m 3 3)) ∧ (if (if x8 = 0 then x3 else (if x8 = 1 then x4 else x5 : Int) : Int) < (m 3 3) then (0 ≤ (if x8 = 0 then x3 else (if x8 = 1 then x4 else x5 : Int) : Int) ∧ (if x8 = 0 then x3 else (if x8 = 1 then x4 else x5 : Int) : Int) < 200) ∧ (0 ≤ x8 ∧ x8 < 3) ∧ ∀ m1 : MM, m1 = up m 581 x8 (m 7 (if x8 = 0 then x3 else (if x8 = 1 then x4 else x5 : Int) : Int)) → P_X0_meant_48 Q n x1 x3 x4 x5 x6 x7 (x8 + 1) m1 else Q (-1) m))) := h
    refine b_iload dX0_meant_48 rfl ?_
    refine b_iload dX0_meant_50 rfl ?_
    obtain ⟨g1, h⟩ := h
    obtain ⟨g2, h⟩ := h
    refine b_icmp_ge 121 dX0_meant_52 g1 g2 (by decide) (fun c1 => ?_) (fun c1 => ?_)
    · have h := ifT c1 h
      refine b_lconst 0 dX0_meant_121 (by decide) ?_
      refine b_lstore (ls' := [vR 1, vL x1, vU, vI x3, vI x4, vI x5, vI x6, vI x7, vL 0, vU, vU]) dX0_meant_122 (Nat.le_of_ble_eq_true rfl) rfl ?_
      refine b_bipush dX0_meant_124 (by decide) ?_
      refine b_istore (ls' := [vR 1, vL x1, vU, vI x3, vI x4, vI x5, vI x6, vI x7, vL 0, vU, vI 56]) dX0_meant_126 (Nat.le_of_ble_eq_true rfl) rfl ?_
      refine b_fgt [true, true, false, false, false, false, true, true, true, false, true] (ls' := [vR 1, vL x1, vU, vU, vU, vU, vI x6, vI x7, vL 0, vU, vI 56]) rfl rfl ?_
      obtain ⟨nn, h⟩ := h
      exact pl_X0_meant_128 hf nn _ _ _ _ _ _ h
    · have h := ifF c1 h
      refine b_iload dX0_meant_55 rfl ?_
      have K : B f M_X0_meant 77 [vR 1, vL x1, vU, vI x3, vI x4, vI x5, vI x6, vI x7, vI x8, vU, vU] [vI (if x8 = 0 then x3 else (if x8 = 1 then x4 else x5 : Int) : Int)] m Q T := by
        refine b_istore (ls' := [vR 1, vL x1, vU, vI x3, vI x4, vI x5, vI x6, vI x7, vI x8, vI (if x8 = 0 then x3 else (if x8 = 1 then x4 else x5 : Int) : Int), vU]) dX0_meant_77 (Nat.le_of_ble_eq_true rfl) rfl ?_
        refine b_iload dX0_meant_79 rfl ?_
        obtain ⟨g3, h⟩ := h
        refine b_if_lt 96 dX0_meant_81 g3 (by decide) (fun c2 => ?_) (fun c2 => ?_)
        · have h := ifT c2 h
          refine b_iconst dX0_meant_96 ?_
          exact b_iret dX0_meant_97 rfl h
        · have h := ifF c2 h
          refine b_iload dX0_meant_84 rfl ?_
          refine b_aload_n dX0_meant_86 rfl ?_
          refine b_getR dX0_meant_87 fk_X0_16 ly_1 gg_1_2 ?_
          refine b_getI dX0_meant_90 fk_X0_131 ly_3 ?_
          obtain ⟨g4, h⟩ := h
          refine b_icmp_lt 98 dX0_meant_93 g3 g4 (by decide) (fun c3 => ?_) (fun c3 => ?_)
          · have h := ifT c3 h
            refine b_aload_n dX0_meant_98 rfl ?_
            refine b_getR dX0_meant_99 fk_X0_55 ly_1 gg_1_8 ?_
            refine b_iload dX0_meant_102 rfl ?_
            refine b_aload_n dX0_meant_104 rfl ?_
            refine b_getR dX0_meant_105 fk_X0_16 ly_1 gg_1_2 ?_
            refine b_getR dX0_meant_108 fk_X0_140 ly_3 gg_3_6 ?_
            refine b_iload dX0_meant_111 rfl ?_
            obtain ⟨g5, h⟩ := h
            refine b_iald dX0_meant_113 ly_7 g5 ?_
            obtain ⟨g6, h⟩ := h
            refine b_iast dX0_meant_114 ly_581 g6 (fun m1 em1 => ?_)
            have h := h m1 em1
            refine b_iinc (ls' := [vR 1, vL x1, vU, vI x3, vI x4, vI x5, vI x6, vI x7, vI (x8 + 1), vI (if x8 = 0 then x3 else (if x8 = 1 then x4 else x5 : Int) : Int), vU]) dX0_meant_115 rfl rfl ?_
            refine b_goto 48 dX0_meant_118 (by decide) ?_
            refine b_fgt [true, true, false, true, true, true, true, true, true, false, false] (ls' := [vR 1, vL x1, vU, vI x3, vI x4, vI x5, vI x6, vI x7, vI (x8 + 1), vU, vU]) rfl rfl ?_
            exact ih _ _ _ _ _ _ _ _ h
          · have h := ifF c3 h
            refine b_iconst dX0_meant_96 ?_
            exact b_iret dX0_meant_97 rfl h
      refine b_if_ne 64 dX0_meant_57 g1 (by decide) (fun c4 => ?_) (fun c4 => ?_)
      ·
        refine b_iload dX0_meant_64 rfl ?_
        refine b_iconst dX0_meant_66 ?_
        refine b_icmp_ne 75 dX0_meant_67 g1 (by decide) (by decide) (fun c5 => ?_) (fun c5 => ?_)
        ·
          refine b_iload dX0_meant_75 rfl ?_
          rw [if_neg c4, if_neg c5] at K
          exact K
        ·
          have c5 := Decidable.of_not_not c5
          refine b_iload dX0_meant_70 rfl ?_
          refine b_goto 77 dX0_meant_72 (by decide) ?_
          rw [if_neg c4, if_pos c5] at K
          exact K
      ·
        have c4 := Decidable.of_not_not c4
        refine b_iload_n dX0_meant_60 rfl ?_
        refine b_goto 77 dX0_meant_61 (by decide) ?_
        rw [if_pos c4] at K
        exact K
theorem p_X0_meant {f : Nat} {Q : Int → MM → Prop} {T : MM → Prop} (hf : 6 ≤ f) (x1 : Int) (x3 : Int) (x4 : Int) (x5 : Int) (x6 : Int) (m : MM) (h : P_X0_meant x1 x3 x4 x5 x6 m Q) : CC f M_X0_meant [vR 1, vL x1, vI x3, vI x4, vI x5, vI x6] m Q T := by
  refine CC.of (plainFor_of_name (by decide)) (Nat.le_of_ble_eq_true rfl) (ls := [vR 1, vL x1, vU, vI x3, vI x4, vI x5, vI x6, vU, vU, vU, vU]) rfl ?_
  have h : (RI x6) ∧ (if x6 < 0 then Q (-1) m else (if x6 ≤ 3 then (RI x3) ∧ (if x3 = (-1) then ∃ nn, P_X0_meant_48 Q nn x1 x3 x4 x5 x6 0 0 m else (RI x4) ∧ (if x4 = (-1) then ∃ nn, P_X0_meant_48 Q nn x1 x3 x4 x5 x6 1 0 m else (RI x5) ∧ (if x5 = (-1) then ∃ nn, P_X0_meant_48 Q nn x1 x3 x4 x5 x6 2 0 m else ∃ nn, P_X0_meant_48 Q nn x1 x3 x4 x5 x6 3 0 m))) else Q (-1) m)) := h
  refine b_iload dX0_meant_0 rfl ?_
  obtain ⟨g1, h⟩ := h
  refine b_if_lt 11 dX0_meant_2 g1 (by decide) (fun c1 => ?_) (fun c1 => ?_)
  · have h := ifT c1 h
    refine b_iconst dX0_meant_11 ?_
    exact b_iret dX0_meant_12 rfl h
  · have h := ifF c1 h
    refine b_iload dX0_meant_5 rfl ?_
    refine b_iconst dX0_meant_7 ?_
    refine b_icmp_le 13 dX0_meant_8 g1 (by decide) (by decide) (fun c2 => ?_) (fun c2 => ?_)
    · have h := ifT c2 h
      refine b_iload_n dX0_meant_13 rfl ?_
      refine b_iconst dX0_meant_14 ?_
      obtain ⟨g2, h⟩ := h
      refine b_icmp_ne 22 dX0_meant_15 g2 (by decide) (by decide) (fun c3 => ?_) (fun c3 => ?_)
      · have h := ifF c3 h
        refine b_iload dX0_meant_22 rfl ?_
        refine b_iconst dX0_meant_24 ?_
        obtain ⟨g3, h⟩ := h
        refine b_icmp_ne 32 dX0_meant_25 g3 (by decide) (by decide) (fun c4 => ?_) (fun c4 => ?_)
        · have h := ifF c4 h
          refine b_iload dX0_meant_32 rfl ?_
          refine b_iconst dX0_meant_34 ?_
          obtain ⟨g4, h⟩ := h
          refine b_icmp_ne 42 dX0_meant_35 g4 (by decide) (by decide) (fun c5 => ?_) (fun c5 => ?_)
          · have h := ifF c5 h
            refine b_iconst dX0_meant_42 ?_
            refine b_istore (ls' := [vR 1, vL x1, vU, vI x3, vI x4, vI x5, vI x6, vI 3, vU, vU, vU]) dX0_meant_43 (Nat.le_of_ble_eq_true rfl) rfl ?_
            refine b_iconst dX0_meant_45 ?_
            refine b_istore (ls' := [vR 1, vL x1, vU, vI x3, vI x4, vI x5, vI x6, vI 3, vI 0, vU, vU]) dX0_meant_46 (Nat.le_of_ble_eq_true rfl) rfl ?_
            obtain ⟨nn, h⟩ := h
            exact pl_X0_meant_48 hf nn _ _ _ _ _ _ _ _ h
          · have h := ifT (Decidable.of_not_not c5) h
            refine b_iconst dX0_meant_38 ?_
            refine b_goto 43 dX0_meant_39 (by decide) ?_
            refine b_istore (ls' := [vR 1, vL x1, vU, vI x3, vI x4, vI x5, vI x6, vI 2, vU, vU, vU]) dX0_meant_43 (Nat.le_of_ble_eq_true rfl) rfl ?_
            refine b_iconst dX0_meant_45 ?_
            refine b_istore (ls' := [vR 1, vL x1, vU, vI x3, vI x4, vI x5, vI x6, vI 2, vI 0, vU, vU]) dX0_meant_46 (Nat.le_of_ble_eq_true rfl) rfl ?_
            obtain ⟨nn, h⟩ := h
            exact pl_X0_meant_48 hf nn _ _ _ _ _ _ _ _ h
        · have h := ifT (Decidable.of_not_not c4) h
          refine b_iconst dX0_meant_28 ?_
          refine b_goto 43 dX0_meant_29 (by decide) ?_
          refine b_istore (ls' := [vR 1, vL x1, vU, vI x3, vI x4, vI x5, vI x6, vI 1, vU, vU, vU]) dX0_meant_43 (Nat.le_of_ble_eq_true rfl) rfl ?_
          refine b_iconst dX0_meant_45 ?_
          refine b_istore (ls' := [vR 1, vL x1, vU, vI x3, vI x4, vI x5, vI x6, vI 1, vI 0, vU, vU]) dX0_meant_46 (Nat.le_of_ble_eq_true rfl) rfl ?_
          obtain ⟨nn, h⟩ := h
          exact pl_X0_meant_48 hf nn _ _ _ _ _ _ _ _ h
      · have h := ifT (Decidable.of_not_not c3) h
        refine b_iconst dX0_meant_18 ?_
        refine b_goto 43 dX0_meant_19 (by decide) ?_
        refine b_istore (ls' := [vR 1, vL x1, vU, vI x3, vI x4, vI x5, vI x6, vI 0, vU, vU, vU]) dX0_meant_43 (Nat.le_of_ble_eq_true rfl) rfl ?_
        refine b_iconst dX0_meant_45 ?_
        refine b_istore (ls' := [vR 1, vL x1, vU, vI x3, vI x4, vI x5, vI x6, vI 0, vI 0, vU, vU]) dX0_meant_46 (Nat.le_of_ble_eq_true rfl) rfl ?_
        obtain ⟨nn, h⟩ := h
        exact pl_X0_meant_48 hf nn _ _ _ _ _ _ _ _ h
    · have h := ifF c2 h
      refine b_iconst dX0_meant_11 ?_
      exact b_iret dX0_meant_12 rfl h
theorem dX0_ring_0 : decode cX0_ring 0 = .ok (.aload_n 0, 1) := by decide +kernel
theorem dX0_ring_1 : decode cX0_ring 1 = .ok (.iload_n 1, 1) := by decide +kernel
theorem dX0_ring_2 : decode cX0_ring 2 = .ok (.invokevirtual 168, 3) := by decide +kernel
theorem dX0_ring_5 : decode cX0_ring 5 = .ok (.ifCond .eq 15, 3) := by decide +kernel
theorem dX0_ring_8 : decode cX0_ring 8 = .ok (.aload_n 0, 1) := by decide +kernel
theorem dX0_ring_9 : decode cX0_ring 9 = .ok (.iload_n 1, 1) := by decide +kernel
theorem dX0_ring_10 : decode cX0_ring 10 = .ok (.invokevirtual 172, 3) := by decide +kernel
theorem dX0_ring_13 : decode cX0_ring 13 = .ok (.iload_n 2, 1) := by decide +kernel
theorem dX0_ring_14 : decode cX0_ring 14 = .ok (.invokestatic 175, 3) := by decide +kernel
theorem dX0_ring_17 : decode cX0_ring 17 = .ok (.goto 4, 3) := by decide +kernel
theorem dX0_ring_20 : decode cX0_ring 20 = .ok (.iconst (-1), 1) := by decide +kernel
theorem dX0_ring_21 : decode cX0_ring 21 = .ok (.ireturn, 1) := by decide +kernel
/-! AlgebraHouse.ring(II)I -/
def P_X0_ring (x1 : Int) (x2 : Int) (m : MM) (Q : Int → MM → Prop) : Prop := P_X0_isThere x1 m (fun r1 m1 => (RI r1) ∧ (if r1 = 0 then Q (-1) m1 else P_X0_ringOf x1 m1 (fun r2 m2 => P_X0_shown r2 x2 m2 (fun r3 m3 => Q r3 m3))))
theorem p_X0_ring {f : Nat} {Q : Int → MM → Prop} {T : MM → Prop} (hf : 3 ≤ f) (x1 : Int) (x2 : Int) (m : MM) (h : P_X0_ring x1 x2 m Q) : CC f M_X0_ring [vR 1, vI x1, vI x2] m Q T := by
  refine CC.of (plainFor_of_name (by decide)) (Nat.le_of_ble_eq_true rfl) (ls := [vR 1, vI x1, vI x2]) rfl ?_
  have h : P_X0_isThere x1 m (fun r1 m1 => (RI r1) ∧ (if r1 = 0 then Q (-1) m1 else P_X0_ringOf x1 m1 (fun r2 m2 => P_X0_shown r2 x2 m2 (fun r3 m3 => Q r3 m3)))) := h
  refine b_aload_n dX0_ring_0 rfl ?_
  refine b_iload_n dX0_ring_1 rfl ?_
  refine b_cVi (as := [vI x1]) (st := []) dX0_ring_2 mf_X0_isThere qs91 lk_X0_168 ly_1 rfl (p_X0_isThere (f := 1) (Nat.le_refl _) _ _ h) (by omega) rfl rfl (Nat.le_of_ble_eq_true rfl) (by decide) rfl (fun _ => rfl) (fun r1 m1 h => ?_) (fun _ h => h)
  obtain ⟨g1, h⟩ := h
  refine b_if_eq 20 dX0_ring_5 g1 (by decide) (fun c1 => ?_) (fun c1 => ?_)
  · have h := ifT c1 h
    refine b_iconst dX0_ring_20 ?_
    exact b_iret dX0_ring_21 rfl h
  · have h := ifF c1 h
    refine b_aload_n dX0_ring_8 rfl ?_
    refine b_iload_n dX0_ring_9 rfl ?_
    refine b_cVi (as := [vI x1]) (st := []) dX0_ring_10 mf_X0_ringOf qs92 lk_X0_172 ly_1 rfl (p_X0_ringOf (f := 1) (Nat.le_refl _) _ _ h) (by omega) rfl rfl (Nat.le_of_ble_eq_true rfl) (by decide) rfl (fun _ => rfl) (fun r2 m2 h => ?_) (fun _ h => h)
    refine b_iload_n dX0_ring_13 rfl ?_
    refine b_cSi (as := [vI r2, vI x2]) (st := []) dX0_ring_14 mf_X0_shown lk_X0_175 (p_X0_shown (f := 2) (Nat.le_refl _) _ _ _ h) (by omega) rfl rfl (Nat.le_of_ble_eq_true rfl) (by decide) rfl (fun _ => rfl) (fun r3 m3 h => ?_) (fun _ h => h)
    refine b_goto 21 dX0_ring_17 (by decide) ?_
    exact b_iret dX0_ring_21 rfl h
theorem dX0_told_0 : decode cX0_told 0 = .ok (.iload_n 1, 1) := by decide +kernel
theorem dX0_told_1 : decode cX0_told 1 = .ok (.tableswitch 69 0 5 #[39, 44, 49, 54, 59, 64], 39) := by decide +kernel
theorem dX0_told_40 : decode cX0_told 40 = .ok (.aload_n 0, 1) := by decide +kernel
theorem dX0_told_41 : decode cX0_told 41 = .ok (.getfield 91, 3) := by decide +kernel
theorem dX0_told_44 : decode cX0_told 44 = .ok (.ireturn, 1) := by decide +kernel
theorem dX0_told_45 : decode cX0_told 45 = .ok (.aload_n 0, 1) := by decide +kernel
theorem dX0_told_46 : decode cX0_told 46 = .ok (.getfield 58, 3) := by decide +kernel
theorem dX0_told_49 : decode cX0_told 49 = .ok (.ireturn, 1) := by decide +kernel
theorem dX0_told_50 : decode cX0_told 50 = .ok (.aload_n 0, 1) := by decide +kernel
theorem dX0_told_51 : decode cX0_told 51 = .ok (.getfield 68, 3) := by decide +kernel
theorem dX0_told_54 : decode cX0_told 54 = .ok (.ireturn, 1) := by decide +kernel
theorem dX0_told_55 : decode cX0_told 55 = .ok (.aload_n 0, 1) := by decide +kernel
theorem dX0_told_56 : decode cX0_told 56 = .ok (.getfield 71, 3) := by decide +kernel
theorem dX0_told_59 : decode cX0_told 59 = .ok (.ireturn, 1) := by decide +kernel
theorem dX0_told_60 : decode cX0_told 60 = .ok (.aload_n 0, 1) := by decide +kernel
theorem dX0_told_61 : decode cX0_told 61 = .ok (.getfield 74, 3) := by decide +kernel
theorem dX0_told_64 : decode cX0_told 64 = .ok (.ireturn, 1) := by decide +kernel
theorem dX0_told_65 : decode cX0_told 65 = .ok (.aload_n 0, 1) := by decide +kernel
theorem dX0_told_66 : decode cX0_told 66 = .ok (.getfield 62, 3) := by decide +kernel
theorem dX0_told_69 : decode cX0_told 69 = .ok (.ireturn, 1) := by decide +kernel
theorem dX0_told_70 : decode cX0_told 70 = .ok (.iconst (-1), 1) := by decide +kernel
theorem dX0_told_71 : decode cX0_told 71 = .ok (.ireturn, 1) := by decide +kernel
/-! AlgebraHouse.told(I)I -/
def P_X0_told (x1 : Int) (m : MM) (Q : Int → MM → Prop) : Prop := (RI x1) ∧ (if x1 = 0 then Q (m 1 9) m else (if x1 = 1 then Q (m 1 10) m else (if x1 = 2 then Q (m 1 11) m else (if x1 = 3 then Q (m 1 12) m else (if x1 = 4 then Q (m 1 13) m else (if x1 = 5 then Q (m 1 14) m else Q (-1) m))))))
theorem p_X0_told {f : Nat} {Q : Int → MM → Prop} {T : MM → Prop} (hf : 1 ≤ f) (x1 : Int) (m : MM) (h : P_X0_told x1 m Q) : CC f M_X0_told [vR 1, vI x1] m Q T := by
  refine CC.of (plainFor_of_name (by decide)) (Nat.le_of_ble_eq_true rfl) (ls := [vR 1, vI x1]) rfl ?_
  have h : (RI x1) ∧ (if x1 = 0 then Q (m 1 9) m else (if x1 = 1 then Q (m 1 10) m else (if x1 = 2 then Q (m 1 11) m else (if x1 = 3 then Q (m 1 12) m else (if x1 = 4 then Q (m 1 13) m else (if x1 = 5 then Q (m 1 14) m else Q (-1) m)))))) := h
  refine b_iload_n dX0_told_0 rfl ?_
  obtain ⟨g1, h⟩ := h
  by_cases c1 : x1 = 0
  · have h := ifT c1 h
    refine b_tswIn 40 dX0_told_1 g1 (by omega) (by omega) (by rw [c1]; rfl) (by decide) ?_
    refine b_aload_n dX0_told_40 rfl ?_
    refine b_getI dX0_told_41 fk_X0_91 ly_1 ?_
    exact b_iret dX0_told_44 rfl h
  have h := ifF c1 h
  by_cases c2 : x1 = 1
  · have h := ifT c2 h
    refine b_tswIn 45 dX0_told_1 g1 (by omega) (by omega) (by rw [c2]; rfl) (by decide) ?_
    refine b_aload_n dX0_told_45 rfl ?_
    refine b_getI dX0_told_46 fk_X0_58 ly_1 ?_
    exact b_iret dX0_told_49 rfl h
  have h := ifF c2 h
  by_cases c3 : x1 = 2
  · have h := ifT c3 h
    refine b_tswIn 50 dX0_told_1 g1 (by omega) (by omega) (by rw [c3]; rfl) (by decide) ?_
    refine b_aload_n dX0_told_50 rfl ?_
    refine b_getI dX0_told_51 fk_X0_68 ly_1 ?_
    exact b_iret dX0_told_54 rfl h
  have h := ifF c3 h
  by_cases c4 : x1 = 3
  · have h := ifT c4 h
    refine b_tswIn 55 dX0_told_1 g1 (by omega) (by omega) (by rw [c4]; rfl) (by decide) ?_
    refine b_aload_n dX0_told_55 rfl ?_
    refine b_getI dX0_told_56 fk_X0_71 ly_1 ?_
    exact b_iret dX0_told_59 rfl h
  have h := ifF c4 h
  by_cases c5 : x1 = 4
  · have h := ifT c5 h
    refine b_tswIn 60 dX0_told_1 g1 (by omega) (by omega) (by rw [c5]; rfl) (by decide) ?_
    refine b_aload_n dX0_told_60 rfl ?_
    refine b_getI dX0_told_61 fk_X0_74 ly_1 ?_
    exact b_iret dX0_told_64 rfl h
  have h := ifF c5 h
  by_cases c6 : x1 = 5
  · have h := ifT c6 h
    refine b_tswIn 65 dX0_told_1 g1 (by omega) (by omega) (by rw [c6]; rfl) (by decide) ?_
    refine b_aload_n dX0_told_65 rfl ?_
    refine b_getI dX0_told_66 fk_X0_62 ly_1 ?_
    exact b_iret dX0_told_69 rfl h
  have h := ifF c6 h
  refine b_tswOut 70 dX0_told_1 g1 (by omega) (by decide) ?_
  refine b_iconst dX0_told_70 ?_
  exact b_iret dX0_told_71 rfl h
