set_option maxRecDepth 100000
theorem dJ4_max_0 : decode cJ4_max 0 = .ok (.iload_n 0, 1) := by decide +kernel
theorem dJ4_max_1 : decode cJ4_max 1 = .ok (.iload_n 1, 1) := by decide +kernel
theorem dJ4_max_2 : decode cJ4_max 2 = .ok (.if_icmp .lt 7, 3) := by decide +kernel
theorem dJ4_max_5 : decode cJ4_max 5 = .ok (.iload_n 0, 1) := by decide +kernel
theorem dJ4_max_6 : decode cJ4_max 6 = .ok (.goto 4, 3) := by decide +kernel
theorem dJ4_max_9 : decode cJ4_max 9 = .ok (.iload_n 1, 1) := by decide +kernel
theorem dJ4_max_10 : decode cJ4_max 10 = .ok (.ireturn, 1) := by decide +kernel
/-! java/lang/Math.max(II)I -/
def P_J4_max (x0 : Int) (x1 : Int) (m : MM) (Q : Int → MM → Prop) : Prop := (RI x0) ∧ (RI x1) ∧ (if x0 < x1 then Q x1 m else Q x0 m)
theorem p_J4_max {f : Nat} {Q : Int → MM → Prop} {T : MM → Prop} (hf : 1 ≤ f) (x0 : Int) (x1 : Int) (m : MM) (h : P_J4_max x0 x1 m Q) : CC f M_J4_max [vI x0, vI x1] m Q T := by
  refine CC.of (by decide +kernel) (Nat.le_of_ble_eq_true rfl) (ls := [vI x0, vI x1]) rfl ?_
  have h : (RI x0) ∧ (RI x1) ∧ (if x0 < x1 then Q x1 m else Q x0 m) := h
  refine b_iload_n dJ4_max_0 rfl ?_
  refine b_iload_n dJ4_max_1 rfl ?_
  obtain ⟨g1, h⟩ := h
  obtain ⟨g2, h⟩ := h
  refine b_icmp_lt 9 dJ4_max_2 g1 g2 (by decide) (fun c1 => ?_) (fun c1 => ?_)
  · have h := ifT c1 h
    refine b_iload_n dJ4_max_9 rfl ?_
    exact b_iret dJ4_max_10 rfl h
  · have h := ifF c1 h
    refine b_iload_n dJ4_max_5 rfl ?_
    refine b_goto 10 dJ4_max_6 (by decide) ?_
    exact b_iret dJ4_max_10 rfl h
theorem dJ4_abs_0 : decode cJ4_abs 0 = .ok (.lload_n 0, 1) := by decide +kernel
theorem dJ4_abs_1 : decode cJ4_abs 1 = .ok (.lconst 0, 1) := by decide +kernel
theorem dJ4_abs_2 : decode cJ4_abs 2 = .ok (.lcmp, 1) := by decide +kernel
theorem dJ4_abs_3 : decode cJ4_abs 3 = .ok (.ifCond .ge 8, 3) := by decide +kernel
theorem dJ4_abs_6 : decode cJ4_abs 6 = .ok (.lload_n 0, 1) := by decide +kernel
theorem dJ4_abs_7 : decode cJ4_abs 7 = .ok (.lneg, 1) := by decide +kernel
theorem dJ4_abs_8 : decode cJ4_abs 8 = .ok (.goto 4, 3) := by decide +kernel
theorem dJ4_abs_11 : decode cJ4_abs 11 = .ok (.lload_n 0, 1) := by decide +kernel
theorem dJ4_abs_12 : decode cJ4_abs 12 = .ok (.lreturn, 1) := by decide +kernel
/-! java/lang/Math.abs(J)J -/
def P_J4_abs (x0 : Int) (m : MM) (Q : Int → MM → Prop) : Prop := (RL x0) ∧ (if 0 ≤ x0 then Q x0 m else Q (-x0) m)
theorem p_J4_abs {f : Nat} {Q : Int → MM → Prop} {T : MM → Prop} (hf : 1 ≤ f) (x0 : Int) (m : MM) (h : P_J4_abs x0 m Q) : CC f M_J4_abs [vL x0] m Q T := by
  refine CC.of (by decide +kernel) (Nat.le_of_ble_eq_true rfl) (ls := [vL x0, vU]) rfl ?_
  have h : (RL x0) ∧ (if 0 ≤ x0 then Q x0 m else Q (-x0) m) := h
  refine b_lload_n dJ4_abs_0 rfl ?_
  refine b_lconst 0 dJ4_abs_1 (by decide) ?_
  obtain ⟨g1, h⟩ := h
  refine b_lc_ge 11 dJ4_abs_2 dJ4_abs_3 g1 (by decide) (by decide) (fun c1 => ?_) (fun c1 => ?_)
  · have h := ifT c1 h
    refine b_lload_n dJ4_abs_11 rfl ?_
    exact b_lret dJ4_abs_12 rfl h
  · have h := ifF c1 h
    refine b_lload_n dJ4_abs_6 rfl ?_
    refine b_lneg dJ4_abs_7 ?_
    refine b_goto 12 dJ4_abs_8 (by decide) ?_
    exact b_lret dJ4_abs_12 rfl h
theorem dJ4_floorMod_2_0 : decode cJ4_floorMod_2 0 = .ok (.lload_n 0, 1) := by decide +kernel
theorem dJ4_floorMod_2_1 : decode cJ4_floorMod_2 1 = .ok (.lload_n 2, 1) := by decide +kernel
theorem dJ4_floorMod_2_2 : decode cJ4_floorMod_2 2 = .ok (.lrem, 1) := by decide +kernel
theorem dJ4_floorMod_2_3 : decode cJ4_floorMod_2 3 = .ok (.lstore 4, 2) := by decide +kernel
theorem dJ4_floorMod_2_5 : decode cJ4_floorMod_2 5 = .ok (.lload_n 0, 1) := by decide +kernel
theorem dJ4_floorMod_2_6 : decode cJ4_floorMod_2 6 = .ok (.lload_n 2, 1) := by decide +kernel
theorem dJ4_floorMod_2_7 : decode cJ4_floorMod_2 7 = .ok (.lxor, 1) := by decide +kernel
theorem dJ4_floorMod_2_8 : decode cJ4_floorMod_2 8 = .ok (.lconst 0, 1) := by decide +kernel
theorem dJ4_floorMod_2_9 : decode cJ4_floorMod_2 9 = .ok (.lcmp, 1) := by decide +kernel
theorem dJ4_floorMod_2_10 : decode cJ4_floorMod_2 10 = .ok (.ifCond .ge 15, 3) := by decide +kernel
theorem dJ4_floorMod_2_13 : decode cJ4_floorMod_2 13 = .ok (.lload 4, 2) := by decide +kernel
theorem dJ4_floorMod_2_15 : decode cJ4_floorMod_2 15 = .ok (.lconst 0, 1) := by decide +kernel
theorem dJ4_floorMod_2_16 : decode cJ4_floorMod_2 16 = .ok (.lcmp, 1) := by decide +kernel
theorem dJ4_floorMod_2_17 : decode cJ4_floorMod_2 17 = .ok (.ifCond .eq 8, 3) := by decide +kernel
theorem dJ4_floorMod_2_20 : decode cJ4_floorMod_2 20 = .ok (.lload 4, 2) := by decide +kernel
theorem dJ4_floorMod_2_22 : decode cJ4_floorMod_2 22 = .ok (.lload_n 2, 1) := by decide +kernel
theorem dJ4_floorMod_2_23 : decode cJ4_floorMod_2 23 = .ok (.ladd, 1) := by decide +kernel
theorem dJ4_floorMod_2_24 : decode cJ4_floorMod_2 24 = .ok (.lreturn, 1) := by decide +kernel
theorem dJ4_floorMod_2_25 : decode cJ4_floorMod_2 25 = .ok (.lload 4, 2) := by decide +kernel
theorem dJ4_floorMod_2_27 : decode cJ4_floorMod_2 27 = .ok (.lreturn, 1) := by decide +kernel
/-! java/lang/Math.floorMod(JJ)J -/
def P_J4_floorMod_2 (x0 : Int) (x2 : Int) (m : MM) (Q : Int → MM → Prop) : Prop := (RL x0) ∧ (RL x2) ∧ (x2 ≠ 0) ∧ (RL (lXor x0 x2)) ∧ (if 0 ≤ (lXor x0 x2) then Q (Int.tmod x0 x2) m else (RL (Int.tmod x0 x2)) ∧ (if (Int.tmod x0 x2) = 0 then Q (Int.tmod x0 x2) m else Q ((Int.tmod x0 x2) + x2) m))
theorem p_J4_floorMod_2 {f : Nat} {Q : Int → MM → Prop} {T : MM → Prop} (hf : 1 ≤ f) (x0 : Int) (x2 : Int) (m : MM) (h : P_J4_floorMod_2 x0 x2 m Q) : CC f M_J4_floorMod_2 [vL x0, vL x2] m Q T := by
  refine CC.of (by decide +kernel) (Nat.le_of_ble_eq_true rfl) (ls := [vL x0, vU, vL x2, vU, vU, vU]) rfl ?_
  have h : (RL x0) ∧ (RL x2) ∧ (x2 ≠ 0) ∧ (RL (lXor x0 x2)) ∧ (if 0 ≤ (lXor x0 x2) then Q (Int.tmod x0 x2) m else (RL (Int.tmod x0 x2)) ∧ (if (Int.tmod x0 x2) = 0 then Q (Int.tmod x0 x2) m else Q ((Int.tmod x0 x2) + x2) m)) := h
  refine b_lload_n dJ4_floorMod_2_0 rfl ?_
  refine b_lload_n dJ4_floorMod_2_1 rfl ?_
  obtain ⟨g1, h⟩ := h
  obtain ⟨g2, h⟩ := h
  obtain ⟨g3, h⟩ := h
  refine b_lrem dJ4_floorMod_2_2 g1 g2 g3 ?_
  refine b_lstore (ls' := [vL x0, vU, vL x2, vU, vL (Int.tmod x0 x2), vU]) dJ4_floorMod_2_3 (Nat.le_of_ble_eq_true rfl) rfl ?_
  refine b_lload_n dJ4_floorMod_2_5 rfl ?_
  refine b_lload_n dJ4_floorMod_2_6 rfl ?_
  refine b_lxor dJ4_floorMod_2_7 ?_
  refine b_lconst 0 dJ4_floorMod_2_8 (by decide) ?_
  obtain ⟨g4, h⟩ := h
  refine b_lc_ge 25 dJ4_floorMod_2_9 dJ4_floorMod_2_10 g4 (by decide) (by decide) (fun c1 => ?_) (fun c1 => ?_)
  · have h := ifT c1 h
    refine b_lload dJ4_floorMod_2_25 rfl ?_
    exact b_lret dJ4_floorMod_2_27 rfl h
  · have h := ifF c1 h
    refine b_lload dJ4_floorMod_2_13 rfl ?_
    refine b_lconst 0 dJ4_floorMod_2_15 (by decide) ?_
    obtain ⟨g5, h⟩ := h
    refine b_lc_eq 25 dJ4_floorMod_2_16 dJ4_floorMod_2_17 g5 (by decide) (by decide) (fun c2 => ?_) (fun c2 => ?_)
    · have h := ifT c2 h
      refine b_lload dJ4_floorMod_2_25 rfl ?_
      exact b_lret dJ4_floorMod_2_27 rfl h
    · have h := ifF c2 h
      refine b_lload dJ4_floorMod_2_20 rfl ?_
      refine b_lload_n dJ4_floorMod_2_22 rfl ?_
      refine b_ladd dJ4_floorMod_2_23 ?_
      exact b_lret dJ4_floorMod_2_24 rfl h
theorem dJ4_min_0 : decode cJ4_min 0 = .ok (.iload_n 0, 1) := by decide +kernel
theorem dJ4_min_1 : decode cJ4_min 1 = .ok (.iload_n 1, 1) := by decide +kernel
theorem dJ4_min_2 : decode cJ4_min 2 = .ok (.if_icmp .gt 7, 3) := by decide +kernel
theorem dJ4_min_5 : decode cJ4_min 5 = .ok (.iload_n 0, 1) := by decide +kernel
theorem dJ4_min_6 : decode cJ4_min 6 = .ok (.goto 4, 3) := by decide +kernel
theorem dJ4_min_9 : decode cJ4_min 9 = .ok (.iload_n 1, 1) := by decide +kernel
theorem dJ4_min_10 : decode cJ4_min 10 = .ok (.ireturn, 1) := by decide +kernel
/-! java/lang/Math.min(II)I -/
def P_J4_min (x0 : Int) (x1 : Int) (m : MM) (Q : Int → MM → Prop) : Prop := (RI x0) ∧ (RI x1) ∧ (if x1 < x0 then Q x1 m else Q x0 m)
theorem p_J4_min {f : Nat} {Q : Int → MM → Prop} {T : MM → Prop} (hf : 1 ≤ f) (x0 : Int) (x1 : Int) (m : MM) (h : P_J4_min x0 x1 m Q) : CC f M_J4_min [vI x0, vI x1] m Q T := by
  refine CC.of (by decide +kernel) (Nat.le_of_ble_eq_true rfl) (ls := [vI x0, vI x1]) rfl ?_
  have h : (RI x0) ∧ (RI x1) ∧ (if x1 < x0 then Q x1 m else Q x0 m) := h
  refine b_iload_n dJ4_min_0 rfl ?_
  refine b_iload_n dJ4_min_1 rfl ?_
  obtain ⟨g1, h⟩ := h
  obtain ⟨g2, h⟩ := h
  refine b_icmp_gt 9 dJ4_min_2 g1 g2 (by decide) (fun c1 => ?_) (fun c1 => ?_)
  · have h := ifT c1 h
    refine b_iload_n dJ4_min_9 rfl ?_
    exact b_iret dJ4_min_10 rfl h
  · have h := ifF c1 h
    refine b_iload_n dJ4_min_5 rfl ?_
    refine b_goto 10 dJ4_min_6 (by decide) ?_
    exact b_iret dJ4_min_10 rfl h
theorem dJ4_floorMod_0 : decode cJ4_floorMod 0 = .ok (.iload_n 0, 1) := by decide +kernel
theorem dJ4_floorMod_1 : decode cJ4_floorMod 1 = .ok (.iload_n 1, 1) := by decide +kernel
theorem dJ4_floorMod_2 : decode cJ4_floorMod 2 = .ok (.irem, 1) := by decide +kernel
theorem dJ4_floorMod_3 : decode cJ4_floorMod 3 = .ok (.istore_n 2, 1) := by decide +kernel
theorem dJ4_floorMod_4 : decode cJ4_floorMod 4 = .ok (.iload_n 0, 1) := by decide +kernel
theorem dJ4_floorMod_5 : decode cJ4_floorMod 5 = .ok (.iload_n 1, 1) := by decide +kernel
theorem dJ4_floorMod_6 : decode cJ4_floorMod 6 = .ok (.ixor, 1) := by decide +kernel
theorem dJ4_floorMod_7 : decode cJ4_floorMod 7 = .ok (.ifCond .ge 11, 3) := by decide +kernel
theorem dJ4_floorMod_10 : decode cJ4_floorMod 10 = .ok (.iload_n 2, 1) := by decide +kernel
theorem dJ4_floorMod_11 : decode cJ4_floorMod 11 = .ok (.ifCond .eq 7, 3) := by decide +kernel
theorem dJ4_floorMod_14 : decode cJ4_floorMod 14 = .ok (.iload_n 2, 1) := by decide +kernel
theorem dJ4_floorMod_15 : decode cJ4_floorMod 15 = .ok (.iload_n 1, 1) := by decide +kernel
theorem dJ4_floorMod_16 : decode cJ4_floorMod 16 = .ok (.iadd, 1) := by decide +kernel
theorem dJ4_floorMod_17 : decode cJ4_floorMod 17 = .ok (.ireturn, 1) := by decide +kernel
theorem dJ4_floorMod_18 : decode cJ4_floorMod 18 = .ok (.iload_n 2, 1) := by decide +kernel
theorem dJ4_floorMod_19 : decode cJ4_floorMod 19 = .ok (.ireturn, 1) := by decide +kernel
/-! java/lang/Math.floorMod(II)I -/
def P_J4_floorMod (x0 : Int) (x1 : Int) (m : MM) (Q : Int → MM → Prop) : Prop := (RI x0) ∧ (RI x1) ∧ (x1 ≠ 0) ∧ (RI (iXor x0 x1)) ∧ (if 0 ≤ (iXor x0 x1) then Q (Int.tmod x0 x1) m else (RI (Int.tmod x0 x1)) ∧ (if (Int.tmod x0 x1) = 0 then Q (Int.tmod x0 x1) m else Q ((Int.tmod x0 x1) + x1) m))
theorem p_J4_floorMod {f : Nat} {Q : Int → MM → Prop} {T : MM → Prop} (hf : 1 ≤ f) (x0 : Int) (x1 : Int) (m : MM) (h : P_J4_floorMod x0 x1 m Q) : CC f M_J4_floorMod [vI x0, vI x1] m Q T := by
  refine CC.of (by decide +kernel) (Nat.le_of_ble_eq_true rfl) (ls := [vI x0, vI x1, vU]) rfl ?_
  have h : (RI x0) ∧ (RI x1) ∧ (x1 ≠ 0) ∧ (RI (iXor x0 x1)) ∧ (if 0 ≤ (iXor x0 x1) then Q (Int.tmod x0 x1) m else (RI (Int.tmod x0 x1)) ∧ (if (Int.tmod x0 x1) = 0 then Q (Int.tmod x0 x1) m else Q ((Int.tmod x0 x1) + x1) m)) := h
  refine b_iload_n dJ4_floorMod_0 rfl ?_
  refine b_iload_n dJ4_floorMod_1 rfl ?_
  obtain ⟨g1, h⟩ := h
  obtain ⟨g2, h⟩ := h
  obtain ⟨g3, h⟩ := h
  refine b_irem dJ4_floorMod_2 g1 g2 g3 ?_
  refine b_istore_n (ls' := [vI x0, vI x1, vI (Int.tmod x0 x1)]) dJ4_floorMod_3 (Nat.le_of_ble_eq_true rfl) rfl ?_
  refine b_iload_n dJ4_floorMod_4 rfl ?_
  refine b_iload_n dJ4_floorMod_5 rfl ?_
  refine b_ixor dJ4_floorMod_6 ?_
  obtain ⟨g4, h⟩ := h
  refine b_if_ge 18 dJ4_floorMod_7 g4 (by decide) (fun c1 => ?_) (fun c1 => ?_)
  · have h := ifT c1 h
    refine b_iload_n dJ4_floorMod_18 rfl ?_
    exact b_iret dJ4_floorMod_19 rfl h
  · have h := ifF c1 h
    refine b_iload_n dJ4_floorMod_10 rfl ?_
    obtain ⟨g5, h⟩ := h
    refine b_if_eq 18 dJ4_floorMod_11 g5 (by decide) (fun c2 => ?_) (fun c2 => ?_)
    · have h := ifT c2 h
      refine b_iload_n dJ4_floorMod_18 rfl ?_
      exact b_iret dJ4_floorMod_19 rfl h
    · have h := ifF c2 h
      refine b_iload_n dJ4_floorMod_14 rfl ?_
      refine b_iload_n dJ4_floorMod_15 rfl ?_
      refine b_iadd dJ4_floorMod_16 ?_
      exact b_iret dJ4_floorMod_17 rfl h
theorem dJ6_numberOfTrailingZeros_0 : decode cJ6_numberOfTrailingZeros 0 = .ok (.iload_n 0, 1) := by decide +kernel
theorem dJ6_numberOfTrailingZeros_1 : decode cJ6_numberOfTrailingZeros 1 = .ok (.iconst (-1), 1) := by decide +kernel
theorem dJ6_numberOfTrailingZeros_2 : decode cJ6_numberOfTrailingZeros 2 = .ok (.ixor, 1) := by decide +kernel
theorem dJ6_numberOfTrailingZeros_3 : decode cJ6_numberOfTrailingZeros 3 = .ok (.iload_n 0, 1) := by decide +kernel
theorem dJ6_numberOfTrailingZeros_4 : decode cJ6_numberOfTrailingZeros 4 = .ok (.iconst 1, 1) := by decide +kernel
theorem dJ6_numberOfTrailingZeros_5 : decode cJ6_numberOfTrailingZeros 5 = .ok (.isub, 1) := by decide +kernel
theorem dJ6_numberOfTrailingZeros_6 : decode cJ6_numberOfTrailingZeros 6 = .ok (.iand, 1) := by decide +kernel
theorem dJ6_numberOfTrailingZeros_7 : decode cJ6_numberOfTrailingZeros 7 = .ok (.istore_n 0, 1) := by decide +kernel
theorem dJ6_numberOfTrailingZeros_8 : decode cJ6_numberOfTrailingZeros 8 = .ok (.iload_n 0, 1) := by decide +kernel
theorem dJ6_numberOfTrailingZeros_9 : decode cJ6_numberOfTrailingZeros 9 = .ok (.ifCond .gt 8, 3) := by decide +kernel
theorem dJ6_numberOfTrailingZeros_12 : decode cJ6_numberOfTrailingZeros 12 = .ok (.iload_n 0, 1) := by decide +kernel
theorem dJ6_numberOfTrailingZeros_13 : decode cJ6_numberOfTrailingZeros 13 = .ok (.bipush 32, 2) := by decide +kernel
theorem dJ6_numberOfTrailingZeros_15 : decode cJ6_numberOfTrailingZeros 15 = .ok (.iand, 1) := by decide +kernel
theorem dJ6_numberOfTrailingZeros_16 : decode cJ6_numberOfTrailingZeros 16 = .ok (.ireturn, 1) := by decide +kernel
theorem dJ6_numberOfTrailingZeros_17 : decode cJ6_numberOfTrailingZeros 17 = .ok (.iconst 1, 1) := by decide +kernel
theorem dJ6_numberOfTrailingZeros_18 : decode cJ6_numberOfTrailingZeros 18 = .ok (.istore_n 1, 1) := by decide +kernel
theorem dJ6_numberOfTrailingZeros_19 : decode cJ6_numberOfTrailingZeros 19 = .ok (.iload_n 0, 1) := by decide +kernel
theorem dJ6_numberOfTrailingZeros_20 : decode cJ6_numberOfTrailingZeros 20 = .ok (.ldc_w 264, 3) := by decide +kernel
theorem dJ6_numberOfTrailingZeros_23 : decode cJ6_numberOfTrailingZeros 23 = .ok (.if_icmp .le 11, 3) := by decide +kernel
theorem dJ6_numberOfTrailingZeros_26 : decode cJ6_numberOfTrailingZeros 26 = .ok (.iinc 1 16, 3) := by decide +kernel
theorem dJ6_numberOfTrailingZeros_29 : decode cJ6_numberOfTrailingZeros 29 = .ok (.iload_n 0, 1) := by decide +kernel
theorem dJ6_numberOfTrailingZeros_30 : decode cJ6_numberOfTrailingZeros 30 = .ok (.bipush 16, 2) := by decide +kernel
theorem dJ6_numberOfTrailingZeros_32 : decode cJ6_numberOfTrailingZeros 32 = .ok (.iushr, 1) := by decide +kernel
theorem dJ6_numberOfTrailingZeros_33 : decode cJ6_numberOfTrailingZeros 33 = .ok (.istore_n 0, 1) := by decide +kernel
theorem dJ6_numberOfTrailingZeros_34 : decode cJ6_numberOfTrailingZeros 34 = .ok (.iload_n 0, 1) := by decide +kernel
theorem dJ6_numberOfTrailingZeros_35 : decode cJ6_numberOfTrailingZeros 35 = .ok (.sipush 256, 3) := by decide +kernel
theorem dJ6_numberOfTrailingZeros_38 : decode cJ6_numberOfTrailingZeros 38 = .ok (.if_icmp .le 11, 3) := by decide +kernel
theorem dJ6_numberOfTrailingZeros_41 : decode cJ6_numberOfTrailingZeros 41 = .ok (.iinc 1 8, 3) := by decide +kernel
theorem dJ6_numberOfTrailingZeros_44 : decode cJ6_numberOfTrailingZeros 44 = .ok (.iload_n 0, 1) := by decide +kernel
theorem dJ6_numberOfTrailingZeros_45 : decode cJ6_numberOfTrailingZeros 45 = .ok (.bipush 8, 2) := by decide +kernel
theorem dJ6_numberOfTrailingZeros_47 : decode cJ6_numberOfTrailingZeros 47 = .ok (.iushr, 1) := by decide +kernel
theorem dJ6_numberOfTrailingZeros_48 : decode cJ6_numberOfTrailingZeros 48 = .ok (.istore_n 0, 1) := by decide +kernel
theorem dJ6_numberOfTrailingZeros_49 : decode cJ6_numberOfTrailingZeros 49 = .ok (.iload_n 0, 1) := by decide +kernel
theorem dJ6_numberOfTrailingZeros_50 : decode cJ6_numberOfTrailingZeros 50 = .ok (.bipush 16, 2) := by decide +kernel
theorem dJ6_numberOfTrailingZeros_52 : decode cJ6_numberOfTrailingZeros 52 = .ok (.if_icmp .le 10, 3) := by decide +kernel
theorem dJ6_numberOfTrailingZeros_55 : decode cJ6_numberOfTrailingZeros 55 = .ok (.iinc 1 4, 3) := by decide +kernel
theorem dJ6_numberOfTrailingZeros_58 : decode cJ6_numberOfTrailingZeros 58 = .ok (.iload_n 0, 1) := by decide +kernel
theorem dJ6_numberOfTrailingZeros_59 : decode cJ6_numberOfTrailingZeros 59 = .ok (.iconst 4, 1) := by decide +kernel
theorem dJ6_numberOfTrailingZeros_60 : decode cJ6_numberOfTrailingZeros 60 = .ok (.iushr, 1) := by decide +kernel
theorem dJ6_numberOfTrailingZeros_61 : decode cJ6_numberOfTrailingZeros 61 = .ok (.istore_n 0, 1) := by decide +kernel
theorem dJ6_numberOfTrailingZeros_62 : decode cJ6_numberOfTrailingZeros 62 = .ok (.iload_n 0, 1) := by decide +kernel
theorem dJ6_numberOfTrailingZeros_63 : decode cJ6_numberOfTrailingZeros 63 = .ok (.iconst 4, 1) := by decide +kernel
theorem dJ6_numberOfTrailingZeros_64 : decode cJ6_numberOfTrailingZeros 64 = .ok (.if_icmp .le 10, 3) := by decide +kernel
theorem dJ6_numberOfTrailingZeros_67 : decode cJ6_numberOfTrailingZeros 67 = .ok (.iinc 1 2, 3) := by decide +kernel
theorem dJ6_numberOfTrailingZeros_70 : decode cJ6_numberOfTrailingZeros 70 = .ok (.iload_n 0, 1) := by decide +kernel
theorem dJ6_numberOfTrailingZeros_71 : decode cJ6_numberOfTrailingZeros 71 = .ok (.iconst 2, 1) := by decide +kernel
theorem dJ6_numberOfTrailingZeros_72 : decode cJ6_numberOfTrailingZeros 72 = .ok (.iushr, 1) := by decide +kernel
theorem dJ6_numberOfTrailingZeros_73 : decode cJ6_numberOfTrailingZeros 73 = .ok (.istore_n 0, 1) := by decide +kernel
theorem dJ6_numberOfTrailingZeros_74 : decode cJ6_numberOfTrailingZeros 74 = .ok (.iload_n 1, 1) := by decide +kernel
theorem dJ6_numberOfTrailingZeros_75 : decode cJ6_numberOfTrailingZeros 75 = .ok (.iload_n 0, 1) := by decide +kernel
theorem dJ6_numberOfTrailingZeros_76 : decode cJ6_numberOfTrailingZeros 76 = .ok (.iconst 1, 1) := by decide +kernel
theorem dJ6_numberOfTrailingZeros_77 : decode cJ6_numberOfTrailingZeros 77 = .ok (.iushr, 1) := by decide +kernel
theorem dJ6_numberOfTrailingZeros_78 : decode cJ6_numberOfTrailingZeros 78 = .ok (.iadd, 1) := by decide +kernel
theorem dJ6_numberOfTrailingZeros_79 : decode cJ6_numberOfTrailingZeros 79 = .ok (.ireturn, 1) := by decide +kernel
/-! java/lang/Integer.numberOfTrailingZeros(I)I -/
def P_J6_numberOfTrailingZeros_62 (Q : Int → MM → Prop) (x0 : Int) (x1 : Int) (m : MM) : Prop := (RI x0) ∧ (if x0 ≤ 4 then Q (x1 + (iUshr x0 1)) m else Q ((x1 + 2) + (iUshr (iUshr x0 2) 1)) m)
def P_J6_numberOfTrailingZeros_49 (Q : Int → MM → Prop) (x0 : Int) (x1 : Int) (m : MM) : Prop := (RI x0) ∧ (if x0 ≤ 16 then P_J6_numberOfTrailingZeros_62 Q x0 x1 m else P_J6_numberOfTrailingZeros_62 Q (iUshr x0 4) (x1 + 4) m)
def P_J6_numberOfTrailingZeros_34 (Q : Int → MM → Prop) (x0 : Int) (x1 : Int) (m : MM) : Prop := (RI x0) ∧ (if x0 ≤ 256 then P_J6_numberOfTrailingZeros_49 Q x0 x1 m else P_J6_numberOfTrailingZeros_49 Q (iUshr x0 8) (x1 + 8) m)
def P_J6_numberOfTrailingZeros (x0 : Int) (m : MM) (Q : Int → MM → Prop) : Prop := (RI (iAnd (iXor x0 (-1)) (x0 - 1))) ∧ (if 0 < (iAnd (iXor x0 (-1)) (x0 - 1)) then (if (iAnd (iXor x0 (-1)) (x0 - 1)) ≤ 65536 then P_J6_numberOfTrailingZeros_34 Q (iAnd (iXor x0 (-1)) (x0 - 1)) 1 m else P_J6_numberOfTrailingZeros_34 Q (iUshr (iAnd (iXor x0 (-1)) (x0 - 1)) 16) (1 + 16) m) else Q (iAnd (iAnd (iXor x0 (-1)) (x0 - 1)) 32) m)
theorem pl_J6_numberOfTrailingZeros_62 {f : Nat} {Q : Int → MM → Prop} {T : MM → Prop} (hf : 1 ≤ f) : ∀ (x0 : Int) (x1 : Int) (m : MM), P_J6_numberOfTrailingZeros_62 Q x0 x1 m → B f M_J6_numberOfTrailingZeros 62 [vI x0, vI x1] [] m Q T := by
  intro x0 x1 m h
  have h : (RI x0) ∧ (if x0 ≤ 4 then Q (x1 + (iUshr x0 1)) m else Q ((x1 + 2) + (iUshr (iUshr x0 2) 1)) m) := h
  refine b_iload_n dJ6_numberOfTrailingZeros_62 rfl ?_
  refine b_iconst dJ6_numberOfTrailingZeros_63 ?_
  obtain ⟨g1, h⟩ := h
  refine b_icmp_le 74 dJ6_numberOfTrailingZeros_64 g1 (by decide) (by decide) (fun c1 => ?_) (fun c1 => ?_)
  · have h := ifT c1 h
    refine b_iload_n dJ6_numberOfTrailingZeros_74 rfl ?_
    refine b_iload_n dJ6_numberOfTrailingZeros_75 rfl ?_
    refine b_iconst dJ6_numberOfTrailingZeros_76 ?_
    refine b_iushr dJ6_numberOfTrailingZeros_77 ?_
    refine b_iadd dJ6_numberOfTrailingZeros_78 ?_
    exact b_iret dJ6_numberOfTrailingZeros_79 rfl h
  · have h := ifF c1 h
    refine b_iinc (ls' := [vI x0, vI (x1 + 2)]) dJ6_numberOfTrailingZeros_67 rfl rfl ?_
    refine b_iload_n dJ6_numberOfTrailingZeros_70 rfl ?_
    refine b_iconst dJ6_numberOfTrailingZeros_71 ?_
    refine b_iushr dJ6_numberOfTrailingZeros_72 ?_
    refine b_istore_n (ls' := [vI (iUshr x0 2), vI (x1 + 2)]) dJ6_numberOfTrailingZeros_73 (Nat.le_of_ble_eq_true rfl) rfl ?_
    refine b_iload_n dJ6_numberOfTrailingZeros_74 rfl ?_
    refine b_iload_n dJ6_numberOfTrailingZeros_75 rfl ?_
    refine b_iconst dJ6_numberOfTrailingZeros_76 ?_
    refine b_iushr dJ6_numberOfTrailingZeros_77 ?_
    refine b_iadd dJ6_numberOfTrailingZeros_78 ?_
    exact b_iret dJ6_numberOfTrailingZeros_79 rfl h
theorem pl_J6_numberOfTrailingZeros_49 {f : Nat} {Q : Int → MM → Prop} {T : MM → Prop} (hf : 1 ≤ f) : ∀ (x0 : Int) (x1 : Int) (m : MM), P_J6_numberOfTrailingZeros_49 Q x0 x1 m → B f M_J6_numberOfTrailingZeros 49 [vI x0, vI x1] [] m Q T := by
  intro x0 x1 m h
  have h : (RI x0) ∧ (if x0 ≤ 16 then P_J6_numberOfTrailingZeros_62 Q x0 x1 m else P_J6_numberOfTrailingZeros_62 Q (iUshr x0 4) (x1 + 4) m) := h
  refine b_iload_n dJ6_numberOfTrailingZeros_49 rfl ?_
  refine b_bipush dJ6_numberOfTrailingZeros_50 (by decide) ?_
  obtain ⟨g1, h⟩ := h
  refine b_icmp_le 62 dJ6_numberOfTrailingZeros_52 g1 (by decide) (by decide) (fun c1 => ?_) (fun c1 => ?_)
  · have h := ifT c1 h
    exact pl_J6_numberOfTrailingZeros_62 hf _ _ _ h
  · have h := ifF c1 h
    refine b_iinc (ls' := [vI x0, vI (x1 + 4)]) dJ6_numberOfTrailingZeros_55 rfl rfl ?_
    refine b_iload_n dJ6_numberOfTrailingZeros_58 rfl ?_
    refine b_iconst dJ6_numberOfTrailingZeros_59 ?_
    refine b_iushr dJ6_numberOfTrailingZeros_60 ?_
    refine b_istore_n (ls' := [vI (iUshr x0 4), vI (x1 + 4)]) dJ6_numberOfTrailingZeros_61 (Nat.le_of_ble_eq_true rfl) rfl ?_
    exact pl_J6_numberOfTrailingZeros_62 hf _ _ _ h
theorem pl_J6_numberOfTrailingZeros_34 {f : Nat} {Q : Int → MM → Prop} {T : MM → Prop} (hf : 1 ≤ f) : ∀ (x0 : Int) (x1 : Int) (m : MM), P_J6_numberOfTrailingZeros_34 Q x0 x1 m → B f M_J6_numberOfTrailingZeros 34 [vI x0, vI x1] [] m Q T := by
  intro x0 x1 m h
  have h : (RI x0) ∧ (if x0 ≤ 256 then P_J6_numberOfTrailingZeros_49 Q x0 x1 m else P_J6_numberOfTrailingZeros_49 Q (iUshr x0 8) (x1 + 8) m) := h
  refine b_iload_n dJ6_numberOfTrailingZeros_34 rfl ?_
  refine b_sipush dJ6_numberOfTrailingZeros_35 (by decide) ?_
  obtain ⟨g1, h⟩ := h
  refine b_icmp_le 49 dJ6_numberOfTrailingZeros_38 g1 (by decide) (by decide) (fun c1 => ?_) (fun c1 => ?_)
  · have h := ifT c1 h
    exact pl_J6_numberOfTrailingZeros_49 hf _ _ _ h
  · have h := ifF c1 h
    refine b_iinc (ls' := [vI x0, vI (x1 + 8)]) dJ6_numberOfTrailingZeros_41 rfl rfl ?_
    refine b_iload_n dJ6_numberOfTrailingZeros_44 rfl ?_
    refine b_bipush dJ6_numberOfTrailingZeros_45 (by decide) ?_
    refine b_iushr dJ6_numberOfTrailingZeros_47 ?_
    refine b_istore_n (ls' := [vI (iUshr x0 8), vI (x1 + 8)]) dJ6_numberOfTrailingZeros_48 (Nat.le_of_ble_eq_true rfl) rfl ?_
    exact pl_J6_numberOfTrailingZeros_49 hf _ _ _ h
theorem p_J6_numberOfTrailingZeros {f : Nat} {Q : Int → MM → Prop} {T : MM → Prop} (hf : 1 ≤ f) (x0 : Int) (m : MM) (h : P_J6_numberOfTrailingZeros x0 m Q) : CC f M_J6_numberOfTrailingZeros [vI x0] m Q T := by
  refine CC.of (by decide +kernel) (Nat.le_of_ble_eq_true rfl) (ls := [vI x0, vU]) rfl ?_
  have h : (RI (iAnd (iXor x0 (-1)) (x0 - 1))) ∧ (if 0 < (iAnd (iXor x0 (-1)) (x0 - 1)) then (if (iAnd (iXor x0 (-1)) (x0 - 1)) ≤ 65536 then P_J6_numberOfTrailingZeros_34 Q (iAnd (iXor x0 (-1)) (x0 - 1)) 1 m else P_J6_numberOfTrailingZeros_34 Q (iUshr (iAnd (iXor x0 (-1)) (x0 - 1)) 16) (1 + 16) m) else Q (iAnd (iAnd (iXor x0 (-1)) (x0 - 1)) 32) m) := h
  refine b_iload_n dJ6_numberOfTrailingZeros_0 rfl ?_
  refine b_iconst dJ6_numberOfTrailingZeros_1 ?_
  refine b_ixor dJ6_numberOfTrailingZeros_2 ?_
  refine b_iload_n dJ6_numberOfTrailingZeros_3 rfl ?_
  refine b_iconst dJ6_numberOfTrailingZeros_4 ?_
  refine b_isub dJ6_numberOfTrailingZeros_5 ?_
  refine b_iand dJ6_numberOfTrailingZeros_6 ?_
  refine b_istore_n (ls' := [vI (iAnd (iXor x0 (-1)) (x0 - 1)), vU]) dJ6_numberOfTrailingZeros_7 (Nat.le_of_ble_eq_true rfl) rfl ?_
  refine b_iload_n dJ6_numberOfTrailingZeros_8 rfl ?_
  obtain ⟨g1, h⟩ := h
  refine b_if_gt 17 dJ6_numberOfTrailingZeros_9 g1 (by decide) (fun c1 => ?_) (fun c1 => ?_)
  · have h := ifT c1 h
    refine b_iconst dJ6_numberOfTrailingZeros_17 ?_
    refine b_istore_n (ls' := [vI (iAnd (iXor x0 (-1)) (x0 - 1)), vI 1]) dJ6_numberOfTrailingZeros_18 (Nat.le_of_ble_eq_true rfl) rfl ?_
    refine b_iload_n dJ6_numberOfTrailingZeros_19 rfl ?_
    refine b_ldcw (65536) dJ6_numberOfTrailingZeros_20 q1490 (by decide) ?_
    refine b_icmp_le 34 dJ6_numberOfTrailingZeros_23 g1 (by decide) (by decide) (fun c2 => ?_) (fun c2 => ?_)
    · have h := ifT c2 h
      exact pl_J6_numberOfTrailingZeros_34 hf _ _ _ h
    · have h := ifF c2 h
      refine b_iinc (ls' := [vI (iAnd (iXor x0 (-1)) (x0 - 1)), vI (1 + 16)]) dJ6_numberOfTrailingZeros_26 rfl rfl ?_
      refine b_iload_n dJ6_numberOfTrailingZeros_29 rfl ?_
      refine b_bipush dJ6_numberOfTrailingZeros_30 (by decide) ?_
      refine b_iushr dJ6_numberOfTrailingZeros_32 ?_
      refine b_istore_n (ls' := [vI (iUshr (iAnd (iXor x0 (-1)) (x0 - 1)) 16), vI (1 + 16)]) dJ6_numberOfTrailingZeros_33 (Nat.le_of_ble_eq_true rfl) rfl ?_
      exact pl_J6_numberOfTrailingZeros_34 hf _ _ _ h
  · have h := ifF c1 h
    refine b_iload_n dJ6_numberOfTrailingZeros_12 rfl ?_
    refine b_bipush dJ6_numberOfTrailingZeros_13 (by decide) ?_
    refine b_iand dJ6_numberOfTrailingZeros_15 ?_
    exact b_iret dJ6_numberOfTrailingZeros_16 rfl h
theorem dJ4_abs_2_0 : decode cJ4_abs_2 0 = .ok (.iload_n 0, 1) := by decide +kernel
theorem dJ4_abs_2_1 : decode cJ4_abs_2 1 = .ok (.ifCond .ge 8, 3) := by decide +kernel
theorem dJ4_abs_2_4 : decode cJ4_abs_2 4 = .ok (.iload_n 0, 1) := by decide +kernel
theorem dJ4_abs_2_5 : decode cJ4_abs_2 5 = .ok (.ineg, 1) := by decide +kernel
theorem dJ4_abs_2_6 : decode cJ4_abs_2 6 = .ok (.goto 4, 3) := by decide +kernel
theorem dJ4_abs_2_9 : decode cJ4_abs_2 9 = .ok (.iload_n 0, 1) := by decide +kernel
theorem dJ4_abs_2_10 : decode cJ4_abs_2 10 = .ok (.ireturn, 1) := by decide +kernel
/-! java/lang/Math.abs(I)I -/
def P_J4_abs_2 (x0 : Int) (m : MM) (Q : Int → MM → Prop) : Prop := (RI x0) ∧ (if 0 ≤ x0 then Q x0 m else Q (-x0) m)
theorem p_J4_abs_2 {f : Nat} {Q : Int → MM → Prop} {T : MM → Prop} (hf : 1 ≤ f) (x0 : Int) (m : MM) (h : P_J4_abs_2 x0 m Q) : CC f M_J4_abs_2 [vI x0] m Q T := by
  refine CC.of (by decide +kernel) (Nat.le_of_ble_eq_true rfl) (ls := [vI x0]) rfl ?_
  have h : (RI x0) ∧ (if 0 ≤ x0 then Q x0 m else Q (-x0) m) := h
  refine b_iload_n dJ4_abs_2_0 rfl ?_
  obtain ⟨g1, h⟩ := h
  refine b_if_ge 9 dJ4_abs_2_1 g1 (by decide) (fun c1 => ?_) (fun c1 => ?_)
  · have h := ifT c1 h
    refine b_iload_n dJ4_abs_2_9 rfl ?_
    exact b_iret dJ4_abs_2_10 rfl h
  · have h := ifF c1 h
    refine b_iload_n dJ4_abs_2_4 rfl ?_
    refine b_ineg dJ4_abs_2_5 ?_
    refine b_goto 10 dJ4_abs_2_6 (by decide) ?_
    exact b_iret dJ4_abs_2_10 rfl h
theorem dJ4_floorDiv_0 : decode cJ4_floorDiv 0 = .ok (.iload_n 0, 1) := by decide +kernel
theorem dJ4_floorDiv_1 : decode cJ4_floorDiv 1 = .ok (.iload_n 1, 1) := by decide +kernel
theorem dJ4_floorDiv_2 : decode cJ4_floorDiv 2 = .ok (.idiv, 1) := by decide +kernel
theorem dJ4_floorDiv_3 : decode cJ4_floorDiv 3 = .ok (.istore_n 2, 1) := by decide +kernel
theorem dJ4_floorDiv_4 : decode cJ4_floorDiv 4 = .ok (.iload_n 0, 1) := by decide +kernel
theorem dJ4_floorDiv_5 : decode cJ4_floorDiv 5 = .ok (.iload_n 1, 1) := by decide +kernel
theorem dJ4_floorDiv_6 : decode cJ4_floorDiv 6 = .ok (.ixor, 1) := by decide +kernel
theorem dJ4_floorDiv_7 : decode cJ4_floorDiv 7 = .ok (.ifCond .ge 14, 3) := by decide +kernel
theorem dJ4_floorDiv_10 : decode cJ4_floorDiv 10 = .ok (.iload_n 2, 1) := by decide +kernel
theorem dJ4_floorDiv_11 : decode cJ4_floorDiv 11 = .ok (.iload_n 1, 1) := by decide +kernel
theorem dJ4_floorDiv_12 : decode cJ4_floorDiv 12 = .ok (.imul, 1) := by decide +kernel
theorem dJ4_floorDiv_13 : decode cJ4_floorDiv 13 = .ok (.iload_n 0, 1) := by decide +kernel
theorem dJ4_floorDiv_14 : decode cJ4_floorDiv 14 = .ok (.if_icmp .eq 7, 3) := by decide +kernel
theorem dJ4_floorDiv_17 : decode cJ4_floorDiv 17 = .ok (.iload_n 2, 1) := by decide +kernel
theorem dJ4_floorDiv_18 : decode cJ4_floorDiv 18 = .ok (.iconst 1, 1) := by decide +kernel
theorem dJ4_floorDiv_19 : decode cJ4_floorDiv 19 = .ok (.isub, 1) := by decide +kernel
theorem dJ4_floorDiv_20 : decode cJ4_floorDiv 20 = .ok (.ireturn, 1) := by decide +kernel
theorem dJ4_floorDiv_21 : decode cJ4_floorDiv 21 = .ok (.iload_n 2, 1) := by decide +kernel
theorem dJ4_floorDiv_22 : decode cJ4_floorDiv 22 = .ok (.ireturn, 1) := by decide +kernel
/-! java/lang/Math.floorDiv(II)I -/
def P_J4_floorDiv (x0 : Int) (x1 : Int) (m : MM) (Q : Int → MM → Prop) : Prop := (RI x0) ∧ (RI x1) ∧ (x1 ≠ 0) ∧ (RI (iXor x0 x1)) ∧ (if 0 ≤ (iXor x0 x1) then Q (Int.tdiv x0 x1) m else (RI ((Int.tdiv x0 x1) * x1)) ∧ (if ((Int.tdiv x0 x1) * x1) = x0 then Q (Int.tdiv x0 x1) m else Q ((Int.tdiv x0 x1) - 1) m))
theorem p_J4_floorDiv {f : Nat} {Q : Int → MM → Prop} {T : MM → Prop} (hf : 1 ≤ f) (x0 : Int) (x1 : Int) (m : MM) (h : P_J4_floorDiv x0 x1 m Q) : CC f M_J4_floorDiv [vI x0, vI x1] m Q T := by
  refine CC.of (by decide +kernel) (Nat.le_of_ble_eq_true rfl) (ls := [vI x0, vI x1, vU]) rfl ?_
  have h : (RI x0) ∧ (RI x1) ∧ (x1 ≠ 0) ∧ (RI (iXor x0 x1)) ∧ (if 0 ≤ (iXor x0 x1) then Q (Int.tdiv x0 x1) m else (RI ((Int.tdiv x0 x1) * x1)) ∧ (if ((Int.tdiv x0 x1) * x1) = x0 then Q (Int.tdiv x0 x1) m else Q ((Int.tdiv x0 x1) - 1) m)) := h
  refine b_iload_n dJ4_floorDiv_0 rfl ?_
  refine b_iload_n dJ4_floorDiv_1 rfl ?_
  obtain ⟨g1, h⟩ := h
  obtain ⟨g2, h⟩ := h
  obtain ⟨g3, h⟩ := h
  refine b_idiv dJ4_floorDiv_2 g1 g2 g3 ?_
  refine b_istore_n (ls' := [vI x0, vI x1, vI (Int.tdiv x0 x1)]) dJ4_floorDiv_3 (Nat.le_of_ble_eq_true rfl) rfl ?_
  refine b_iload_n dJ4_floorDiv_4 rfl ?_
  refine b_iload_n dJ4_floorDiv_5 rfl ?_
  refine b_ixor dJ4_floorDiv_6 ?_
  obtain ⟨g4, h⟩ := h
  refine b_if_ge 21 dJ4_floorDiv_7 g4 (by decide) (fun c1 => ?_) (fun c1 => ?_)
  · have h := ifT c1 h
    refine b_iload_n dJ4_floorDiv_21 rfl ?_
    exact b_iret dJ4_floorDiv_22 rfl h
  · have h := ifF c1 h
    refine b_iload_n dJ4_floorDiv_10 rfl ?_
    refine b_iload_n dJ4_floorDiv_11 rfl ?_
    refine b_imul dJ4_floorDiv_12 ?_
    refine b_iload_n dJ4_floorDiv_13 rfl ?_
    obtain ⟨g5, h⟩ := h
    refine b_icmp_eq 21 dJ4_floorDiv_14 g5 g1 (by decide) (fun c2 => ?_) (fun c2 => ?_)
    · have h := ifT c2 h
      refine b_iload_n dJ4_floorDiv_21 rfl ?_
      exact b_iret dJ4_floorDiv_22 rfl h
    · have h := ifF c2 h
      refine b_iload_n dJ4_floorDiv_17 rfl ?_
      refine b_iconst dJ4_floorDiv_18 ?_
      refine b_isub dJ4_floorDiv_19 ?_
      exact b_iret dJ4_floorDiv_20 rfl h
theorem dJ0_isLatin1_0 : decode cJ0_isLatin1 0 = .ok (.getstatic 38, 3) := by decide +kernel
theorem dJ0_isLatin1_3 : decode cJ0_isLatin1 3 = .ok (.ifCond .eq 14, 3) := by decide +kernel
theorem dJ0_isLatin1_6 : decode cJ0_isLatin1 6 = .ok (.aload_n 0, 1) := by decide +kernel
theorem dJ0_isLatin1_7 : decode cJ0_isLatin1 7 = .ok (.getfield 15, 3) := by decide +kernel
theorem dJ0_isLatin1_10 : decode cJ0_isLatin1 10 = .ok (.ifCond .ne 7, 3) := by decide +kernel
theorem dJ0_isLatin1_13 : decode cJ0_isLatin1 13 = .ok (.iconst 1, 1) := by decide +kernel
theorem dJ0_isLatin1_14 : decode cJ0_isLatin1 14 = .ok (.goto 4, 3) := by decide +kernel
theorem dJ0_isLatin1_17 : decode cJ0_isLatin1 17 = .ok (.iconst 0, 1) := by decide +kernel
theorem dJ0_isLatin1_18 : decode cJ0_isLatin1 18 = .ok (.ireturn, 1) := by decide +kernel
/-! java/lang/String.isLatin1()Z -/
def P_J0_isLatin1 (x0 : Int) (m : MM) (Q : Int → MM → Prop) : Prop := (if (1 : Int) = 0 then Q 0 m else (isSt x0) ∧ (if (0 : Int) = 0 then Q 1 m else Q 0 m))
theorem p_J0_isLatin1 {f : Nat} {Q : Int → MM → Prop} {T : MM → Prop} (hf : 1 ≤ f) (x0 : Int) (m : MM) (h : P_J0_isLatin1 x0 m Q) : CC f M_J0_isLatin1 [vR x0] m Q T := by
  refine CC.of (by decide +kernel) (Nat.le_of_ble_eq_true rfl) (ls := [vR x0]) rfl ?_
  have h : (if (1 : Int) = 0 then Q 0 m else (isSt x0) ∧ (if (0 : Int) = 0 then Q 1 m else Q 0 m)) := h
  refine b_getsZ dJ0_isLatin1_0 q793 ?_
  refine b_if_eq 17 dJ0_isLatin1_3 (by decide) (by decide) (fun c1 => ?_) (fun c1 => ?_)
  · have h := ifT c1 h
    refine b_iconst dJ0_isLatin1_17 ?_
    exact b_zret dJ0_isLatin1_18 rfl (Or.inl rfl) h
  · have h := ifF c1 h
    refine b_aload_n dJ0_isLatin1_6 rfl ?_
    obtain ⟨g1, h⟩ := h
    refine b_getSc dJ0_isLatin1_7 q2605 g1 ?_
    refine b_if_ne 17 dJ0_isLatin1_10 (by decide) (by decide) (fun c2 => ?_) (fun c2 => ?_)
    · have h := ifF c2 h
      refine b_iconst dJ0_isLatin1_17 ?_
      exact b_zret dJ0_isLatin1_18 rfl (Or.inl rfl) h
    · have h := ifT (Decidable.of_not_not c2) h
      refine b_iconst dJ0_isLatin1_13 ?_
      refine b_goto 18 dJ0_isLatin1_14 (by decide) ?_
      exact b_zret dJ0_isLatin1_18 rfl (Or.inr rfl) h
theorem dJ0_coder_0 : decode cJ0_coder 0 = .ok (.getstatic 38, 3) := by decide +kernel
theorem dJ0_coder_3 : decode cJ0_coder 3 = .ok (.ifCond .eq 10, 3) := by decide +kernel
theorem dJ0_coder_6 : decode cJ0_coder 6 = .ok (.aload_n 0, 1) := by decide +kernel
theorem dJ0_coder_7 : decode cJ0_coder 7 = .ok (.getfield 15, 3) := by decide +kernel
theorem dJ0_coder_10 : decode cJ0_coder 10 = .ok (.goto 4, 3) := by decide +kernel
theorem dJ0_coder_13 : decode cJ0_coder 13 = .ok (.iconst 1, 1) := by decide +kernel
theorem dJ0_coder_14 : decode cJ0_coder 14 = .ok (.ireturn, 1) := by decide +kernel
/-! java/lang/String.coder()B -/
def P_J0_coder (x0 : Int) (m : MM) (Q : Int → MM → Prop) : Prop := (if (1 : Int) = 0 then Q 1 m else (isSt x0) ∧ Q 0 m)
theorem p_J0_coder {f : Nat} {Q : Int → MM → Prop} {T : MM → Prop} (hf : 1 ≤ f) (x0 : Int) (m : MM) (h : P_J0_coder x0 m Q) : CC f M_J0_coder [vR x0] m Q T := by
  refine CC.of (by decide +kernel) (Nat.le_of_ble_eq_true rfl) (ls := [vR x0]) rfl ?_
  have h : (if (1 : Int) = 0 then Q 1 m else (isSt x0) ∧ Q 0 m) := h
  refine b_getsZ dJ0_coder_0 q793 ?_
  refine b_if_eq 13 dJ0_coder_3 (by decide) (by decide) (fun c1 => ?_) (fun c1 => ?_)
  · have h := ifT c1 h
    refine b_iconst dJ0_coder_13 ?_
    exact b_bret dJ0_coder_14 rfl (by decide) h
  · have h := ifF c1 h
    refine b_aload_n dJ0_coder_6 rfl ?_
    obtain ⟨g1, h⟩ := h
    refine b_getSc dJ0_coder_7 q2605 g1 ?_
    refine b_goto 14 dJ0_coder_10 (by decide) ?_
    exact b_bret dJ0_coder_14 rfl (by decide) h
theorem dJ0_length_0 : decode cJ0_length 0 = .ok (.aload_n 0, 1) := by decide +kernel
theorem dJ0_length_1 : decode cJ0_length 1 = .ok (.getfield 9, 3) := by decide +kernel
theorem dJ0_length_4 : decode cJ0_length 4 = .ok (.arraylength, 1) := by decide +kernel
theorem dJ0_length_5 : decode cJ0_length 5 = .ok (.aload_n 0, 1) := by decide +kernel
theorem dJ0_length_6 : decode cJ0_length 6 = .ok (.invokevirtual 335, 3) := by decide +kernel
theorem dJ0_length_9 : decode cJ0_length 9 = .ok (.ishr, 1) := by decide +kernel
theorem dJ0_length_10 : decode cJ0_length 10 = .ok (.ireturn, 1) := by decide +kernel
/-! java/lang/String.length()I -/
def P_J0_length (x0 : Int) (m : MM) (Q : Int → MM → Prop) : Prop := (isSt x0) ∧ (isSt ((x0 - 10) + 10)) ∧ P_J0_coder x0 m (fun r1 m1 => Q (iShr (sLen ((x0 - 10) + 10)) r1) m1)
theorem p_J0_length {f : Nat} {Q : Int → MM → Prop} {T : MM → Prop} (hf : 2 ≤ f) (x0 : Int) (m : MM) (h : P_J0_length x0 m Q) : CC f M_J0_length [vR x0] m Q T := by
  refine CC.of (by decide +kernel) (Nat.le_of_ble_eq_true rfl) (ls := [vR x0]) rfl ?_
  have h : (isSt x0) ∧ (isSt ((x0 - 10) + 10)) ∧ P_J0_coder x0 m (fun r1 m1 => Q (iShr (sLen ((x0 - 10) + 10)) r1) m1) := h
  refine b_aload_n dJ0_length_0 rfl ?_
  obtain ⟨g1, h⟩ := h
  refine b_getSv dJ0_length_1 q2604 g1 ?_
  obtain ⟨g2, h⟩ := h
  refine b_lenS dJ0_length_4 g2 ?_
  refine b_aload_n dJ0_length_5 rfl ?_
  refine b_cO (as := []) (st := [vI (sLen ((x0 - 10) + 10))]) dJ0_length_6 mf_J0_coder q791 q789 g1 rfl (p_J0_coder (f := 1) (Nat.le_refl _) _ _ h) (by omega) rfl rfl (Nat.le_of_ble_eq_true rfl) (by decide) rfl (fun _ => rfl) (fun r1 m1 h => ?_) (fun _ h => h)
  refine b_ishr dJ0_length_9 ?_
  exact b_iret dJ0_length_10 rfl h
theorem dJ1_canEncode_0 : decode cJ1_canEncode 0 = .ok (.iload_n 0, 1) := by decide +kernel
theorem dJ1_canEncode_1 : decode cJ1_canEncode 1 = .ok (.ifCond .lt 14, 3) := by decide +kernel
theorem dJ1_canEncode_4 : decode cJ1_canEncode 4 = .ok (.iload_n 0, 1) := by decide +kernel
theorem dJ1_canEncode_5 : decode cJ1_canEncode 5 = .ok (.sipush 255, 3) := by decide +kernel
theorem dJ1_canEncode_8 : decode cJ1_canEncode 8 = .ok (.if_icmp .gt 7, 3) := by decide +kernel
theorem dJ1_canEncode_11 : decode cJ1_canEncode 11 = .ok (.iconst 1, 1) := by decide +kernel
theorem dJ1_canEncode_12 : decode cJ1_canEncode 12 = .ok (.goto 4, 3) := by decide +kernel
theorem dJ1_canEncode_15 : decode cJ1_canEncode 15 = .ok (.iconst 0, 1) := by decide +kernel
theorem dJ1_canEncode_16 : decode cJ1_canEncode 16 = .ok (.ireturn, 1) := by decide +kernel
/-! java/lang/StringLatin1.canEncode(I)Z -/
def P_J1_canEncode (x0 : Int) (m : MM) (Q : Int → MM → Prop) : Prop := (RI x0) ∧ (if x0 < 0 then Q 0 m else (if 255 < x0 then Q 0 m else Q 1 m))
theorem p_J1_canEncode {f : Nat} {Q : Int → MM → Prop} {T : MM → Prop} (hf : 1 ≤ f) (x0 : Int) (m : MM) (h : P_J1_canEncode x0 m Q) : CC f M_J1_canEncode [vI x0] m Q T := by
  refine CC.of (by decide +kernel) (Nat.le_of_ble_eq_true rfl) (ls := [vI x0]) rfl ?_
  have h : (RI x0) ∧ (if x0 < 0 then Q 0 m else (if 255 < x0 then Q 0 m else Q 1 m)) := h
  refine b_iload_n dJ1_canEncode_0 rfl ?_
  obtain ⟨g1, h⟩ := h
  refine b_if_lt 15 dJ1_canEncode_1 g1 (by decide) (fun c1 => ?_) (fun c1 => ?_)
  · have h := ifT c1 h
    refine b_iconst dJ1_canEncode_15 ?_
    exact b_zret dJ1_canEncode_16 rfl (Or.inl rfl) h
  · have h := ifF c1 h
    refine b_iload_n dJ1_canEncode_4 rfl ?_
    refine b_sipush dJ1_canEncode_5 (by decide) ?_
    refine b_icmp_gt 15 dJ1_canEncode_8 g1 (by decide) (by decide) (fun c2 => ?_) (fun c2 => ?_)
    · have h := ifT c2 h
      refine b_iconst dJ1_canEncode_15 ?_
      exact b_zret dJ1_canEncode_16 rfl (Or.inl rfl) h
    · have h := ifF c2 h
      refine b_iconst dJ1_canEncode_11 ?_
      refine b_goto 16 dJ1_canEncode_12 (by decide) ?_
      exact b_zret dJ1_canEncode_16 rfl (Or.inr rfl) h
theorem dJ1_indexOfChar_0 : decode cJ1_indexOfChar 0 = .ok (.iload_n 1, 1) := by decide +kernel
theorem dJ1_indexOfChar_1 : decode cJ1_indexOfChar 1 = .ok (.i2b, 1) := by decide +kernel
theorem dJ1_indexOfChar_2 : decode cJ1_indexOfChar 2 = .ok (.istore 4, 2) := by decide +kernel
theorem dJ1_indexOfChar_4 : decode cJ1_indexOfChar 4 = .ok (.iload_n 2, 1) := by decide +kernel
theorem dJ1_indexOfChar_5 : decode cJ1_indexOfChar 5 = .ok (.istore 5, 2) := by decide +kernel
theorem dJ1_indexOfChar_7 : decode cJ1_indexOfChar 7 = .ok (.iload 5, 2) := by decide +kernel
theorem dJ1_indexOfChar_9 : decode cJ1_indexOfChar 9 = .ok (.iload_n 3, 1) := by decide +kernel
theorem dJ1_indexOfChar_10 : decode cJ1_indexOfChar 10 = .ok (.if_icmp .ge 21, 3) := by decide +kernel
theorem dJ1_indexOfChar_13 : decode cJ1_indexOfChar 13 = .ok (.aload_n 0, 1) := by decide +kernel
theorem dJ1_indexOfChar_14 : decode cJ1_indexOfChar 14 = .ok (.iload 5, 2) := by decide +kernel
theorem dJ1_indexOfChar_16 : decode cJ1_indexOfChar 16 = .ok (.baload, 1) := by decide +kernel
theorem dJ1_indexOfChar_17 : decode cJ1_indexOfChar 17 = .ok (.iload 4, 2) := by decide +kernel
theorem dJ1_indexOfChar_19 : decode cJ1_indexOfChar 19 = .ok (.if_icmp .ne 6, 3) := by decide +kernel
theorem dJ1_indexOfChar_22 : decode cJ1_indexOfChar 22 = .ok (.iload 5, 2) := by decide +kernel
theorem dJ1_indexOfChar_24 : decode cJ1_indexOfChar 24 = .ok (.ireturn, 1) := by decide +kernel
theorem dJ1_indexOfChar_25 : decode cJ1_indexOfChar 25 = .ok (.iinc 5 1, 3) := by decide +kernel
theorem dJ1_indexOfChar_28 : decode cJ1_indexOfChar 28 = .ok (.goto (-21), 3) := by decide +kernel
theorem dJ1_indexOfChar_31 : decode cJ1_indexOfChar 31 = .ok (.iconst (-1), 1) := by decide +kernel
theorem dJ1_indexOfChar_32 : decode cJ1_indexOfChar 32 = .ok (.ireturn, 1) := by decide +kernel
/-! java/lang/StringLatin1.indexOfChar([BIII)I -/
def P_J1_indexOfChar_7 (Q : Int → MM → Prop) : Nat → Int → Int → Int → Int → MM → Prop
  | 0, _, _, _, _, _ => False
  | n + 1, x0, x3, x4, x5, m => (RI x5) ∧ (RI x3) ∧ (if x3 ≤ x5 then Q (-1) m else (isSt (x0 + 10)) ∧ (0 ≤ x5 ∧ x5 < sLen (x0 + 10)) ∧ (RI (sBy (x0 + 10) x5)) ∧ (RI x4) ∧ (if (sBy (x0 + 10) x5) = x4 then Q x5 m else P_J1_indexOfChar_7 Q n x0 x3 x4 (x5 + 1) m))
def P_J1_indexOfChar (x0 : Int) (x1 : Int) (x2 : Int) (x3 : Int) (m : MM) (Q : Int → MM → Prop) : Prop := ∃ nn, P_J1_indexOfChar_7 Q nn x0 x3 (i2B x1) x2 m
theorem pl_J1_indexOfChar_7 {f : Nat} {Q : Int → MM → Prop} {T : MM → Prop} (hf : 1 ≤ f) : ∀ (n : Nat) (x0 : Int) (x3 : Int) (x4 : Int) (x5 : Int) (m : MM), P_J1_indexOfChar_7 Q n x0 x3 x4 x5 m → B f M_J1_indexOfChar 7 [vR x0, vU, vU, vI x3, vI x4, vI x5] [] m Q T := by
  intro n
  induction n with
  | zero => intro x0 x3 x4 x5 m h; exact h.elim
  | succ n ih =>
    intro x0 x3 x4 x5 m h
    have h : (RI x5) ∧ (RI x3) ∧ (if x3 ≤ x5 then Q (-1) m else (isSt (x0 + 10)) ∧ (0 ≤ x5 ∧ x5 < sLen (x0 + 10)) ∧ (RI (sBy (x0 + 10) x5)) ∧ (RI x4) ∧ (if (sBy (x0 + 10) x5) = x4 then Q x5 m else P_J1_indexOfChar_7 Q n x0 x3 x4 (x5 + 1) m)) := h
    refine b_iload dJ1_indexOfChar_7 rfl ?_
    refine b_iload_n dJ1_indexOfChar_9 rfl ?_
    obtain ⟨g1, h⟩ := h
    obtain ⟨g2, h⟩ := h
    refine b_icmp_ge 31 dJ1_indexOfChar_10 g1 g2 (by decide) (fun c1 => ?_) (fun c1 => ?_)
    · have h := ifT c1 h
      refine b_iconst dJ1_indexOfChar_31 ?_
      exact b_iret dJ1_indexOfChar_32 rfl h
    · have h := ifF c1 h
      refine b_aload_n dJ1_indexOfChar_13 rfl ?_
      refine b_iload dJ1_indexOfChar_14 rfl ?_
      obtain ⟨g3, h⟩ := h
      obtain ⟨g4, h⟩ := h
      refine b_baldS dJ1_indexOfChar_16 g3 g4 ?_
      refine b_iload dJ1_indexOfChar_17 rfl ?_
      obtain ⟨g5, h⟩ := h
      obtain ⟨g6, h⟩ := h
      refine b_icmp_ne 25 dJ1_indexOfChar_19 g5 g6 (by decide) (fun c2 => ?_) (fun c2 => ?_)
      · have h := ifF c2 h
        refine b_iinc (ls' := [vR x0, vU, vU, vI x3, vI x4, vI (x5 + 1)]) dJ1_indexOfChar_25 rfl rfl ?_
        refine b_goto 7 dJ1_indexOfChar_28 (by decide) ?_
        exact ih _ _ _ _ _ h
      · have h := ifT (Decidable.of_not_not c2) h
        refine b_iload dJ1_indexOfChar_22 rfl ?_
        exact b_iret dJ1_indexOfChar_24 rfl h
theorem p_J1_indexOfChar {f : Nat} {Q : Int → MM → Prop} {T : MM → Prop} (hf : 1 ≤ f) (x0 : Int) (x1 : Int) (x2 : Int) (x3 : Int) (m : MM) (h : P_J1_indexOfChar x0 x1 x2 x3 m Q) : CC f M_J1_indexOfChar [vR x0, vI x1, vI x2, vI x3] m Q T := by
  refine CC.of (by decide +kernel) (Nat.le_of_ble_eq_true rfl) (ls := [vR x0, vI x1, vI x2, vI x3, vU, vU]) rfl ?_
  have h : ∃ nn, P_J1_indexOfChar_7 Q nn x0 x3 (i2B x1) x2 m := h
  refine b_iload_n dJ1_indexOfChar_0 rfl ?_
  refine b_i2b dJ1_indexOfChar_1 ?_
  refine b_istore (ls' := [vR x0, vI x1, vI x2, vI x3, vI (i2B x1), vU]) dJ1_indexOfChar_2 (Nat.le_of_ble_eq_true rfl) rfl ?_
  refine b_iload_n dJ1_indexOfChar_4 rfl ?_
  refine b_istore (ls' := [vR x0, vI x1, vI x2, vI x3, vI (i2B x1), vI x2]) dJ1_indexOfChar_5 (Nat.le_of_ble_eq_true rfl) rfl ?_
  refine b_fgt [true, false, false, true, true, true] (ls' := [vR x0, vU, vU, vI x3, vI (i2B x1), vI x2]) rfl rfl ?_
  obtain ⟨nn, h⟩ := h
  exact pl_J1_indexOfChar_7 hf nn _ _ _ _ _ h
theorem dJ1_indexOf_0 : decode cJ1_indexOf 0 = .ok (.iload_n 1, 1) := by decide +kernel
theorem dJ1_indexOf_1 : decode cJ1_indexOf 1 = .ok (.invokestatic 88, 3) := by decide +kernel
theorem dJ1_indexOf_4 : decode cJ1_indexOf 4 = .ok (.ifCond .ne 5, 3) := by decide +kernel
theorem dJ1_indexOf_7 : decode cJ1_indexOf 7 = .ok (.iconst (-1), 1) := by decide +kernel
theorem dJ1_indexOf_8 : decode cJ1_indexOf 8 = .ok (.ireturn, 1) := by decide +kernel
theorem dJ1_indexOf_9 : decode cJ1_indexOf 9 = .ok (.iload_n 2, 1) := by decide +kernel
theorem dJ1_indexOf_10 : decode cJ1_indexOf 10 = .ok (.iconst 0, 1) := by decide +kernel
theorem dJ1_indexOf_11 : decode cJ1_indexOf 11 = .ok (.invokestatic 92, 3) := by decide +kernel
theorem dJ1_indexOf_14 : decode cJ1_indexOf 14 = .ok (.istore_n 2, 1) := by decide +kernel
theorem dJ1_indexOf_15 : decode cJ1_indexOf 15 = .ok (.iload_n 3, 1) := by decide +kernel
theorem dJ1_indexOf_16 : decode cJ1_indexOf 16 = .ok (.aload_n 0, 1) := by decide +kernel
theorem dJ1_indexOf_17 : decode cJ1_indexOf 17 = .ok (.arraylength, 1) := by decide +kernel
theorem dJ1_indexOf_18 : decode cJ1_indexOf 18 = .ok (.invokestatic 38, 3) := by decide +kernel
theorem dJ1_indexOf_21 : decode cJ1_indexOf 21 = .ok (.istore_n 3, 1) := by decide +kernel
theorem dJ1_indexOf_22 : decode cJ1_indexOf 22 = .ok (.iload_n 2, 1) := by decide +kernel
theorem dJ1_indexOf_23 : decode cJ1_indexOf 23 = .ok (.iload_n 3, 1) := by decide +kernel
theorem dJ1_indexOf_24 : decode cJ1_indexOf 24 = .ok (.if_icmp .lt 5, 3) := by decide +kernel
theorem dJ1_indexOf_27 : decode cJ1_indexOf 27 = .ok (.iconst (-1), 1) := by decide +kernel
theorem dJ1_indexOf_28 : decode cJ1_indexOf 28 = .ok (.ireturn, 1) := by decide +kernel
theorem dJ1_indexOf_29 : decode cJ1_indexOf 29 = .ok (.aload_n 0, 1) := by decide +kernel
theorem dJ1_indexOf_30 : decode cJ1_indexOf 30 = .ok (.iload_n 1, 1) := by decide +kernel
theorem dJ1_indexOf_31 : decode cJ1_indexOf 31 = .ok (.iload_n 2, 1) := by decide +kernel
theorem dJ1_indexOf_32 : decode cJ1_indexOf 32 = .ok (.iload_n 3, 1) := by decide +kernel
theorem dJ1_indexOf_33 : decode cJ1_indexOf 33 = .ok (.invokestatic 95, 3) := by decide +kernel
theorem dJ1_indexOf_36 : decode cJ1_indexOf 36 = .ok (.ireturn, 1) := by decide +kernel
/-! java/lang/StringLatin1.indexOf([BIII)I -/
def P_J1_indexOf (x0 : Int) (x1 : Int) (x2 : Int) (x3 : Int) (m : MM) (Q : Int → MM → Prop) : Prop := P_J1_canEncode x1 m (fun r1 m1 => (RI r1) ∧ (if r1 = 0 then Q (-1) m1 else P_J4_max x2 0 m1 (fun r2 m2 => (isSt (x0 + 10)) ∧ P_J4_min x3 (sLen (x0 + 10)) m2 (fun r3 m3 => (RI r2) ∧ (RI r3) ∧ (if r2 < r3 then P_J1_indexOfChar x0 x1 r2 r3 m3 (fun r4 m4 => Q r4 m4) else Q (-1) m3)))))
theorem p_J1_indexOf {f : Nat} {Q : Int → MM → Prop} {T : MM → Prop} (hf : 2 ≤ f) (x0 : Int) (x1 : Int) (x2 : Int) (x3 : Int) (m : MM) (h : P_J1_indexOf x0 x1 x2 x3 m Q) : CC f M_J1_indexOf [vR x0, vI x1, vI x2, vI x3] m Q T := by
  refine CC.of (by decide +kernel) (Nat.le_of_ble_eq_true rfl) (ls := [vR x0, vI x1, vI x2, vI x3]) rfl ?_
  have h : P_J1_canEncode x1 m (fun r1 m1 => (RI r1) ∧ (if r1 = 0 then Q (-1) m1 else P_J4_max x2 0 m1 (fun r2 m2 => (isSt (x0 + 10)) ∧ P_J4_min x3 (sLen (x0 + 10)) m2 (fun r3 m3 => (RI r2) ∧ (RI r3) ∧ (if r2 < r3 then P_J1_indexOfChar x0 x1 r2 r3 m3 (fun r4 m4 => Q r4 m4) else Q (-1) m3))))) := h
  refine b_iload_n dJ1_indexOf_0 rfl ?_
  refine b_cSi (as := [vI x1]) (st := []) dJ1_indexOf_1 mf_J1_canEncode lk_J1_88 (p_J1_canEncode (f := 1) (Nat.le_refl _) _ _ h) (by omega) rfl rfl (Nat.le_of_ble_eq_true rfl) (by decide) rfl (fun _ => rfl) (fun r1 m1 h => ?_) (fun _ h => h)
  obtain ⟨g1, h⟩ := h
  refine b_if_ne 9 dJ1_indexOf_4 g1 (by decide) (fun c1 => ?_) (fun c1 => ?_)
  · have h := ifF c1 h
    refine b_iload_n dJ1_indexOf_9 rfl ?_
    refine b_iconst dJ1_indexOf_10 ?_
    refine b_cSi (as := [vI x2, vI 0]) (st := []) dJ1_indexOf_11 mf_J4_max lk_J1_92 (p_J4_max (f := 1) (Nat.le_refl _) _ _ _ h) (by omega) rfl rfl (Nat.le_of_ble_eq_true rfl) (by decide) rfl (fun _ => rfl) (fun r2 m2 h => ?_) (fun _ h => h)
    refine b_istore_n (ls' := [vR x0, vI x1, vI r2, vI x3]) dJ1_indexOf_14 (Nat.le_of_ble_eq_true rfl) rfl ?_
    refine b_iload_n dJ1_indexOf_15 rfl ?_
    refine b_aload_n dJ1_indexOf_16 rfl ?_
    obtain ⟨g2, h⟩ := h
    refine b_lenS dJ1_indexOf_17 g2 ?_
    refine b_cSi (as := [vI x3, vI (sLen (x0 + 10))]) (st := []) dJ1_indexOf_18 mf_J4_min lk_J1_38 (p_J4_min (f := 1) (Nat.le_refl _) _ _ _ h) (by omega) rfl rfl (Nat.le_of_ble_eq_true rfl) (by decide) rfl (fun _ => rfl) (fun r3 m3 h => ?_) (fun _ h => h)
    refine b_istore_n (ls' := [vR x0, vI x1, vI r2, vI r3]) dJ1_indexOf_21 (Nat.le_of_ble_eq_true rfl) rfl ?_
    refine b_iload_n dJ1_indexOf_22 rfl ?_
    refine b_iload_n dJ1_indexOf_23 rfl ?_
    obtain ⟨g3, h⟩ := h
    obtain ⟨g4, h⟩ := h
    refine b_icmp_lt 29 dJ1_indexOf_24 g3 g4 (by decide) (fun c2 => ?_) (fun c2 => ?_)
    · have h := ifT c2 h
      refine b_aload_n dJ1_indexOf_29 rfl ?_
      refine b_iload_n dJ1_indexOf_30 rfl ?_
      refine b_iload_n dJ1_indexOf_31 rfl ?_
      refine b_iload_n dJ1_indexOf_32 rfl ?_
      refine b_cSi (as := [vR x0, vI x1, vI r2, vI r3]) (st := []) dJ1_indexOf_33 mf_J1_indexOfChar lk_J1_95 (p_J1_indexOfChar (f := 1) (Nat.le_refl _) _ _ _ _ _ h) (by omega) rfl rfl (Nat.le_of_ble_eq_true rfl) (by decide) rfl (fun _ => rfl) (fun r4 m4 h => ?_) (fun _ h => h)
      exact b_iret dJ1_indexOf_36 rfl h
    · have h := ifF c2 h
      refine b_iconst dJ1_indexOf_27 ?_
      exact b_iret dJ1_indexOf_28 rfl h
  · have h := ifT (Decidable.of_not_not c1) h
    refine b_iconst dJ1_indexOf_7 ?_
    exact b_iret dJ1_indexOf_8 rfl h
theorem dJ0_indexOf_2_0 : decode cJ0_indexOf_2 0 = .ok (.aload_n 0, 1) := by decide +kernel
theorem dJ0_indexOf_2_1 : decode cJ0_indexOf_2 1 = .ok (.invokevirtual 492, 3) := by decide +kernel
theorem dJ0_indexOf_2_4 : decode cJ0_indexOf_2 4 = .ok (.ifCond .eq 19, 3) := by decide +kernel
theorem dJ0_indexOf_2_7 : decode cJ0_indexOf_2 7 = .ok (.aload_n 0, 1) := by decide +kernel
theorem dJ0_indexOf_2_8 : decode cJ0_indexOf_2 8 = .ok (.getfield 9, 3) := by decide +kernel
theorem dJ0_indexOf_2_11 : decode cJ0_indexOf_2 11 = .ok (.iload_n 1, 1) := by decide +kernel
theorem dJ0_indexOf_2_12 : decode cJ0_indexOf_2 12 = .ok (.iload_n 2, 1) := by decide +kernel
theorem dJ0_indexOf_2_13 : decode cJ0_indexOf_2 13 = .ok (.aload_n 0, 1) := by decide +kernel
theorem dJ0_indexOf_2_14 : decode cJ0_indexOf_2 14 = .ok (.invokevirtual 505, 3) := by decide +kernel
theorem dJ0_indexOf_2_17 : decode cJ0_indexOf_2 17 = .ok (.invokestatic 637, 3) := by decide +kernel
theorem dJ0_indexOf_2_20 : decode cJ0_indexOf_2 20 = .ok (.goto 16, 3) := by decide +kernel
theorem dJ0_indexOf_2_23 : decode cJ0_indexOf_2 23 = .ok (.aload_n 0, 1) := by decide +kernel
theorem dJ0_indexOf_2_24 : decode cJ0_indexOf_2 24 = .ok (.getfield 9, 3) := by decide +kernel
theorem dJ0_indexOf_2_27 : decode cJ0_indexOf_2 27 = .ok (.iload_n 1, 1) := by decide +kernel
theorem dJ0_indexOf_2_28 : decode cJ0_indexOf_2 28 = .ok (.iload_n 2, 1) := by decide +kernel
theorem dJ0_indexOf_2_29 : decode cJ0_indexOf_2 29 = .ok (.aload_n 0, 1) := by decide +kernel
theorem dJ0_indexOf_2_30 : decode cJ0_indexOf_2 30 = .ok (.invokevirtual 505, 3) := by decide +kernel
theorem dJ0_indexOf_2_33 : decode cJ0_indexOf_2 33 = .ok (.invokestatic 640, 3) := by decide +kernel
theorem dJ0_indexOf_2_36 : decode cJ0_indexOf_2 36 = .ok (.ireturn, 1) := by decide +kernel
/-! java/lang/String.indexOf(II)I -/
def P_J0_indexOf_2 (x0 : Int) (x1 : Int) (x2 : Int) (m : MM) (Q : Int → MM → Prop) : Prop := (isSt x0) ∧ P_J0_isLatin1 x0 m (fun r1 m1 => (RI r1) ∧ (if r1 = 0 then P_J0_length x0 m1 (fun r2 m2 => False) else P_J0_length x0 m1 (fun r3 m3 => P_J1_indexOf (x0 - 10) x1 x2 r3 m3 (fun r4 m4 => Q r4 m4))))
theorem p_J0_indexOf_2 {f : Nat} {Q : Int → MM → Prop} {T : MM → Prop} (hf : 3 ≤ f) (x0 : Int) (x1 : Int) (x2 : Int) (m : MM) (h : P_J0_indexOf_2 x0 x1 x2 m Q) : CC f M_J0_indexOf_2 [vR x0, vI x1, vI x2] m Q T := by
  refine CC.of (by decide +kernel) (Nat.le_of_ble_eq_true rfl) (ls := [vR x0, vI x1, vI x2]) rfl ?_
  have h : (isSt x0) ∧ P_J0_isLatin1 x0 m (fun r1 m1 => (RI r1) ∧ (if r1 = 0 then P_J0_length x0 m1 (fun r2 m2 => False) else P_J0_length x0 m1 (fun r3 m3 => P_J1_indexOf (x0 - 10) x1 x2 r3 m3 (fun r4 m4 => Q r4 m4)))) := h
  refine b_aload_n dJ0_indexOf_2_0 rfl ?_
  obtain ⟨g1, h⟩ := h
  refine b_cO (as := []) (st := []) dJ0_indexOf_2_1 mf_J0_isLatin1 q801 q799 g1 rfl (p_J0_isLatin1 (f := 1) (Nat.le_refl _) _ _ h) (by omega) rfl rfl (Nat.le_of_ble_eq_true rfl) (by decide) rfl (fun _ => rfl) (fun r1 m1 h => ?_) (fun _ h => h)
  obtain ⟨g2, h⟩ := h
  refine b_if_eq 23 dJ0_indexOf_2_4 g2 (by decide) (fun c1 => ?_) (fun c1 => ?_)
  · have h := ifT c1 h
    refine b_aload_n dJ0_indexOf_2_23 rfl ?_
    refine b_getSv dJ0_indexOf_2_24 q2604 g1 ?_
    refine b_iload_n dJ0_indexOf_2_27 rfl ?_
    refine b_iload_n dJ0_indexOf_2_28 rfl ?_
    refine b_aload_n dJ0_indexOf_2_29 rfl ?_
    refine b_cO (as := []) (st := [vI x2, vI x1, vR (x0 - 10)]) dJ0_indexOf_2_30 mf_J0_length q787 q854 g1 rfl (p_J0_length (f := 2) (Nat.le_refl _) _ _ h) (by omega) rfl rfl (Nat.le_of_ble_eq_true rfl) (by decide) rfl (fun _ => rfl) (fun r2 m2 h => ?_) (fun _ h => h)
    exact h.elim
  · have h := ifF c1 h
    refine b_aload_n dJ0_indexOf_2_7 rfl ?_
    refine b_getSv dJ0_indexOf_2_8 q2604 g1 ?_
    refine b_iload_n dJ0_indexOf_2_11 rfl ?_
    refine b_iload_n dJ0_indexOf_2_12 rfl ?_
    refine b_aload_n dJ0_indexOf_2_13 rfl ?_
    refine b_cO (as := []) (st := [vI x2, vI x1, vR (x0 - 10)]) dJ0_indexOf_2_14 mf_J0_length q787 q854 g1 rfl (p_J0_length (f := 2) (Nat.le_refl _) _ _ h) (by omega) rfl rfl (Nat.le_of_ble_eq_true rfl) (by decide) rfl (fun _ => rfl) (fun r3 m3 h => ?_) (fun _ h => h)
    refine b_cSi (as := [vR (x0 - 10), vI x1, vI x2, vI r3]) (st := []) dJ0_indexOf_2_17 mf_J1_indexOf lk_J0_637 (p_J1_indexOf (f := 2) (Nat.le_refl _) _ _ _ _ _ h) (by omega) rfl rfl (Nat.le_of_ble_eq_true rfl) (by decide) rfl (fun _ => rfl) (fun r4 m4 h => ?_) (fun _ h => h)
    refine b_goto 36 dJ0_indexOf_2_20 (by decide) ?_
    exact b_iret dJ0_indexOf_2_36 rfl h
theorem dJ0_indexOf_0 : decode cJ0_indexOf 0 = .ok (.aload_n 0, 1) := by decide +kernel
theorem dJ0_indexOf_1 : decode cJ0_indexOf 1 = .ok (.iload_n 1, 1) := by decide +kernel
theorem dJ0_indexOf_2 : decode cJ0_indexOf 2 = .ok (.iconst 0, 1) := by decide +kernel
theorem dJ0_indexOf_3 : decode cJ0_indexOf 3 = .ok (.invokevirtual 633, 3) := by decide +kernel
theorem dJ0_indexOf_6 : decode cJ0_indexOf 6 = .ok (.ireturn, 1) := by decide +kernel
/-! java/lang/String.indexOf(I)I -/
def P_J0_indexOf (x0 : Int) (x1 : Int) (m : MM) (Q : Int → MM → Prop) : Prop := (isSt x0) ∧ P_J0_indexOf_2 x0 x1 0 m (fun r1 m1 => Q r1 m1)
theorem p_J0_indexOf {f : Nat} {Q : Int → MM → Prop} {T : MM → Prop} (hf : 4 ≤ f) (x0 : Int) (x1 : Int) (m : MM) (h : P_J0_indexOf x0 x1 m Q) : CC f M_J0_indexOf [vR x0, vI x1] m Q T := by
  refine CC.of (by decide +kernel) (Nat.le_of_ble_eq_true rfl) (ls := [vR x0, vI x1]) rfl ?_
  have h : (isSt x0) ∧ P_J0_indexOf_2 x0 x1 0 m (fun r1 m1 => Q r1 m1) := h
  refine b_aload_n dJ0_indexOf_0 rfl ?_
  refine b_iload_n dJ0_indexOf_1 rfl ?_
  refine b_iconst dJ0_indexOf_2 ?_
  obtain ⟨g1, h⟩ := h
  refine b_cO (as := [vI x1, vI 0]) (st := []) dJ0_indexOf_3 mf_J0_indexOf_2 q852 q850 g1 rfl (p_J0_indexOf_2 (f := 3) (Nat.le_refl _) _ _ _ _ h) (by omega) rfl rfl (Nat.le_of_ble_eq_true rfl) (by decide) rfl (fun _ => rfl) (fun r1 m1 h => ?_) (fun _ h => h)
  exact b_iret dJ0_indexOf_6 rfl h
theorem dJ2_checkIndex_0 : decode cJ2_checkIndex 0 = .ok (.iload_n 0, 1) := by decide +kernel
theorem dJ2_checkIndex_1 : decode cJ2_checkIndex 1 = .ok (.ifCond .lt 8, 3) := by decide +kernel
theorem dJ2_checkIndex_4 : decode cJ2_checkIndex 4 = .ok (.iload_n 0, 1) := by decide +kernel
theorem dJ2_checkIndex_5 : decode cJ2_checkIndex 5 = .ok (.iload_n 1, 1) := by decide +kernel
theorem dJ2_checkIndex_6 : decode cJ2_checkIndex 6 = .ok (.if_icmp .lt 10, 3) := by decide +kernel
theorem dJ2_checkIndex_9 : decode cJ2_checkIndex 9 = .ok (.aload_n 2, 1) := by decide +kernel
theorem dJ2_checkIndex_10 : decode cJ2_checkIndex 10 = .ok (.iload_n 0, 1) := by decide +kernel
theorem dJ2_checkIndex_11 : decode cJ2_checkIndex 11 = .ok (.iload_n 1, 1) := by decide +kernel
theorem dJ2_checkIndex_12 : decode cJ2_checkIndex 12 = .ok (.invokestatic 95, 3) := by decide +kernel
theorem dJ2_checkIndex_15 : decode cJ2_checkIndex 15 = .ok (.athrow, 1) := by decide +kernel
theorem dJ2_checkIndex_16 : decode cJ2_checkIndex 16 = .ok (.iload_n 0, 1) := by decide +kernel
theorem dJ2_checkIndex_17 : decode cJ2_checkIndex 17 = .ok (.ireturn, 1) := by decide +kernel
/-! jdk/internal/util/Preconditions.checkIndex(IILjava/util/function/BiFunction;)I -/
def P_J2_checkIndex_9 (Q : Int → MM → Prop) (T : MM → Prop) (x0 : Int) (x1 : Int) (x2 : Int) (m : MM) : Prop := False
def P_J2_checkIndex (x0 : Int) (x1 : Int) (x2 : Int) (m : MM) (Q : Int → MM → Prop) (T : MM → Prop) : Prop := (RI x0) ∧ (if x0 < 0 then P_J2_checkIndex_9 Q T x0 x1 x2 m else (RI x1) ∧ (if x0 < x1 then Q x0 m else P_J2_checkIndex_9 Q T x0 x1 x2 m))
theorem pl_J2_checkIndex_9 {f : Nat} {Q : Int → MM → Prop} {T : MM → Prop} (hf : 1 ≤ f) : ∀ (x0 : Int) (x1 : Int) (x2 : Int) (m : MM), P_J2_checkIndex_9 Q T x0 x1 x2 m → B f M_J2_checkIndex 9 [vI x0, vI x1, vR x2] [] m Q T := by
  intro x0 x1 x2 m h
  have h : False := h
  refine b_aload_n dJ2_checkIndex_9 rfl ?_
  refine b_iload_n dJ2_checkIndex_10 rfl ?_
  refine b_iload_n dJ2_checkIndex_11 rfl ?_
  exact h.elim
theorem p_J2_checkIndex {f : Nat} {Q : Int → MM → Prop} {T : MM → Prop} (hf : 1 ≤ f) (x0 : Int) (x1 : Int) (x2 : Int) (m : MM) (h : P_J2_checkIndex x0 x1 x2 m Q T) : CC f M_J2_checkIndex [vI x0, vI x1, vR x2] m Q T := by
  refine CC.of (by decide +kernel) (Nat.le_of_ble_eq_true rfl) (ls := [vI x0, vI x1, vR x2]) rfl ?_
  have h : (RI x0) ∧ (if x0 < 0 then P_J2_checkIndex_9 Q T x0 x1 x2 m else (RI x1) ∧ (if x0 < x1 then Q x0 m else P_J2_checkIndex_9 Q T x0 x1 x2 m)) := h
  refine b_iload_n dJ2_checkIndex_0 rfl ?_
  obtain ⟨g1, h⟩ := h
  refine b_if_lt 9 dJ2_checkIndex_1 g1 (by decide) (fun c1 => ?_) (fun c1 => ?_)
  · have h := ifT c1 h
    exact pl_J2_checkIndex_9 hf _ _ _ _ h
  · have h := ifF c1 h
    refine b_iload_n dJ2_checkIndex_4 rfl ?_
    refine b_iload_n dJ2_checkIndex_5 rfl ?_
    obtain ⟨g2, h⟩ := h
    refine b_icmp_lt 16 dJ2_checkIndex_6 g1 g2 (by decide) (fun c2 => ?_) (fun c2 => ?_)
    · have h := ifT c2 h
      refine b_iload_n dJ2_checkIndex_16 rfl ?_
      exact b_iret dJ2_checkIndex_17 rfl h
    · have h := ifF c2 h
      exact pl_J2_checkIndex_9 hf _ _ _ _ h
theorem dJ0_checkIndex_0 : decode cJ0_checkIndex 0 = .ok (.iload_n 0, 1) := by decide +kernel
theorem dJ0_checkIndex_1 : decode cJ0_checkIndex 1 = .ok (.iload_n 1, 1) := by decide +kernel
theorem dJ0_checkIndex_2 : decode cJ0_checkIndex 2 = .ok (.getstatic 1053, 3) := by decide +kernel
theorem dJ0_checkIndex_5 : decode cJ0_checkIndex 5 = .ok (.invokestatic 1059, 3) := by decide +kernel
theorem dJ0_checkIndex_8 : decode cJ0_checkIndex 8 = .ok (.pop, 1) := by decide +kernel
theorem dJ0_checkIndex_9 : decode cJ0_checkIndex 9 = .ok (.return_, 1) := by decide +kernel
/-! java/lang/String.checkIndex(II)V -/
def P_J0_checkIndex (x0 : Int) (x1 : Int) (m : MM) (Q : Int → MM → Prop) (T : MM → Prop) : Prop := ∀ z1 : Int, P_J2_checkIndex x0 x1 z1 m (fun r1 m1 => Q 0 m1) T
theorem p_J0_checkIndex {f : Nat} {Q : Int → MM → Prop} {T : MM → Prop} (hf : 2 ≤ f) (x0 : Int) (x1 : Int) (m : MM) (h : P_J0_checkIndex x0 x1 m Q T) : CC f M_J0_checkIndex [vI x0, vI x1] m Q T := by
  refine CC.of (by decide +kernel) (Nat.le_of_ble_eq_true rfl) (ls := [vI x0, vI x1]) rfl ?_
  have h : ∀ z1 : Int, P_J2_checkIndex x0 x1 z1 m (fun r1 m1 => Q 0 m1) T := h
  refine b_iload_n dJ0_checkIndex_0 rfl ?_
  refine b_iload_n dJ0_checkIndex_1 rfl ?_
  refine b_getsF dJ0_checkIndex_2 q809 (fun z1 => ?_)
  have h := h z1
  refine b_cSi (as := [vI x0, vI x1, vR z1]) (st := []) dJ0_checkIndex_5 mf_J2_checkIndex lk_J0_1059 (p_J2_checkIndex (f := 1) (Nat.le_refl _) _ _ _ _ h) (by omega) rfl rfl (Nat.le_of_ble_eq_true rfl) (by decide) rfl (fun _ => rfl) (fun r1 m1 h => ?_) (fun _ h => h)
  refine b_pop dJ0_checkIndex_8 rfl ?_
  exact b_vret dJ0_checkIndex_9 rfl h
theorem dJ1_charAt_0 : decode cJ1_charAt 0 = .ok (.iload_n 1, 1) := by decide +kernel
theorem dJ1_charAt_1 : decode cJ1_charAt 1 = .ok (.aload_n 0, 1) := by decide +kernel
theorem dJ1_charAt_2 : decode cJ1_charAt 2 = .ok (.arraylength, 1) := by decide +kernel
theorem dJ1_charAt_3 : decode cJ1_charAt 3 = .ok (.invokestatic 9, 3) := by decide +kernel
theorem dJ1_charAt_6 : decode cJ1_charAt 6 = .ok (.aload_n 0, 1) := by decide +kernel
theorem dJ1_charAt_7 : decode cJ1_charAt 7 = .ok (.iload_n 1, 1) := by decide +kernel
theorem dJ1_charAt_8 : decode cJ1_charAt 8 = .ok (.baload, 1) := by decide +kernel
theorem dJ1_charAt_9 : decode cJ1_charAt 9 = .ok (.sipush 255, 3) := by decide +kernel
theorem dJ1_charAt_12 : decode cJ1_charAt 12 = .ok (.iand, 1) := by decide +kernel
theorem dJ1_charAt_13 : decode cJ1_charAt 13 = .ok (.i2c, 1) := by decide +kernel
theorem dJ1_charAt_14 : decode cJ1_charAt 14 = .ok (.ireturn, 1) := by decide +kernel
/-! java/lang/StringLatin1.charAt([BI)C -/
def P_J1_charAt (x0 : Int) (x1 : Int) (m : MM) (Q : Int → MM → Prop) (T : MM → Prop) : Prop := (isSt (x0 + 10)) ∧ P_J0_checkIndex x1 (sLen (x0 + 10)) m (fun r1 m1 => (0 ≤ x1 ∧ x1 < sLen (x0 + 10)) ∧ ((0 : Int) ≤ (i2C (iAnd (sBy (x0 + 10) x1) 255)) ∧ (i2C (iAnd (sBy (x0 + 10) x1) 255)) ≤ 65535) ∧ Q (i2C (iAnd (sBy (x0 + 10) x1) 255)) m1) T
theorem p_J1_charAt {f : Nat} {Q : Int → MM → Prop} {T : MM → Prop} (hf : 3 ≤ f) (x0 : Int) (x1 : Int) (m : MM) (h : P_J1_charAt x0 x1 m Q T) : CC f M_J1_charAt [vR x0, vI x1] m Q T := by
  refine CC.of (by decide +kernel) (Nat.le_of_ble_eq_true rfl) (ls := [vR x0, vI x1]) rfl ?_
  have h : (isSt (x0 + 10)) ∧ P_J0_checkIndex x1 (sLen (x0 + 10)) m (fun r1 m1 => (0 ≤ x1 ∧ x1 < sLen (x0 + 10)) ∧ ((0 : Int) ≤ (i2C (iAnd (sBy (x0 + 10) x1) 255)) ∧ (i2C (iAnd (sBy (x0 + 10) x1) 255)) ≤ 65535) ∧ Q (i2C (iAnd (sBy (x0 + 10) x1) 255)) m1) T := h
  refine b_iload_n dJ1_charAt_0 rfl ?_
  refine b_aload_n dJ1_charAt_1 rfl ?_
  obtain ⟨g1, h⟩ := h
  refine b_lenS dJ1_charAt_2 g1 ?_
  refine b_cSv (as := [vI x1, vI (sLen (x0 + 10))]) (st := []) dJ1_charAt_3 mf_J0_checkIndex lk_J1_9 (p_J0_checkIndex (f := 2) (Nat.le_refl _) _ _ _ h) (by omega) rfl rfl (Nat.le_of_ble_eq_true rfl) (by decide) rfl (fun _ => rfl) (fun r1 m1 h => ?_) (fun _ h => h)
  refine b_aload_n dJ1_charAt_6 rfl ?_
  refine b_iload_n dJ1_charAt_7 rfl ?_
  obtain ⟨g2, h⟩ := h
  refine b_baldS dJ1_charAt_8 g1 g2 ?_
  refine b_sipush dJ1_charAt_9 (by decide) ?_
  refine b_iand dJ1_charAt_12 ?_
  refine b_i2c dJ1_charAt_13 ?_
  obtain ⟨g3, h⟩ := h
  exact b_cret dJ1_charAt_14 rfl g3 h
theorem dJ0_charAt_0 : decode cJ0_charAt 0 = .ok (.aload_n 0, 1) := by decide +kernel
theorem dJ0_charAt_1 : decode cJ0_charAt 1 = .ok (.invokevirtual 492, 3) := by decide +kernel
theorem dJ0_charAt_4 : decode cJ0_charAt 4 = .ok (.ifCond .eq 12, 3) := by decide +kernel
theorem dJ0_charAt_7 : decode cJ0_charAt 7 = .ok (.aload_n 0, 1) := by decide +kernel
theorem dJ0_charAt_8 : decode cJ0_charAt 8 = .ok (.getfield 9, 3) := by decide +kernel
theorem dJ0_charAt_11 : decode cJ0_charAt 11 = .ok (.iload_n 1, 1) := by decide +kernel
theorem dJ0_charAt_12 : decode cJ0_charAt 12 = .ok (.invokestatic 495, 3) := by decide +kernel
theorem dJ0_charAt_15 : decode cJ0_charAt 15 = .ok (.ireturn, 1) := by decide +kernel
theorem dJ0_charAt_16 : decode cJ0_charAt 16 = .ok (.aload_n 0, 1) := by decide +kernel
theorem dJ0_charAt_17 : decode cJ0_charAt 17 = .ok (.getfield 9, 3) := by decide +kernel
theorem dJ0_charAt_20 : decode cJ0_charAt 20 = .ok (.iload_n 1, 1) := by decide +kernel
theorem dJ0_charAt_21 : decode cJ0_charAt 21 = .ok (.invokestatic 498, 3) := by decide +kernel
theorem dJ0_charAt_24 : decode cJ0_charAt 24 = .ok (.ireturn, 1) := by decide +kernel
/-! java/lang/String.charAt(I)C -/
def P_J0_charAt (x0 : Int) (x1 : Int) (m : MM) (Q : Int → MM → Prop) (T : MM → Prop) : Prop := (isSt x0) ∧ P_J0_isLatin1 x0 m (fun r1 m1 => (RI r1) ∧ (if r1 = 0 then False else P_J1_charAt (x0 - 10) x1 m1 (fun r2 m2 => ((0 : Int) ≤ r2 ∧ r2 ≤ 65535) ∧ Q r2 m2) T))
theorem p_J0_charAt {f : Nat} {Q : Int → MM → Prop} {T : MM → Prop} (hf : 4 ≤ f) (x0 : Int) (x1 : Int) (m : MM) (h : P_J0_charAt x0 x1 m Q T) : CC f M_J0_charAt [vR x0, vI x1] m Q T := by
  refine CC.of (by decide +kernel) (Nat.le_of_ble_eq_true rfl) (ls := [vR x0, vI x1]) rfl ?_
  have h : (isSt x0) ∧ P_J0_isLatin1 x0 m (fun r1 m1 => (RI r1) ∧ (if r1 = 0 then False else P_J1_charAt (x0 - 10) x1 m1 (fun r2 m2 => ((0 : Int) ≤ r2 ∧ r2 ≤ 65535) ∧ Q r2 m2) T)) := h
  refine b_aload_n dJ0_charAt_0 rfl ?_
  obtain ⟨g1, h⟩ := h
  refine b_cO (as := []) (st := []) dJ0_charAt_1 mf_J0_isLatin1 q801 q799 g1 rfl (p_J0_isLatin1 (f := 1) (Nat.le_refl _) _ _ h) (by omega) rfl rfl (Nat.le_of_ble_eq_true rfl) (by decide) rfl (fun _ => rfl) (fun r1 m1 h => ?_) (fun _ h => h)
  obtain ⟨g2, h⟩ := h
  refine b_if_eq 16 dJ0_charAt_4 g2 (by decide) (fun c1 => ?_) (fun c1 => ?_)
  · have h := ifT c1 h
    refine b_aload_n dJ0_charAt_16 rfl ?_
    refine b_getSv dJ0_charAt_17 q2604 g1 ?_
    refine b_iload_n dJ0_charAt_20 rfl ?_
    exact h.elim
  · have h := ifF c1 h
    refine b_aload_n dJ0_charAt_7 rfl ?_
    refine b_getSv dJ0_charAt_8 q2604 g1 ?_
    refine b_iload_n dJ0_charAt_11 rfl ?_
    refine b_cSi (as := [vR (x0 - 10), vI x1]) (st := []) dJ0_charAt_12 mf_J1_charAt lk_J0_495 (p_J1_charAt (f := 3) (Nat.le_refl _) _ _ _ h) (by omega) rfl rfl (Nat.le_of_ble_eq_true rfl) (by decide) rfl (fun _ => rfl) (fun r2 m2 h => ?_) (fun _ h => h)
    obtain ⟨g3, h⟩ := h
    exact b_cret dJ0_charAt_15 rfl g3 h
theorem dJ4_max_2_0 : decode cJ4_max_2 0 = .ok (.lload_n 0, 1) := by decide +kernel
theorem dJ4_max_2_1 : decode cJ4_max_2 1 = .ok (.lload_n 2, 1) := by decide +kernel
theorem dJ4_max_2_2 : decode cJ4_max_2 2 = .ok (.lcmp, 1) := by decide +kernel
theorem dJ4_max_2_3 : decode cJ4_max_2 3 = .ok (.ifCond .lt 7, 3) := by decide +kernel
theorem dJ4_max_2_6 : decode cJ4_max_2 6 = .ok (.lload_n 0, 1) := by decide +kernel
theorem dJ4_max_2_7 : decode cJ4_max_2 7 = .ok (.goto 4, 3) := by decide +kernel
theorem dJ4_max_2_10 : decode cJ4_max_2 10 = .ok (.lload_n 2, 1) := by decide +kernel
theorem dJ4_max_2_11 : decode cJ4_max_2 11 = .ok (.lreturn, 1) := by decide +kernel
/-! java/lang/Math.max(JJ)J -/
def P_J4_max_2 (x0 : Int) (x2 : Int) (m : MM) (Q : Int → MM → Prop) : Prop := (RL x0) ∧ (RL x2) ∧ (if x0 < x2 then Q x2 m else Q x0 m)
theorem p_J4_max_2 {f : Nat} {Q : Int → MM → Prop} {T : MM → Prop} (hf : 1 ≤ f) (x0 : Int) (x2 : Int) (m : MM) (h : P_J4_max_2 x0 x2 m Q) : CC f M_J4_max_2 [vL x0, vL x2] m Q T := by
  refine CC.of (by decide +kernel) (Nat.le_of_ble_eq_true rfl) (ls := [vL x0, vU, vL x2, vU]) rfl ?_
  have h : (RL x0) ∧ (RL x2) ∧ (if x0 < x2 then Q x2 m else Q x0 m) := h
  refine b_lload_n dJ4_max_2_0 rfl ?_
  refine b_lload_n dJ4_max_2_1 rfl ?_
  obtain ⟨g1, h⟩ := h
  obtain ⟨g2, h⟩ := h
  refine b_lc_lt 10 dJ4_max_2_2 dJ4_max_2_3 g1 g2 (by decide) (fun c1 => ?_) (fun c1 => ?_)
  · have h := ifT c1 h
    refine b_lload_n dJ4_max_2_10 rfl ?_
    exact b_lret dJ4_max_2_11 rfl h
  · have h := ifF c1 h
    refine b_lload_n dJ4_max_2_6 rfl ?_
    refine b_goto 11 dJ4_max_2_7 (by decide) ?_
    exact b_lret dJ4_max_2_11 rfl h
