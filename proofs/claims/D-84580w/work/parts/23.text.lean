set_option maxRecDepth 100000
theorem dX2_many_0 : decode cX2_many 0 = .ok (.iconst 0, 1) := by decide +kernel
theorem dX2_many_1 : decode cX2_many 1 = .ok (.istore_n 2, 1) := by decide +kernel
theorem dX2_many_2 : decode cX2_many 2 = .ok (.aload_n 0, 1) := by decide +kernel
theorem dX2_many_3 : decode cX2_many 3 = .ok (.getfield 15, 3) := by decide +kernel
theorem dX2_many_6 : decode cX2_many 6 = .ok (.iload_n 1, 1) := by decide +kernel
theorem dX2_many_7 : decode cX2_many 7 = .ok (.iaload, 1) := by decide +kernel
theorem dX2_many_8 : decode cX2_many 8 = .ok (.istore_n 3, 1) := by decide +kernel
theorem dX2_many_9 : decode cX2_many 9 = .ok (.iload_n 3, 1) := by decide +kernel
theorem dX2_many_10 : decode cX2_many 10 = .ok (.iconst (-1), 1) := by decide +kernel
theorem dX2_many_11 : decode cX2_many 11 = .ok (.if_icmp .eq 16, 3) := by decide +kernel
theorem dX2_many_14 : decode cX2_many 14 = .ok (.iinc 2 1, 3) := by decide +kernel
theorem dX2_many_17 : decode cX2_many 17 = .ok (.aload_n 0, 1) := by decide +kernel
theorem dX2_many_18 : decode cX2_many 18 = .ok (.getfield 18, 3) := by decide +kernel
theorem dX2_many_21 : decode cX2_many 21 = .ok (.iload_n 3, 1) := by decide +kernel
theorem dX2_many_22 : decode cX2_many 22 = .ok (.iaload, 1) := by decide +kernel
theorem dX2_many_23 : decode cX2_many 23 = .ok (.istore_n 3, 1) := by decide +kernel
theorem dX2_many_24 : decode cX2_many 24 = .ok (.goto (-15), 3) := by decide +kernel
theorem dX2_many_27 : decode cX2_many 27 = .ok (.iload_n 2, 1) := by decide +kernel
theorem dX2_many_28 : decode cX2_many 28 = .ok (.ireturn, 1) := by decide +kernel
/-! AlgebraHouse$Text.many(I)I -/
def P_X2_many_9 (Q : Int → MM → Prop) : Nat → Int → Int → Int → MM → Prop
  | 0, _, _, _, _ => False
  | n + 1, x0, x2, x3, m => (RI x3) ∧ (if x3 = (-1) then Q x2 m else (isTx x0) ∧ (0 ≤ x3 ∧ x3 < 160) ∧ P_X2_many_9 Q n x0 (x2 + 1) (m (x0 + 3) x3) m)
def P_X2_many (x0 : Int) (x1 : Int) (m : MM) (Q : Int → MM → Prop) : Prop := (isTx x0) ∧ (0 ≤ x1 ∧ x1 < 160) ∧ ∃ nn, P_X2_many_9 Q nn x0 0 (m (x0 + 2) x1) m
theorem pl_X2_many_9 {f : Nat} {Q : Int → MM → Prop} {T : MM → Prop} (hf : 1 ≤ f) : ∀ (n : Nat) (x0 : Int) (x2 : Int) (x3 : Int) (m : MM), P_X2_many_9 Q n x0 x2 x3 m → B f M_X2_many 9 [vR x0, vU, vI x2, vI x3] [] m Q T := by
  intro n
  induction n with
  | zero => intro x0 x2 x3 m h; exact h.elim
  | succ n ih =>
    intro x0 x2 x3 m h
    have h : (RI x3) ∧ (if x3 = (-1) then Q x2 m else (isTx x0) ∧ (0 ≤ x3 ∧ x3 < 160) ∧ P_X2_many_9 Q n x0 (x2 + 1) (m (x0 + 3) x3) m) := h
    refine b_iload_n dX2_many_9 rfl ?_
    refine b_iconst dX2_many_10 ?_
    obtain ⟨g1, h⟩ := h
    refine b_icmp_eq 27 dX2_many_11 g1 (by decide) (by decide) (fun c1 => ?_) (fun c1 => ?_)
    · have h := ifT c1 h
      refine b_iload_n dX2_many_27 rfl ?_
      exact b_iret dX2_many_28 rfl h
    · have h := ifF c1 h
      refine b_iinc (ls' := [vR x0, vU, vI (x2 + 1), vI x3]) dX2_many_14 rfl rfl ?_
      refine b_aload_n dX2_many_17 rfl ?_
      obtain ⟨g2, h⟩ := h
      refine b_getR dX2_many_18 fk_X2_18 (tx_ly0 g2) (tx_gg9 g2) ?_
      refine b_iload_n dX2_many_21 rfl ?_
      obtain ⟨g3, h⟩ := h
      refine b_iald dX2_many_22 (tx_ly3 g2) g3 ?_
      refine b_istore_n (ls' := [vR x0, vU, vI (x2 + 1), vI (m (x0 + 3) x3)]) dX2_many_23 (Nat.le_of_ble_eq_true rfl) rfl ?_
      refine b_goto 9 dX2_many_24 (by decide) ?_
      exact ih _ _ _ _ h
theorem p_X2_many {f : Nat} {Q : Int → MM → Prop} {T : MM → Prop} (hf : 1 ≤ f) (x0 : Int) (x1 : Int) (m : MM) (h : P_X2_many x0 x1 m Q) : CC f M_X2_many [vR x0, vI x1] m Q T := by
  refine CC.of (plainFor_of_name (by decide)) (Nat.le_of_ble_eq_true rfl) (ls := [vR x0, vI x1, vU, vU]) rfl ?_
  have h : (isTx x0) ∧ (0 ≤ x1 ∧ x1 < 160) ∧ ∃ nn, P_X2_many_9 Q nn x0 0 (m (x0 + 2) x1) m := h
  refine b_iconst dX2_many_0 ?_
  refine b_istore_n (ls' := [vR x0, vI x1, vI 0, vU]) dX2_many_1 (Nat.le_of_ble_eq_true rfl) rfl ?_
  refine b_aload_n dX2_many_2 rfl ?_
  obtain ⟨g1, h⟩ := h
  refine b_getR dX2_many_3 fk_X2_15 (tx_ly0 g1) (tx_gg8 g1) ?_
  refine b_iload_n dX2_many_6 rfl ?_
  obtain ⟨g2, h⟩ := h
  refine b_iald dX2_many_7 (tx_ly2 g1) g2 ?_
  refine b_istore_n (ls' := [vR x0, vI x1, vI 0, vI (m (x0 + 2) x1)]) dX2_many_8 (Nat.le_of_ble_eq_true rfl) rfl ?_
  refine b_fgt [true, false, true, true] (ls' := [vR x0, vU, vI 0, vI (m (x0 + 2) x1)]) rfl rfl ?_
  obtain ⟨nn, h⟩ := h
  exact pl_X2_many_9 hf nn _ _ _ _ h
theorem dX2_second_0 : decode cX2_second 0 = .ok (.aload_n 0, 1) := by decide +kernel
theorem dX2_second_1 : decode cX2_second 1 = .ok (.getfield 18, 3) := by decide +kernel
theorem dX2_second_4 : decode cX2_second 4 = .ok (.aload_n 0, 1) := by decide +kernel
theorem dX2_second_5 : decode cX2_second 5 = .ok (.getfield 15, 3) := by decide +kernel
theorem dX2_second_8 : decode cX2_second 8 = .ok (.iload_n 1, 1) := by decide +kernel
theorem dX2_second_9 : decode cX2_second 9 = .ok (.iaload, 1) := by decide +kernel
theorem dX2_second_10 : decode cX2_second 10 = .ok (.iaload, 1) := by decide +kernel
theorem dX2_second_11 : decode cX2_second 11 = .ok (.ireturn, 1) := by decide +kernel
/-! AlgebraHouse$Text.second(I)I -/
def P_X2_second (x0 : Int) (x1 : Int) (m : MM) (Q : Int → MM → Prop) : Prop := (isTx x0) ∧ (0 ≤ x1 ∧ x1 < 160) ∧ (0 ≤ (m (x0 + 2) x1) ∧ (m (x0 + 2) x1) < 160) ∧ Q (m (x0 + 3) (m (x0 + 2) x1)) m
theorem p_X2_second {f : Nat} {Q : Int → MM → Prop} {T : MM → Prop} (hf : 1 ≤ f) (x0 : Int) (x1 : Int) (m : MM) (h : P_X2_second x0 x1 m Q) : CC f M_X2_second [vR x0, vI x1] m Q T := by
  refine CC.of (plainFor_of_name (by decide)) (Nat.le_of_ble_eq_true rfl) (ls := [vR x0, vI x1]) rfl ?_
  have h : (isTx x0) ∧ (0 ≤ x1 ∧ x1 < 160) ∧ (0 ≤ (m (x0 + 2) x1) ∧ (m (x0 + 2) x1) < 160) ∧ Q (m (x0 + 3) (m (x0 + 2) x1)) m := h
  refine b_aload_n dX2_second_0 rfl ?_
  obtain ⟨g1, h⟩ := h
  refine b_getR dX2_second_1 fk_X2_18 (tx_ly0 g1) (tx_gg9 g1) ?_
  refine b_aload_n dX2_second_4 rfl ?_
  refine b_getR dX2_second_5 fk_X2_15 (tx_ly0 g1) (tx_gg8 g1) ?_
  refine b_iload_n dX2_second_8 rfl ?_
  obtain ⟨g2, h⟩ := h
  refine b_iald dX2_second_9 (tx_ly2 g1) g2 ?_
  obtain ⟨g3, h⟩ := h
  refine b_iald dX2_second_10 (tx_ly3 g1) g3 ?_
  exact b_iret dX2_second_11 rfl h
theorem dX2_third_0 : decode cX2_third 0 = .ok (.aload_n 0, 1) := by decide +kernel
theorem dX2_third_1 : decode cX2_third 1 = .ok (.getfield 18, 3) := by decide +kernel
theorem dX2_third_4 : decode cX2_third 4 = .ok (.aload_n 0, 1) := by decide +kernel
theorem dX2_third_5 : decode cX2_third 5 = .ok (.getfield 18, 3) := by decide +kernel
theorem dX2_third_8 : decode cX2_third 8 = .ok (.aload_n 0, 1) := by decide +kernel
theorem dX2_third_9 : decode cX2_third 9 = .ok (.getfield 15, 3) := by decide +kernel
theorem dX2_third_12 : decode cX2_third 12 = .ok (.iload_n 1, 1) := by decide +kernel
theorem dX2_third_13 : decode cX2_third 13 = .ok (.iaload, 1) := by decide +kernel
theorem dX2_third_14 : decode cX2_third 14 = .ok (.iaload, 1) := by decide +kernel
theorem dX2_third_15 : decode cX2_third 15 = .ok (.iaload, 1) := by decide +kernel
theorem dX2_third_16 : decode cX2_third 16 = .ok (.ireturn, 1) := by decide +kernel
/-! AlgebraHouse$Text.third(I)I -/
def P_X2_third (x0 : Int) (x1 : Int) (m : MM) (Q : Int → MM → Prop) : Prop := (isTx x0) ∧ (0 ≤ x1 ∧ x1 < 160) ∧ (0 ≤ (m (x0 + 2) x1) ∧ (m (x0 + 2) x1) < 160) ∧ (0 ≤ (m (x0 + 3) (m (x0 + 2) x1)) ∧ (m (x0 + 3) (m (x0 + 2) x1)) < 160) ∧ Q (m (x0 + 3) (m (x0 + 3) (m (x0 + 2) x1))) m
theorem p_X2_third {f : Nat} {Q : Int → MM → Prop} {T : MM → Prop} (hf : 1 ≤ f) (x0 : Int) (x1 : Int) (m : MM) (h : P_X2_third x0 x1 m Q) : CC f M_X2_third [vR x0, vI x1] m Q T := by
  refine CC.of (plainFor_of_name (by decide)) (Nat.le_of_ble_eq_true rfl) (ls := [vR x0, vI x1]) rfl ?_
  have h : (isTx x0) ∧ (0 ≤ x1 ∧ x1 < 160) ∧ (0 ≤ (m (x0 + 2) x1) ∧ (m (x0 + 2) x1) < 160) ∧ (0 ≤ (m (x0 + 3) (m (x0 + 2) x1)) ∧ (m (x0 + 3) (m (x0 + 2) x1)) < 160) ∧ Q (m (x0 + 3) (m (x0 + 3) (m (x0 + 2) x1))) m := h
  refine b_aload_n dX2_third_0 rfl ?_
  obtain ⟨g1, h⟩ := h
  refine b_getR dX2_third_1 fk_X2_18 (tx_ly0 g1) (tx_gg9 g1) ?_
  refine b_aload_n dX2_third_4 rfl ?_
  refine b_getR dX2_third_5 fk_X2_18 (tx_ly0 g1) (tx_gg9 g1) ?_
  refine b_aload_n dX2_third_8 rfl ?_
  refine b_getR dX2_third_9 fk_X2_15 (tx_ly0 g1) (tx_gg8 g1) ?_
  refine b_iload_n dX2_third_12 rfl ?_
  obtain ⟨g2, h⟩ := h
  refine b_iald dX2_third_13 (tx_ly2 g1) g2 ?_
  obtain ⟨g3, h⟩ := h
  refine b_iald dX2_third_14 (tx_ly3 g1) g3 ?_
  obtain ⟨g4, h⟩ := h
  refine b_iald dX2_third_15 (tx_ly3 g1) g4 ?_
  exact b_iret dX2_third_16 rfl h
theorem dX9_add_0 : decode cX9_add 0 = .ok (.aload_n 0, 1) := by decide +kernel
theorem dX9_add_1 : decode cX9_add 1 = .ok (.getfield 9, 3) := by decide +kernel
theorem dX9_add_4 : decode cX9_add 4 = .ok (.aload_n 0, 1) := by decide +kernel
theorem dX9_add_5 : decode cX9_add 5 = .ok (.getfield 19, 3) := by decide +kernel
theorem dX9_add_8 : decode cX9_add 8 = .ok (.iload_n 1, 1) := by decide +kernel
theorem dX9_add_9 : decode cX9_add 9 = .ok (.iastore, 1) := by decide +kernel
theorem dX9_add_10 : decode cX9_add 10 = .ok (.aload_n 0, 1) := by decide +kernel
theorem dX9_add_11 : decode cX9_add 11 = .ok (.getfield 13, 3) := by decide +kernel
theorem dX9_add_14 : decode cX9_add 14 = .ok (.aload_n 0, 1) := by decide +kernel
theorem dX9_add_15 : decode cX9_add 15 = .ok (.getfield 19, 3) := by decide +kernel
theorem dX9_add_18 : decode cX9_add 18 = .ok (.iload_n 2, 1) := by decide +kernel
theorem dX9_add_19 : decode cX9_add 19 = .ok (.iastore, 1) := by decide +kernel
theorem dX9_add_20 : decode cX9_add 20 = .ok (.aload_n 0, 1) := by decide +kernel
theorem dX9_add_21 : decode cX9_add 21 = .ok (.getfield 16, 3) := by decide +kernel
theorem dX9_add_24 : decode cX9_add 24 = .ok (.aload_n 0, 1) := by decide +kernel
theorem dX9_add_25 : decode cX9_add 25 = .ok (.getfield 19, 3) := by decide +kernel
theorem dX9_add_28 : decode cX9_add 28 = .ok (.iload_n 3, 1) := by decide +kernel
theorem dX9_add_29 : decode cX9_add 29 = .ok (.iastore, 1) := by decide +kernel
theorem dX9_add_30 : decode cX9_add 30 = .ok (.aload_n 0, 1) := by decide +kernel
theorem dX9_add_31 : decode cX9_add 31 = .ok (.dup, 1) := by decide +kernel
theorem dX9_add_32 : decode cX9_add 32 = .ok (.getfield 19, 3) := by decide +kernel
theorem dX9_add_35 : decode cX9_add 35 = .ok (.iconst 1, 1) := by decide +kernel
theorem dX9_add_36 : decode cX9_add 36 = .ok (.iadd, 1) := by decide +kernel
theorem dX9_add_37 : decode cX9_add 37 = .ok (.putfield 19, 3) := by decide +kernel
theorem dX9_add_40 : decode cX9_add 40 = .ok (.aload_n 0, 1) := by decide +kernel
theorem dX9_add_41 : decode cX9_add 41 = .ok (.getfield 19, 3) := by decide +kernel
theorem dX9_add_44 : decode cX9_add 44 = .ok (.iconst 1, 1) := by decide +kernel
theorem dX9_add_45 : decode cX9_add 45 = .ok (.isub, 1) := by decide +kernel
theorem dX9_add_46 : decode cX9_add 46 = .ok (.ireturn, 1) := by decide +kernel
/-! AlgebraHouse$Code.add(III)I -/
def P_X9_add (x0 : Int) (x1 : Int) (x2 : Int) (x3 : Int) (m : MM) (Q : Int → MM → Prop) : Prop := (isCd x0) ∧ (0 ≤ (m x0 3) ∧ (m x0 3) < 1200) ∧ ∀ m1 : MM, m1 = up m (x0 + 1) (m x0 3) x1 → (0 ≤ (m1 x0 3) ∧ (m1 x0 3) < 1200) ∧ ∀ m2 : MM, m2 = up m1 (x0 + 2) (m1 x0 3) x2 → (0 ≤ (m2 x0 3) ∧ (m2 x0 3) < 1200) ∧ ∀ m3 : MM, m3 = up m2 (x0 + 3) (m2 x0 3) x3 → ∀ m4 : MM, m4 = up m3 x0 3 ((m3 x0 3) + 1) → Q ((m4 x0 3) - 1) m4
theorem p_X9_add {f : Nat} {Q : Int → MM → Prop} {T : MM → Prop} (hf : 1 ≤ f) (x0 : Int) (x1 : Int) (x2 : Int) (x3 : Int) (m : MM) (h : P_X9_add x0 x1 x2 x3 m Q) : CC f M_X9_add [vR x0, vI x1, vI x2, vI x3] m Q T := by
  refine CC.of (plainFor_of_name (by decide)) (Nat.le_of_ble_eq_true rfl) (ls := [vR x0, vI x1, vI x2, vI x3]) rfl ?_
  have h : (isCd x0) ∧ (0 ≤ (m x0 3) ∧ (m x0 3) < 1200) ∧ ∀ m1 : MM, m1 = up m (x0 + 1) (m x0 3) x1 → (0 ≤ (m1 x0 3) ∧ (m1 x0 3) < 1200) ∧ ∀ m2 : MM, m2 = up m1 (x0 + 2) (m1 x0 3) x2 → (0 ≤ (m2 x0 3) ∧ (m2 x0 3) < 1200) ∧ ∀ m3 : MM, m3 = up m2 (x0 + 3) (m2 x0 3) x3 → ∀ m4 : MM, m4 = up m3 x0 3 ((m3 x0 3) + 1) → Q ((m4 x0 3) - 1) m4 := h
  refine b_aload_n dX9_add_0 rfl ?_
  obtain ⟨g1, h⟩ := h
  refine b_getR dX9_add_1 fk_X9_9 (cd_ly0 g1) (cd_gg0 g1) ?_
  refine b_aload_n dX9_add_4 rfl ?_
  refine b_getI dX9_add_5 fk_X9_19 (cd_ly0 g1) ?_
  refine b_iload_n dX9_add_8 rfl ?_
  obtain ⟨g2, h⟩ := h
  refine b_iast dX9_add_9 (cd_ly1 g1) g2 (fun m1 em1 => ?_)
  have h := h m1 em1
  refine b_aload_n dX9_add_10 rfl ?_
  refine b_getR dX9_add_11 fk_X9_13 (cd_ly0 g1) (cd_gg1 g1) ?_
  refine b_aload_n dX9_add_14 rfl ?_
  refine b_getI dX9_add_15 fk_X9_19 (cd_ly0 g1) ?_
  refine b_iload_n dX9_add_18 rfl ?_
  obtain ⟨g3, h⟩ := h
  refine b_iast dX9_add_19 (cd_ly2 g1) g3 (fun m2 em2 => ?_)
  have h := h m2 em2
  refine b_aload_n dX9_add_20 rfl ?_
  refine b_getR dX9_add_21 fk_X9_16 (cd_ly0 g1) (cd_gg2 g1) ?_
  refine b_aload_n dX9_add_24 rfl ?_
  refine b_getI dX9_add_25 fk_X9_19 (cd_ly0 g1) ?_
  refine b_iload_n dX9_add_28 rfl ?_
  obtain ⟨g4, h⟩ := h
  refine b_iast dX9_add_29 (cd_ly3 g1) g4 (fun m3 em3 => ?_)
  have h := h m3 em3
  refine b_aload_n dX9_add_30 rfl ?_
  refine b_dup dX9_add_31 rfl ?_
  refine b_getI dX9_add_32 fk_X9_19 (cd_ly0 g1) ?_
  refine b_iconst dX9_add_35 ?_
  refine b_iadd dX9_add_36 ?_
  refine b_putI dX9_add_37 fk_X9_19 (cd_ly0 g1) (fun m4 em4 => ?_)
  have h := h m4 em4
  refine b_aload_n dX9_add_40 rfl ?_
  refine b_getI dX9_add_41 fk_X9_19 (cd_ly0 g1) ?_
  refine b_iconst dX9_add_44 ?_
  refine b_isub dX9_add_45 ?_
  exact b_iret dX9_add_46 rfl h
theorem dX2_add_0 : decode cX2_add 0 = .ok (.aload_n 0, 1) := by decide +kernel
theorem dX2_add_1 : decode cX2_add 1 = .ok (.getfield 11, 3) := by decide +kernel
theorem dX2_add_4 : decode cX2_add 4 = .ok (.aload_n 0, 1) := by decide +kernel
theorem dX2_add_5 : decode cX2_add 5 = .ok (.getfield 62, 3) := by decide +kernel
theorem dX2_add_8 : decode cX2_add 8 = .ok (.iload_n 1, 1) := by decide +kernel
theorem dX2_add_9 : decode cX2_add 9 = .ok (.iastore, 1) := by decide +kernel
theorem dX2_add_10 : decode cX2_add 10 = .ok (.aload_n 0, 1) := by decide +kernel
theorem dX2_add_11 : decode cX2_add 11 = .ok (.getfield 15, 3) := by decide +kernel
theorem dX2_add_14 : decode cX2_add 14 = .ok (.aload_n 0, 1) := by decide +kernel
theorem dX2_add_15 : decode cX2_add 15 = .ok (.getfield 62, 3) := by decide +kernel
theorem dX2_add_18 : decode cX2_add 18 = .ok (.iconst (-1), 1) := by decide +kernel
theorem dX2_add_19 : decode cX2_add 19 = .ok (.iastore, 1) := by decide +kernel
theorem dX2_add_20 : decode cX2_add 20 = .ok (.aload_n 0, 1) := by decide +kernel
theorem dX2_add_21 : decode cX2_add 21 = .ok (.getfield 18, 3) := by decide +kernel
theorem dX2_add_24 : decode cX2_add 24 = .ok (.aload_n 0, 1) := by decide +kernel
theorem dX2_add_25 : decode cX2_add 25 = .ok (.getfield 62, 3) := by decide +kernel
theorem dX2_add_28 : decode cX2_add 28 = .ok (.iconst (-1), 1) := by decide +kernel
theorem dX2_add_29 : decode cX2_add 29 = .ok (.iastore, 1) := by decide +kernel
theorem dX2_add_30 : decode cX2_add 30 = .ok (.aload_n 0, 1) := by decide +kernel
theorem dX2_add_31 : decode cX2_add 31 = .ok (.getfield 21, 3) := by decide +kernel
theorem dX2_add_34 : decode cX2_add 34 = .ok (.aload_n 0, 1) := by decide +kernel
theorem dX2_add_35 : decode cX2_add 35 = .ok (.getfield 62, 3) := by decide +kernel
theorem dX2_add_38 : decode cX2_add 38 = .ok (.iconst 0, 1) := by decide +kernel
theorem dX2_add_39 : decode cX2_add 39 = .ok (.iastore, 1) := by decide +kernel
theorem dX2_add_40 : decode cX2_add 40 = .ok (.aload_n 0, 1) := by decide +kernel
theorem dX2_add_41 : decode cX2_add 41 = .ok (.getfield 24, 3) := by decide +kernel
theorem dX2_add_44 : decode cX2_add 44 = .ok (.aload_n 0, 1) := by decide +kernel
theorem dX2_add_45 : decode cX2_add 45 = .ok (.getfield 62, 3) := by decide +kernel
theorem dX2_add_48 : decode cX2_add 48 = .ok (.iload_n 2, 1) := by decide +kernel
theorem dX2_add_49 : decode cX2_add 49 = .ok (.iastore, 1) := by decide +kernel
theorem dX2_add_50 : decode cX2_add 50 = .ok (.aload_n 0, 1) := by decide +kernel
theorem dX2_add_51 : decode cX2_add 51 = .ok (.getfield 27, 3) := by decide +kernel
theorem dX2_add_54 : decode cX2_add 54 = .ok (.aload_n 0, 1) := by decide +kernel
theorem dX2_add_55 : decode cX2_add 55 = .ok (.getfield 62, 3) := by decide +kernel
theorem dX2_add_58 : decode cX2_add 58 = .ok (.iconst (-1), 1) := by decide +kernel
theorem dX2_add_59 : decode cX2_add 59 = .ok (.iastore, 1) := by decide +kernel
theorem dX2_add_60 : decode cX2_add 60 = .ok (.aload_n 0, 1) := by decide +kernel
theorem dX2_add_61 : decode cX2_add 61 = .ok (.dup, 1) := by decide +kernel
theorem dX2_add_62 : decode cX2_add 62 = .ok (.getfield 62, 3) := by decide +kernel
theorem dX2_add_65 : decode cX2_add 65 = .ok (.iconst 1, 1) := by decide +kernel
theorem dX2_add_66 : decode cX2_add 66 = .ok (.iadd, 1) := by decide +kernel
theorem dX2_add_67 : decode cX2_add 67 = .ok (.putfield 62, 3) := by decide +kernel
theorem dX2_add_70 : decode cX2_add 70 = .ok (.aload_n 0, 1) := by decide +kernel
theorem dX2_add_71 : decode cX2_add 71 = .ok (.getfield 62, 3) := by decide +kernel
theorem dX2_add_74 : decode cX2_add 74 = .ok (.iconst 1, 1) := by decide +kernel
theorem dX2_add_75 : decode cX2_add 75 = .ok (.isub, 1) := by decide +kernel
theorem dX2_add_76 : decode cX2_add 76 = .ok (.ireturn, 1) := by decide +kernel
/-! AlgebraHouse$Text.add(II)I -/
def P_X2_add (x0 : Int) (x1 : Int) (x2 : Int) (m : MM) (Q : Int → MM → Prop) : Prop := (isTx x0) ∧ (0 ≤ (m x0 0) ∧ (m x0 0) < 160) ∧ ∀ m1 : MM, m1 = up m (x0 + 1) (m x0 0) x1 → (0 ≤ (m1 x0 0) ∧ (m1 x0 0) < 160) ∧ ∀ m2 : MM, m2 = up m1 (x0 + 2) (m1 x0 0) (-1) → (0 ≤ (m2 x0 0) ∧ (m2 x0 0) < 160) ∧ ∀ m3 : MM, m3 = up m2 (x0 + 3) (m2 x0 0) (-1) → (0 ≤ (m3 x0 0) ∧ (m3 x0 0) < 160) ∧ ∀ m4 : MM, m4 = up m3 (x0 + 4) (m3 x0 0) 0 → (0 ≤ (m4 x0 0) ∧ (m4 x0 0) < 160) ∧ ∀ m5 : MM, m5 = up m4 (x0 + 5) (m4 x0 0) x2 → (0 ≤ (m5 x0 0) ∧ (m5 x0 0) < 160) ∧ ∀ m6 : MM, m6 = up m5 (x0 + 6) (m5 x0 0) (-1) → ∀ m7 : MM, m7 = up m6 x0 0 ((m6 x0 0) + 1) → Q ((m7 x0 0) - 1) m7
theorem p_X2_add {f : Nat} {Q : Int → MM → Prop} {T : MM → Prop} (hf : 1 ≤ f) (x0 : Int) (x1 : Int) (x2 : Int) (m : MM) (h : P_X2_add x0 x1 x2 m Q) : CC f M_X2_add [vR x0, vI x1, vI x2] m Q T := by
  refine CC.of (plainFor_of_name (by decide)) (Nat.le_of_ble_eq_true rfl) (ls := [vR x0, vI x1, vI x2]) rfl ?_
  have h : (isTx x0) ∧ (0 ≤ (m x0 0) ∧ (m x0 0) < 160) ∧ ∀ m1 : MM, m1 = up m (x0 + 1) (m x0 0) x1 → (0 ≤ (m1 x0 0) ∧ (m1 x0 0) < 160) ∧ ∀ m2 : MM, m2 = up m1 (x0 + 2) (m1 x0 0) (-1) → (0 ≤ (m2 x0 0) ∧ (m2 x0 0) < 160) ∧ ∀ m3 : MM, m3 = up m2 (x0 + 3) (m2 x0 0) (-1) → (0 ≤ (m3 x0 0) ∧ (m3 x0 0) < 160) ∧ ∀ m4 : MM, m4 = up m3 (x0 + 4) (m3 x0 0) 0 → (0 ≤ (m4 x0 0) ∧ (m4 x0 0) < 160) ∧ ∀ m5 : MM, m5 = up m4 (x0 + 5) (m4 x0 0) x2 → (0 ≤ (m5 x0 0) ∧ (m5 x0 0) < 160) ∧ ∀ m6 : MM, m6 = up m5 (x0 + 6) (m5 x0 0) (-1) → ∀ m7 : MM, m7 = up m6 x0 0 ((m6 x0 0) + 1) → Q ((m7 x0 0) - 1) m7 := h
  refine b_aload_n dX2_add_0 rfl ?_
  obtain ⟨g1, h⟩ := h
  refine b_getR dX2_add_1 fk_X2_11 (tx_ly0 g1) (tx_gg7 g1) ?_
  refine b_aload_n dX2_add_4 rfl ?_
  refine b_getI dX2_add_5 fk_X2_62 (tx_ly0 g1) ?_
  refine b_iload_n dX2_add_8 rfl ?_
  obtain ⟨g2, h⟩ := h
  refine b_iast dX2_add_9 (tx_ly1 g1) g2 (fun m1 em1 => ?_)
  have h := h m1 em1
  refine b_aload_n dX2_add_10 rfl ?_
  refine b_getR dX2_add_11 fk_X2_15 (tx_ly0 g1) (tx_gg8 g1) ?_
  refine b_aload_n dX2_add_14 rfl ?_
  refine b_getI dX2_add_15 fk_X2_62 (tx_ly0 g1) ?_
  refine b_iconst dX2_add_18 ?_
  obtain ⟨g3, h⟩ := h
  refine b_iast dX2_add_19 (tx_ly2 g1) g3 (fun m2 em2 => ?_)
  have h := h m2 em2
  refine b_aload_n dX2_add_20 rfl ?_
  refine b_getR dX2_add_21 fk_X2_18 (tx_ly0 g1) (tx_gg9 g1) ?_
  refine b_aload_n dX2_add_24 rfl ?_
  refine b_getI dX2_add_25 fk_X2_62 (tx_ly0 g1) ?_
  refine b_iconst dX2_add_28 ?_
  obtain ⟨g4, h⟩ := h
  refine b_iast dX2_add_29 (tx_ly3 g1) g4 (fun m3 em3 => ?_)
  have h := h m3 em3
  refine b_aload_n dX2_add_30 rfl ?_
  refine b_getR dX2_add_31 fk_X2_21 (tx_ly0 g1) (tx_gg10 g1) ?_
  refine b_aload_n dX2_add_34 rfl ?_
  refine b_getI dX2_add_35 fk_X2_62 (tx_ly0 g1) ?_
  refine b_iconst dX2_add_38 ?_
  obtain ⟨g5, h⟩ := h
  refine b_iast dX2_add_39 (tx_ly4 g1) g5 (fun m4 em4 => ?_)
  have h := h m4 em4
  refine b_aload_n dX2_add_40 rfl ?_
  refine b_getR dX2_add_41 fk_X2_24 (tx_ly0 g1) (tx_gg11 g1) ?_
  refine b_aload_n dX2_add_44 rfl ?_
  refine b_getI dX2_add_45 fk_X2_62 (tx_ly0 g1) ?_
  refine b_iload_n dX2_add_48 rfl ?_
  obtain ⟨g6, h⟩ := h
  refine b_iast dX2_add_49 (tx_ly5 g1) g6 (fun m5 em5 => ?_)
  have h := h m5 em5
  refine b_aload_n dX2_add_50 rfl ?_
  refine b_getR dX2_add_51 fk_X2_27 (tx_ly0 g1) (tx_gg12 g1) ?_
  refine b_aload_n dX2_add_54 rfl ?_
  refine b_getI dX2_add_55 fk_X2_62 (tx_ly0 g1) ?_
  refine b_iconst dX2_add_58 ?_
  obtain ⟨g7, h⟩ := h
  refine b_iast dX2_add_59 (tx_ly6 g1) g7 (fun m6 em6 => ?_)
  have h := h m6 em6
  refine b_aload_n dX2_add_60 rfl ?_
  refine b_dup dX2_add_61 rfl ?_
  refine b_getI dX2_add_62 fk_X2_62 (tx_ly0 g1) ?_
  refine b_iconst dX2_add_65 ?_
  refine b_iadd dX2_add_66 ?_
  refine b_putI dX2_add_67 fk_X2_62 (tx_ly0 g1) (fun m7 em7 => ?_)
  have h := h m7 em7
  refine b_aload_n dX2_add_70 rfl ?_
  refine b_getI dX2_add_71 fk_X2_62 (tx_ly0 g1) ?_
  refine b_iconst dX2_add_74 ?_
  refine b_isub dX2_add_75 ?_
  exact b_iret dX2_add_76 rfl h
theorem dX2_add_2_0 : decode cX2_add_2 0 = .ok (.aload_n 0, 1) := by decide +kernel
theorem dX2_add_2_1 : decode cX2_add_2 1 = .ok (.iload_n 1, 1) := by decide +kernel
theorem dX2_add_2_2 : decode cX2_add_2 2 = .ok (.iload_n 2, 1) := by decide +kernel
theorem dX2_add_2_3 : decode cX2_add_2 3 = .ok (.invokevirtual 81, 3) := by decide +kernel
theorem dX2_add_2_6 : decode cX2_add_2 6 = .ok (.istore 5, 2) := by decide +kernel
theorem dX2_add_2_8 : decode cX2_add_2 8 = .ok (.aload_n 0, 1) := by decide +kernel
theorem dX2_add_2_9 : decode cX2_add_2 9 = .ok (.getfield 15, 3) := by decide +kernel
theorem dX2_add_2_12 : decode cX2_add_2 12 = .ok (.iload 5, 2) := by decide +kernel
theorem dX2_add_2_14 : decode cX2_add_2 14 = .ok (.iload_n 3, 1) := by decide +kernel
theorem dX2_add_2_15 : decode cX2_add_2 15 = .ok (.iastore, 1) := by decide +kernel
theorem dX2_add_2_16 : decode cX2_add_2 16 = .ok (.aload_n 0, 1) := by decide +kernel
theorem dX2_add_2_17 : decode cX2_add_2 17 = .ok (.getfield 18, 3) := by decide +kernel
theorem dX2_add_2_20 : decode cX2_add_2 20 = .ok (.iload_n 3, 1) := by decide +kernel
theorem dX2_add_2_21 : decode cX2_add_2 21 = .ok (.iload 4, 2) := by decide +kernel
theorem dX2_add_2_23 : decode cX2_add_2 23 = .ok (.iastore, 1) := by decide +kernel
theorem dX2_add_2_24 : decode cX2_add_2 24 = .ok (.iload 5, 2) := by decide +kernel
theorem dX2_add_2_26 : decode cX2_add_2 26 = .ok (.ireturn, 1) := by decide +kernel
/-! AlgebraHouse$Text.add(IIII)I -/
def P_X2_add_2 (x0 : Int) (x1 : Int) (x2 : Int) (x3 : Int) (x4 : Int) (m : MM) (Q : Int → MM → Prop) : Prop := (isTx x0) ∧ P_X2_add x0 x1 x2 m (fun r1 m1 => (0 ≤ r1 ∧ r1 < 160) ∧ ∀ m2 : MM, m2 = up m1 (x0 + 2) r1 x3 → (0 ≤ x3 ∧ x3 < 160) ∧ ∀ m3 : MM, m3 = up m2 (x0 + 3) x3 x4 → Q r1 m3)
theorem p_X2_add_2 {f : Nat} {Q : Int → MM → Prop} {T : MM → Prop} (hf : 2 ≤ f) (x0 : Int) (x1 : Int) (x2 : Int) (x3 : Int) (x4 : Int) (m : MM) (h : P_X2_add_2 x0 x1 x2 x3 x4 m Q) : CC f M_X2_add_2 [vR x0, vI x1, vI x2, vI x3, vI x4] m Q T := by
  refine CC.of (plainFor_of_name (by decide)) (Nat.le_of_ble_eq_true rfl) (ls := [vR x0, vI x1, vI x2, vI x3, vI x4, vU]) rfl ?_
  have h : (isTx x0) ∧ P_X2_add x0 x1 x2 m (fun r1 m1 => (0 ≤ r1 ∧ r1 < 160) ∧ ∀ m2 : MM, m2 = up m1 (x0 + 2) r1 x3 → (0 ≤ x3 ∧ x3 < 160) ∧ ∀ m3 : MM, m3 = up m2 (x0 + 3) x3 x4 → Q r1 m3) := h
  refine b_aload_n dX2_add_2_0 rfl ?_
  refine b_iload_n dX2_add_2_1 rfl ?_
  refine b_iload_n dX2_add_2_2 rfl ?_
  obtain ⟨g1, h⟩ := h
  refine b_cVi (as := [vI x1, vI x2]) (st := []) dX2_add_2_3 mf_X2_add q951 lk_X2_81 (tx_ly0 g1) rfl (p_X2_add (f := 1) (Nat.le_refl _) _ _ _ _ h) (by omega) rfl rfl (Nat.le_of_ble_eq_true rfl) (by decide) rfl (fun _ => rfl) (fun r1 m1 h => ?_) (fun _ h => h)
  refine b_istore (ls' := [vR x0, vI x1, vI x2, vI x3, vI x4, vI r1]) dX2_add_2_6 (Nat.le_of_ble_eq_true rfl) rfl ?_
  refine b_aload_n dX2_add_2_8 rfl ?_
  refine b_getR dX2_add_2_9 fk_X2_15 (tx_ly0 g1) (tx_gg8 g1) ?_
  refine b_iload dX2_add_2_12 rfl ?_
  refine b_iload_n dX2_add_2_14 rfl ?_
  obtain ⟨g2, h⟩ := h
  refine b_iast dX2_add_2_15 (tx_ly2 g1) g2 (fun m2 em2 => ?_)
  have h := h m2 em2
  refine b_aload_n dX2_add_2_16 rfl ?_
  refine b_getR dX2_add_2_17 fk_X2_18 (tx_ly0 g1) (tx_gg9 g1) ?_
  refine b_iload_n dX2_add_2_20 rfl ?_
  refine b_iload dX2_add_2_21 rfl ?_
  obtain ⟨g3, h⟩ := h
  refine b_iast dX2_add_2_23 (tx_ly3 g1) g3 (fun m3 em3 => ?_)
  have h := h m3 em3
  refine b_iload dX2_add_2_24 rfl ?_
  exact b_iret dX2_add_2_26 rfl h
theorem dX2_clear_0 : decode cX2_clear 0 = .ok (.aload_n 0, 1) := by decide +kernel
theorem dX2_clear_1 : decode cX2_clear 1 = .ok (.iconst 0, 1) := by decide +kernel
theorem dX2_clear_2 : decode cX2_clear 2 = .ok (.putfield 62, 3) := by decide +kernel
theorem dX2_clear_5 : decode cX2_clear 5 = .ok (.aload_n 0, 1) := by decide +kernel
theorem dX2_clear_6 : decode cX2_clear 6 = .ok (.iconst 0, 1) := by decide +kernel
theorem dX2_clear_7 : decode cX2_clear 7 = .ok (.putfield 66, 3) := by decide +kernel
theorem dX2_clear_10 : decode cX2_clear 10 = .ok (.aload_n 0, 1) := by decide +kernel
theorem dX2_clear_11 : decode cX2_clear 11 = .ok (.iconst (-1), 1) := by decide +kernel
theorem dX2_clear_12 : decode cX2_clear 12 = .ok (.putfield 69, 3) := by decide +kernel
theorem dX2_clear_15 : decode cX2_clear 15 = .ok (.aload_n 0, 1) := by decide +kernel
theorem dX2_clear_16 : decode cX2_clear 16 = .ok (.iconst 0, 1) := by decide +kernel
theorem dX2_clear_17 : decode cX2_clear 17 = .ok (.putfield 72, 3) := by decide +kernel
theorem dX2_clear_20 : decode cX2_clear 20 = .ok (.aload_n 0, 1) := by decide +kernel
theorem dX2_clear_21 : decode cX2_clear 21 = .ok (.iconst 0, 1) := by decide +kernel
theorem dX2_clear_22 : decode cX2_clear 22 = .ok (.putfield 75, 3) := by decide +kernel
theorem dX2_clear_25 : decode cX2_clear 25 = .ok (.aload_n 0, 1) := by decide +kernel
theorem dX2_clear_26 : decode cX2_clear 26 = .ok (.iconst 0, 1) := by decide +kernel
theorem dX2_clear_27 : decode cX2_clear 27 = .ok (.putfield 78, 3) := by decide +kernel
theorem dX2_clear_30 : decode cX2_clear 30 = .ok (.return_, 1) := by decide +kernel
/-! AlgebraHouse$Text.clear()V -/
def P_X2_clear (x0 : Int) (m : MM) (Q : Int → MM → Prop) : Prop := (isTx x0) ∧ ∀ m1 : MM, m1 = up m x0 0 0 → ∀ m2 : MM, m2 = up m1 x0 5 0 → ∀ m3 : MM, m3 = up m2 x0 21 (-1) → ∀ m4 : MM, m4 = up m3 x0 22 0 → ∀ m5 : MM, m5 = up m4 x0 1 0 → ∀ m6 : MM, m6 = up m5 x0 3 0 → Q 0 m6
theorem p_X2_clear {f : Nat} {Q : Int → MM → Prop} {T : MM → Prop} (hf : 1 ≤ f) (x0 : Int) (m : MM) (h : P_X2_clear x0 m Q) : CC f M_X2_clear [vR x0] m Q T := by
  refine CC.of (plainFor_of_name (by decide)) (Nat.le_of_ble_eq_true rfl) (ls := [vR x0]) rfl ?_
  have h : (isTx x0) ∧ ∀ m1 : MM, m1 = up m x0 0 0 → ∀ m2 : MM, m2 = up m1 x0 5 0 → ∀ m3 : MM, m3 = up m2 x0 21 (-1) → ∀ m4 : MM, m4 = up m3 x0 22 0 → ∀ m5 : MM, m5 = up m4 x0 1 0 → ∀ m6 : MM, m6 = up m5 x0 3 0 → Q 0 m6 := h
  refine b_aload_n dX2_clear_0 rfl ?_
  refine b_iconst dX2_clear_1 ?_
  obtain ⟨g1, h⟩ := h
  refine b_putI dX2_clear_2 fk_X2_62 (tx_ly0 g1) (fun m1 em1 => ?_)
  have h := h m1 em1
  refine b_aload_n dX2_clear_5 rfl ?_
  refine b_iconst dX2_clear_6 ?_
  refine b_putI dX2_clear_7 fk_X2_66 (tx_ly0 g1) (fun m2 em2 => ?_)
  have h := h m2 em2
  refine b_aload_n dX2_clear_10 rfl ?_
  refine b_iconst dX2_clear_11 ?_
  refine b_putI dX2_clear_12 fk_X2_69 (tx_ly0 g1) (fun m3 em3 => ?_)
  have h := h m3 em3
  refine b_aload_n dX2_clear_15 rfl ?_
  refine b_iconst dX2_clear_16 ?_
  refine b_putI dX2_clear_17 fk_X2_72 (tx_ly0 g1) (fun m4 em4 => ?_)
  have h := h m4 em4
  refine b_aload_n dX2_clear_20 rfl ?_
  refine b_iconst dX2_clear_21 ?_
  refine b_putI dX2_clear_22 fk_X2_75 (tx_ly0 g1) (fun m5 em5 => ?_)
  have h := h m5 em5
  refine b_aload_n dX2_clear_25 rfl ?_
  refine b_iconst dX2_clear_26 ?_
  refine b_putI dX2_clear_27 fk_X2_78 (tx_ly0 g1) (fun m6 em6 => ?_)
  have h := h m6 em6
  exact b_vret dX2_clear_30 rfl h
theorem dX4_isDigit_0 : decode cX4_isDigit 0 = .ok (.iload_n 0, 1) := by decide +kernel
theorem dX4_isDigit_1 : decode cX4_isDigit 1 = .ok (.bipush 48, 2) := by decide +kernel
theorem dX4_isDigit_3 : decode cX4_isDigit 3 = .ok (.if_icmp .lt 13, 3) := by decide +kernel
theorem dX4_isDigit_6 : decode cX4_isDigit 6 = .ok (.iload_n 0, 1) := by decide +kernel
theorem dX4_isDigit_7 : decode cX4_isDigit 7 = .ok (.bipush 57, 2) := by decide +kernel
theorem dX4_isDigit_9 : decode cX4_isDigit 9 = .ok (.if_icmp .gt 7, 3) := by decide +kernel
theorem dX4_isDigit_12 : decode cX4_isDigit 12 = .ok (.iconst 1, 1) := by decide +kernel
theorem dX4_isDigit_13 : decode cX4_isDigit 13 = .ok (.goto 4, 3) := by decide +kernel
theorem dX4_isDigit_16 : decode cX4_isDigit 16 = .ok (.iconst 0, 1) := by decide +kernel
theorem dX4_isDigit_17 : decode cX4_isDigit 17 = .ok (.ireturn, 1) := by decide +kernel
/-! AlgebraHouse$Tokens.isDigit(I)Z -/
def P_X4_isDigit (x0 : Int) (m : MM) (Q : Int → MM → Prop) : Prop := (RI x0) ∧ (if x0 < 48 then Q 0 m else (if 57 < x0 then Q 0 m else Q 1 m))
theorem p_X4_isDigit {f : Nat} {Q : Int → MM → Prop} {T : MM → Prop} (hf : 1 ≤ f) (x0 : Int) (m : MM) (h : P_X4_isDigit x0 m Q) : CC f M_X4_isDigit [vI x0] m Q T := by
  refine CC.of (plainFor_of_name (by decide)) (Nat.le_of_ble_eq_true rfl) (ls := [vI x0]) rfl ?_
  have h : (RI x0) ∧ (if x0 < 48 then Q 0 m else (if 57 < x0 then Q 0 m else Q 1 m)) := h
  refine b_iload_n dX4_isDigit_0 rfl ?_
  refine b_bipush dX4_isDigit_1 (by decide) ?_
  obtain ⟨g1, h⟩ := h
  refine b_icmp_lt 16 dX4_isDigit_3 g1 (by decide) (by decide) (fun c1 => ?_) (fun c1 => ?_)
  · have h := ifT c1 h
    refine b_iconst dX4_isDigit_16 ?_
    exact b_zret dX4_isDigit_17 rfl (Or.inl rfl) h
  · have h := ifF c1 h
    refine b_iload_n dX4_isDigit_6 rfl ?_
    refine b_bipush dX4_isDigit_7 (by decide) ?_
    refine b_icmp_gt 16 dX4_isDigit_9 g1 (by decide) (by decide) (fun c2 => ?_) (fun c2 => ?_)
    · have h := ifT c2 h
      refine b_iconst dX4_isDigit_16 ?_
      exact b_zret dX4_isDigit_17 rfl (Or.inl rfl) h
    · have h := ifF c2 h
      refine b_iconst dX4_isDigit_12 ?_
      refine b_goto 17 dX4_isDigit_13 (by decide) ?_
      exact b_zret dX4_isDigit_17 rfl (Or.inr rfl) h
theorem dX4_isLetter_0 : decode cX4_isLetter 0 = .ok (.iload_n 0, 1) := by decide +kernel
theorem dX4_isLetter_1 : decode cX4_isLetter 1 = .ok (.bipush 97, 2) := by decide +kernel
theorem dX4_isLetter_3 : decode cX4_isLetter 3 = .ok (.if_icmp .lt 9, 3) := by decide +kernel
theorem dX4_isLetter_6 : decode cX4_isLetter 6 = .ok (.iload_n 0, 1) := by decide +kernel
theorem dX4_isLetter_7 : decode cX4_isLetter 7 = .ok (.bipush 122, 2) := by decide +kernel
theorem dX4_isLetter_9 : decode cX4_isLetter 9 = .ok (.if_icmp .le 15, 3) := by decide +kernel
theorem dX4_isLetter_12 : decode cX4_isLetter 12 = .ok (.iload_n 0, 1) := by decide +kernel
theorem dX4_isLetter_13 : decode cX4_isLetter 13 = .ok (.bipush 65, 2) := by decide +kernel
theorem dX4_isLetter_15 : decode cX4_isLetter 15 = .ok (.if_icmp .lt 13, 3) := by decide +kernel
theorem dX4_isLetter_18 : decode cX4_isLetter 18 = .ok (.iload_n 0, 1) := by decide +kernel
theorem dX4_isLetter_19 : decode cX4_isLetter 19 = .ok (.bipush 90, 2) := by decide +kernel
theorem dX4_isLetter_21 : decode cX4_isLetter 21 = .ok (.if_icmp .gt 7, 3) := by decide +kernel
theorem dX4_isLetter_24 : decode cX4_isLetter 24 = .ok (.iconst 1, 1) := by decide +kernel
theorem dX4_isLetter_25 : decode cX4_isLetter 25 = .ok (.goto 4, 3) := by decide +kernel
theorem dX4_isLetter_28 : decode cX4_isLetter 28 = .ok (.iconst 0, 1) := by decide +kernel
theorem dX4_isLetter_29 : decode cX4_isLetter 29 = .ok (.ireturn, 1) := by decide +kernel
/-! AlgebraHouse$Tokens.isLetter(I)Z -/
def P_X4_isLetter_12 (Q : Int → MM → Prop) (x0 : Int) (m : MM) : Prop := (RI x0) ∧ (if x0 < 65 then Q 0 m else (if 90 < x0 then Q 0 m else Q 1 m))
def P_X4_isLetter (x0 : Int) (m : MM) (Q : Int → MM → Prop) : Prop := (RI x0) ∧ (if x0 < 97 then P_X4_isLetter_12 Q x0 m else (if x0 ≤ 122 then Q 1 m else P_X4_isLetter_12 Q x0 m))
theorem pl_X4_isLetter_12 {f : Nat} {Q : Int → MM → Prop} {T : MM → Prop} (hf : 1 ≤ f) : ∀ (x0 : Int) (m : MM), P_X4_isLetter_12 Q x0 m → B f M_X4_isLetter 12 [vI x0] [] m Q T := by
  intro x0 m h
  have h : (RI x0) ∧ (if x0 < 65 then Q 0 m else (if 90 < x0 then Q 0 m else Q 1 m)) := h
  refine b_iload_n dX4_isLetter_12 rfl ?_
  refine b_bipush dX4_isLetter_13 (by decide) ?_
  obtain ⟨g1, h⟩ := h
  refine b_icmp_lt 28 dX4_isLetter_15 g1 (by decide) (by decide) (fun c1 => ?_) (fun c1 => ?_)
  · have h := ifT c1 h
    refine b_iconst dX4_isLetter_28 ?_
    exact b_zret dX4_isLetter_29 rfl (Or.inl rfl) h
  · have h := ifF c1 h
    refine b_iload_n dX4_isLetter_18 rfl ?_
    refine b_bipush dX4_isLetter_19 (by decide) ?_
    refine b_icmp_gt 28 dX4_isLetter_21 g1 (by decide) (by decide) (fun c2 => ?_) (fun c2 => ?_)
    · have h := ifT c2 h
      refine b_iconst dX4_isLetter_28 ?_
      exact b_zret dX4_isLetter_29 rfl (Or.inl rfl) h
    · have h := ifF c2 h
      refine b_iconst dX4_isLetter_24 ?_
      refine b_goto 29 dX4_isLetter_25 (by decide) ?_
      exact b_zret dX4_isLetter_29 rfl (Or.inr rfl) h
theorem p_X4_isLetter {f : Nat} {Q : Int → MM → Prop} {T : MM → Prop} (hf : 1 ≤ f) (x0 : Int) (m : MM) (h : P_X4_isLetter x0 m Q) : CC f M_X4_isLetter [vI x0] m Q T := by
  refine CC.of (plainFor_of_name (by decide)) (Nat.le_of_ble_eq_true rfl) (ls := [vI x0]) rfl ?_
  have h : (RI x0) ∧ (if x0 < 97 then P_X4_isLetter_12 Q x0 m else (if x0 ≤ 122 then Q 1 m else P_X4_isLetter_12 Q x0 m)) := h
  refine b_iload_n dX4_isLetter_0 rfl ?_
  refine b_bipush dX4_isLetter_1 (by decide) ?_
  obtain ⟨g1, h⟩ := h
  refine b_icmp_lt 12 dX4_isLetter_3 g1 (by decide) (by decide) (fun c1 => ?_) (fun c1 => ?_)
  · have h := ifT c1 h
    exact pl_X4_isLetter_12 hf _ _ h
  · have h := ifF c1 h
    refine b_iload_n dX4_isLetter_6 rfl ?_
    refine b_bipush dX4_isLetter_7 (by decide) ?_
    refine b_icmp_le 24 dX4_isLetter_9 g1 (by decide) (by decide) (fun c2 => ?_) (fun c2 => ?_)
    · have h := ifT c2 h
      refine b_iconst dX4_isLetter_24 ?_
      refine b_goto 29 dX4_isLetter_25 (by decide) ?_
      exact b_zret dX4_isLetter_29 rfl (Or.inr rfl) h
    · have h := ifF c2 h
      exact pl_X4_isLetter_12 hf _ _ h
theorem dX4_put_0 : decode cX4_put 0 = .ok (.aload_n 0, 1) := by decide +kernel
theorem dX4_put_1 : decode cX4_put 1 = .ok (.getfield 15, 3) := by decide +kernel
theorem dX4_put_4 : decode cX4_put 4 = .ok (.aload_n 0, 1) := by decide +kernel
theorem dX4_put_5 : decode cX4_put 5 = .ok (.getfield 33, 3) := by decide +kernel
theorem dX4_put_8 : decode cX4_put 8 = .ok (.iload_n 1, 1) := by decide +kernel
theorem dX4_put_9 : decode cX4_put 9 = .ok (.iastore, 1) := by decide +kernel
theorem dX4_put_10 : decode cX4_put 10 = .ok (.aload_n 0, 1) := by decide +kernel
theorem dX4_put_11 : decode cX4_put 11 = .ok (.getfield 19, 3) := by decide +kernel
theorem dX4_put_14 : decode cX4_put 14 = .ok (.aload_n 0, 1) := by decide +kernel
theorem dX4_put_15 : decode cX4_put 15 = .ok (.getfield 33, 3) := by decide +kernel
theorem dX4_put_18 : decode cX4_put 18 = .ok (.iload_n 2, 1) := by decide +kernel
theorem dX4_put_19 : decode cX4_put 19 = .ok (.iastore, 1) := by decide +kernel
theorem dX4_put_20 : decode cX4_put 20 = .ok (.aload_n 0, 1) := by decide +kernel
theorem dX4_put_21 : decode cX4_put 21 = .ok (.getfield 22, 3) := by decide +kernel
theorem dX4_put_24 : decode cX4_put 24 = .ok (.aload_n 0, 1) := by decide +kernel
theorem dX4_put_25 : decode cX4_put 25 = .ok (.getfield 33, 3) := by decide +kernel
theorem dX4_put_28 : decode cX4_put 28 = .ok (.iload_n 3, 1) := by decide +kernel
theorem dX4_put_29 : decode cX4_put 29 = .ok (.iastore, 1) := by decide +kernel
theorem dX4_put_30 : decode cX4_put 30 = .ok (.aload_n 0, 1) := by decide +kernel
theorem dX4_put_31 : decode cX4_put 31 = .ok (.dup, 1) := by decide +kernel
theorem dX4_put_32 : decode cX4_put 32 = .ok (.getfield 33, 3) := by decide +kernel
theorem dX4_put_35 : decode cX4_put 35 = .ok (.iconst 1, 1) := by decide +kernel
theorem dX4_put_36 : decode cX4_put 36 = .ok (.iadd, 1) := by decide +kernel
theorem dX4_put_37 : decode cX4_put 37 = .ok (.putfield 33, 3) := by decide +kernel
theorem dX4_put_40 : decode cX4_put 40 = .ok (.return_, 1) := by decide +kernel
/-! AlgebraHouse$Tokens.put(III)V -/
def P_X4_put (x1 : Int) (x2 : Int) (x3 : Int) (m : MM) (Q : Int → MM → Prop) : Prop := (0 ≤ (m 366 2) ∧ (m 366 2) < 401) ∧ ∀ m1 : MM, m1 = up m 368 (m 366 2) x1 → (0 ≤ (m1 366 2) ∧ (m1 366 2) < 401) ∧ ∀ m2 : MM, m2 = up m1 369 (m1 366 2) x2 → (0 ≤ (m2 366 2) ∧ (m2 366 2) < 401) ∧ ∀ m3 : MM, m3 = up m2 370 (m2 366 2) x3 → ∀ m4 : MM, m4 = up m3 366 2 ((m3 366 2) + 1) → Q 0 m4
theorem p_X4_put {f : Nat} {Q : Int → MM → Prop} {T : MM → Prop} (hf : 1 ≤ f) (x1 : Int) (x2 : Int) (x3 : Int) (m : MM) (h : P_X4_put x1 x2 x3 m Q) : CC f M_X4_put [vR 366, vI x1, vI x2, vI x3] m Q T := by
  refine CC.of (plainFor_of_name (by decide)) (Nat.le_of_ble_eq_true rfl) (ls := [vR 366, vI x1, vI x2, vI x3]) rfl ?_
  have h : (0 ≤ (m 366 2) ∧ (m 366 2) < 401) ∧ ∀ m1 : MM, m1 = up m 368 (m 366 2) x1 → (0 ≤ (m1 366 2) ∧ (m1 366 2) < 401) ∧ ∀ m2 : MM, m2 = up m1 369 (m1 366 2) x2 → (0 ≤ (m2 366 2) ∧ (m2 366 2) < 401) ∧ ∀ m3 : MM, m3 = up m2 370 (m2 366 2) x3 → ∀ m4 : MM, m4 = up m3 366 2 ((m3 366 2) + 1) → Q 0 m4 := h
  refine b_aload_n dX4_put_0 rfl ?_
  refine b_getR dX4_put_1 fk_X4_15 ly_366 gg_366_3 ?_
  refine b_aload_n dX4_put_4 rfl ?_
  refine b_getI dX4_put_5 fk_X4_33 ly_366 ?_
  refine b_iload_n dX4_put_8 rfl ?_
  obtain ⟨g1, h⟩ := h
  refine b_iast dX4_put_9 ly_368 g1 (fun m1 em1 => ?_)
  have h := h m1 em1
  refine b_aload_n dX4_put_10 rfl ?_
  refine b_getR dX4_put_11 fk_X4_19 ly_366 gg_366_4 ?_
  refine b_aload_n dX4_put_14 rfl ?_
  refine b_getI dX4_put_15 fk_X4_33 ly_366 ?_
  refine b_iload_n dX4_put_18 rfl ?_
  obtain ⟨g2, h⟩ := h
  refine b_iast dX4_put_19 ly_369 g2 (fun m2 em2 => ?_)
  have h := h m2 em2
  refine b_aload_n dX4_put_20 rfl ?_
  refine b_getR dX4_put_21 fk_X4_22 ly_366 gg_366_5 ?_
  refine b_aload_n dX4_put_24 rfl ?_
  refine b_getI dX4_put_25 fk_X4_33 ly_366 ?_
  refine b_iload_n dX4_put_28 rfl ?_
  obtain ⟨g3, h⟩ := h
  refine b_iast dX4_put_29 ly_370 g3 (fun m3 em3 => ?_)
  have h := h m3 em3
  refine b_aload_n dX4_put_30 rfl ?_
  refine b_dup dX4_put_31 rfl ?_
  refine b_getI dX4_put_32 fk_X4_33 ly_366 ?_
  refine b_iconst dX4_put_35 ?_
  refine b_iadd dX4_put_36 ?_
  refine b_putI dX4_put_37 fk_X4_33 ly_366 (fun m4 em4 => ?_)
  have h := h m4 em4
  exact b_vret dX4_put_40 rfl h
theorem dX4_see_0 : decode cX4_see 0 = .ok (.iload_n 1, 1) := by decide +kernel
theorem dX4_see_1 : decode cX4_see 1 = .ok (.aload_n 0, 1) := by decide +kernel
theorem dX4_see_2 : decode cX4_see 2 = .ok (.getfield 29, 3) := by decide +kernel
theorem dX4_see_5 : decode cX4_see 5 = .ok (.if_icmp .ge 16, 3) := by decide +kernel
theorem dX4_see_8 : decode cX4_see 8 = .ok (.aload_n 0, 1) := by decide +kernel
theorem dX4_see_9 : decode cX4_see 9 = .ok (.getfield 9, 3) := by decide +kernel
theorem dX4_see_12 : decode cX4_see 12 = .ok (.iload_n 1, 1) := by decide +kernel
theorem dX4_see_13 : decode cX4_see 13 = .ok (.baload, 1) := by decide +kernel
theorem dX4_see_14 : decode cX4_see 14 = .ok (.sipush 255, 3) := by decide +kernel
theorem dX4_see_17 : decode cX4_see 17 = .ok (.iand, 1) := by decide +kernel
theorem dX4_see_18 : decode cX4_see 18 = .ok (.goto 4, 3) := by decide +kernel
theorem dX4_see_21 : decode cX4_see 21 = .ok (.iconst (-1), 1) := by decide +kernel
theorem dX4_see_22 : decode cX4_see 22 = .ok (.ireturn, 1) := by decide +kernel
/-! AlgebraHouse$Tokens.see(I)I -/
def P_X4_see (x1 : Int) (m : MM) (Q : Int → MM → Prop) : Prop := (RI x1) ∧ (RI (m 366 1)) ∧ (if (m 366 1) ≤ x1 then Q (-1) m else (0 ≤ x1 ∧ x1 < 400) ∧ Q (iAnd (m 367 x1) 255) m)
theorem p_X4_see {f : Nat} {Q : Int → MM → Prop} {T : MM → Prop} (hf : 1 ≤ f) (x1 : Int) (m : MM) (h : P_X4_see x1 m Q) : CC f M_X4_see [vR 366, vI x1] m Q T := by
  refine CC.of (plainFor_of_name (by decide)) (Nat.le_of_ble_eq_true rfl) (ls := [vR 366, vI x1]) rfl ?_
  have h : (RI x1) ∧ (RI (m 366 1)) ∧ (if (m 366 1) ≤ x1 then Q (-1) m else (0 ≤ x1 ∧ x1 < 400) ∧ Q (iAnd (m 367 x1) 255) m) := h
  refine b_iload_n dX4_see_0 rfl ?_
  refine b_aload_n dX4_see_1 rfl ?_
  refine b_getI dX4_see_2 fk_X4_29 ly_366 ?_
  obtain ⟨g1, h⟩ := h
  obtain ⟨g2, h⟩ := h
  refine b_icmp_ge 21 dX4_see_5 g1 g2 (by decide) (fun c1 => ?_) (fun c1 => ?_)
  · have h := ifT c1 h
    refine b_iconst dX4_see_21 ?_
    exact b_iret dX4_see_22 rfl h
  · have h := ifF c1 h
    refine b_aload_n dX4_see_8 rfl ?_
    refine b_getR dX4_see_9 fk_X4_9 ly_366 gg_366_0 ?_
    refine b_iload_n dX4_see_12 rfl ?_
    obtain ⟨g3, h⟩ := h
    refine b_bald dX4_see_13 ly_367 g3 ?_
    refine b_sipush dX4_see_14 (by decide) ?_
    refine b_iand dX4_see_17 ?_
    refine b_goto 22 dX4_see_18 (by decide) ?_
    exact b_iret dX4_see_22 rfl h
theorem dX4_number_0 : decode cX4_number 0 = .ok (.iload_n 1, 1) := by decide +kernel
theorem dX4_number_1 : decode cX4_number 1 = .ok (.istore_n 2, 1) := by decide +kernel
theorem dX4_number_2 : decode cX4_number 2 = .ok (.iconst 0, 1) := by decide +kernel
theorem dX4_number_3 : decode cX4_number 3 = .ok (.istore_n 3, 1) := by decide +kernel
theorem dX4_number_4 : decode cX4_number 4 = .ok (.aload_n 0, 1) := by decide +kernel
theorem dX4_number_5 : decode cX4_number 5 = .ok (.iload_n 2, 1) := by decide +kernel
theorem dX4_number_6 : decode cX4_number 6 = .ok (.invokevirtual 42, 3) := by decide +kernel
theorem dX4_number_9 : decode cX4_number 9 = .ok (.invokestatic 57, 3) := by decide +kernel
theorem dX4_number_12 : decode cX4_number 12 = .ok (.ifCond .eq 31, 3) := by decide +kernel
theorem dX4_number_15 : decode cX4_number 15 = .ok (.iload_n 2, 1) := by decide +kernel
theorem dX4_number_16 : decode cX4_number 16 = .ok (.iload_n 1, 1) := by decide +kernel
theorem dX4_number_17 : decode cX4_number 17 = .ok (.isub, 1) := by decide +kernel
theorem dX4_number_18 : decode cX4_number 18 = .ok (.bipush 9, 2) := by decide +kernel
theorem dX4_number_20 : decode cX4_number 20 = .ok (.if_icmp .ge 17, 3) := by decide +kernel
theorem dX4_number_23 : decode cX4_number 23 = .ok (.bipush 10, 2) := by decide +kernel
theorem dX4_number_25 : decode cX4_number 25 = .ok (.iload_n 3, 1) := by decide +kernel
theorem dX4_number_26 : decode cX4_number 26 = .ok (.imul, 1) := by decide +kernel
theorem dX4_number_27 : decode cX4_number 27 = .ok (.aload_n 0, 1) := by decide +kernel
theorem dX4_number_28 : decode cX4_number 28 = .ok (.iload_n 2, 1) := by decide +kernel
theorem dX4_number_29 : decode cX4_number 29 = .ok (.invokevirtual 42, 3) := by decide +kernel
theorem dX4_number_32 : decode cX4_number 32 = .ok (.iadd, 1) := by decide +kernel
theorem dX4_number_33 : decode cX4_number 33 = .ok (.bipush 48, 2) := by decide +kernel
theorem dX4_number_35 : decode cX4_number 35 = .ok (.isub, 1) := by decide +kernel
theorem dX4_number_36 : decode cX4_number 36 = .ok (.istore_n 3, 1) := by decide +kernel
theorem dX4_number_37 : decode cX4_number 37 = .ok (.iinc 2 1, 3) := by decide +kernel
theorem dX4_number_40 : decode cX4_number 40 = .ok (.goto (-36), 3) := by decide +kernel
theorem dX4_number_43 : decode cX4_number 43 = .ok (.aload_n 0, 1) := by decide +kernel
theorem dX4_number_44 : decode cX4_number 44 = .ok (.iload_n 2, 1) := by decide +kernel
theorem dX4_number_45 : decode cX4_number 45 = .ok (.iload_n 1, 1) := by decide +kernel
theorem dX4_number_46 : decode cX4_number 46 = .ok (.isub, 1) := by decide +kernel
theorem dX4_number_47 : decode cX4_number 47 = .ok (.bipush 9, 2) := by decide +kernel
theorem dX4_number_49 : decode cX4_number 49 = .ok (.if_icmp .gt 14, 3) := by decide +kernel
theorem dX4_number_52 : decode cX4_number 52 = .ok (.aload_n 0, 1) := by decide +kernel
theorem dX4_number_53 : decode cX4_number 53 = .ok (.iload_n 2, 1) := by decide +kernel
theorem dX4_number_54 : decode cX4_number 54 = .ok (.invokevirtual 42, 3) := by decide +kernel
theorem dX4_number_57 : decode cX4_number 57 = .ok (.invokestatic 50, 3) := by decide +kernel
theorem dX4_number_60 : decode cX4_number 60 = .ok (.ifCond .eq 8, 3) := by decide +kernel
theorem dX4_number_63 : decode cX4_number 63 = .ok (.bipush 6, 2) := by decide +kernel
theorem dX4_number_65 : decode cX4_number 65 = .ok (.goto 4, 3) := by decide +kernel
theorem dX4_number_68 : decode cX4_number 68 = .ok (.iconst 1, 1) := by decide +kernel
theorem dX4_number_69 : decode cX4_number 69 = .ok (.iload_n 3, 1) := by decide +kernel
theorem dX4_number_70 : decode cX4_number 70 = .ok (.iload_n 1, 1) := by decide +kernel
theorem dX4_number_71 : decode cX4_number 71 = .ok (.invokevirtual 46, 3) := by decide +kernel
theorem dX4_number_74 : decode cX4_number 74 = .ok (.iload_n 2, 1) := by decide +kernel
theorem dX4_number_75 : decode cX4_number 75 = .ok (.ireturn, 1) := by decide +kernel
/-! AlgebraHouse$Tokens.number(I)I -/
def P_X4_number_63 (Q : Int → MM → Prop) (x1 : Int) (x2 : Int) (x3 : Int) (m : MM) : Prop := P_X4_put 6 x3 x1 m (fun r1 m1 => Q x2 m1)
def P_X4_number_43 (Q : Int → MM → Prop) (x1 : Int) (x2 : Int) (x3 : Int) (m : MM) : Prop := (RI (x2 - x1)) ∧ (if 9 < (x2 - x1) then P_X4_number_63 Q x1 x2 x3 m else P_X4_see x2 m (fun r1 m1 => P_X4_isLetter r1 m1 (fun r2 m2 => ((RI r2)) ∧ P_X4_put (if r2 = 0 then 1 else 6 : Int) x3 x1 m2 (fun r3 m3 => Q x2 m3))))
def P_X4_number_4 (Q : Int → MM → Prop) : Nat → Int → Int → Int → MM → Prop
  | 0, _, _, _, _ => False
  | n + 1, x1, x2, x3, m => P_X4_see x2 m (fun r1 m1 => P_X4_isDigit r1 m1 (fun r2 m2 => (RI r2) ∧ (if r2 = 0 then P_X4_number_43 Q x1 x2 x3 m2 else (RI (x2 - x1)) ∧ (if 9 ≤ (x2 - x1) then P_X4_number_4 Q n x1 (x2 + 1) x3 m2 else P_X4_see x2 m2 (fun r3 m3 => P_X4_number_4 Q n x1 (x2 + 1) (((10 * x3) + r3) - 48) m3)))))
def P_X4_number (x1 : Int) (m : MM) (Q : Int → MM → Prop) : Prop := ∃ nn, P_X4_number_4 Q nn x1 x1 0 m
theorem pl_X4_number_63 {f : Nat} {Q : Int → MM → Prop} {T : MM → Prop} (hf : 2 ≤ f) : ∀ (x1 : Int) (x2 : Int) (x3 : Int) (m : MM), P_X4_number_63 Q x1 x2 x3 m → B f M_X4_number 63 [vU, vI x1, vI x2, vI x3] [vR 366] m Q T := by
  intro x1 x2 x3 m h
  have h : P_X4_put 6 x3 x1 m (fun r1 m1 => Q x2 m1) := h
  refine b_bipush dX4_number_63 (by decide) ?_
  refine b_goto 69 dX4_number_65 (by decide) ?_
  refine b_iload_n dX4_number_69 rfl ?_
  refine b_iload_n dX4_number_70 rfl ?_
  refine b_cVv (as := [vI 6, vI x3, vI x1]) (st := []) dX4_number_71 mf_X4_put qs1 lk_X4_46 ly_366 rfl (p_X4_put (f := 1) (Nat.le_refl _) _ _ _ _ h) (by omega) rfl rfl (Nat.le_of_ble_eq_true rfl) (by decide) rfl (fun _ => rfl) (fun r1 m1 h => ?_) (fun _ h => h)
  refine b_iload_n dX4_number_74 rfl ?_
  exact b_iret dX4_number_75 rfl h
theorem pl_X4_number_43 {f : Nat} {Q : Int → MM → Prop} {T : MM → Prop} (hf : 2 ≤ f) : ∀ (x1 : Int) (x2 : Int) (x3 : Int) (m : MM), P_X4_number_43 Q x1 x2 x3 m → B f M_X4_number 43 [vR 366, vI x1, vI x2, vI x3] [] m Q T := by
  intro x1 x2 x3 m h
  have h : (RI (x2 - x1)) ∧ (if 9 < (x2 - x1) then P_X4_number_63 Q x1 x2 x3 m else P_X4_see x2 m (fun r1 m1 => P_X4_isLetter r1 m1 (fun r2 m2 => ((RI r2)) ∧ P_X4_put (if r2 = 0 then 1 else 6 : Int) x3 x1 m2 (fun r3 m3 => Q x2 m3)))) := h
  refine b_aload_n dX4_number_43 rfl ?_
  refine b_iload_n dX4_number_44 rfl ?_
  refine b_iload_n dX4_number_45 rfl ?_
  refine b_isub dX4_number_46 ?_
  refine b_bipush dX4_number_47 (by decide) ?_
  obtain ⟨g1, h⟩ := h
  refine b_icmp_gt 63 dX4_number_49 g1 (by decide) (by decide) (fun c1 => ?_) (fun c1 => ?_)
  · have h := ifT c1 h
    refine b_fgt [false, true, true, true] (ls' := [vU, vI x1, vI x2, vI x3]) rfl rfl ?_
    exact pl_X4_number_63 hf _ _ _ _ h
  · have h := ifF c1 h
    refine b_aload_n dX4_number_52 rfl ?_
    refine b_iload_n dX4_number_53 rfl ?_
    refine b_cVi (as := [vI x2]) (st := [vR 366]) dX4_number_54 mf_X4_see qs0 lk_X4_42 ly_366 rfl (p_X4_see (f := 1) (Nat.le_refl _) _ _ h) (by omega) rfl rfl (Nat.le_of_ble_eq_true rfl) (by decide) rfl (fun _ => rfl) (fun r1 m1 h => ?_) (fun _ h => h)
    refine b_cSi (as := [vI r1]) (st := [vR 366]) dX4_number_57 mf_X4_isLetter lk_X4_50 (p_X4_isLetter (f := 1) (Nat.le_refl _) _ _ h) (by omega) rfl rfl (Nat.le_of_ble_eq_true rfl) (by decide) rfl (fun _ => rfl) (fun r2 m2 h => ?_) (fun _ h => h)
    obtain ⟨hs, h⟩ := h
    have K : B f M_X4_number 69 [vR 366, vI x1, vI x2, vI x3] [vI (if r2 = 0 then 1 else 6 : Int), vR 366] m2 Q T := by
      clear hs
      refine b_iload_n dX4_number_69 rfl ?_
      refine b_iload_n dX4_number_70 rfl ?_
      refine b_cVv (as := [vI (if r2 = 0 then 1 else 6 : Int), vI x3, vI x1]) (st := []) dX4_number_71 mf_X4_put qs1 lk_X4_46 ly_366 rfl (p_X4_put (f := 1) (Nat.le_refl _) _ _ _ _ h) (by omega) rfl rfl (Nat.le_of_ble_eq_true rfl) (by decide) rfl (fun _ => rfl) (fun r3 m3 h => ?_) (fun _ h => h)
      refine b_iload_n dX4_number_74 rfl ?_
      exact b_iret dX4_number_75 rfl h
    have g2 := hs
    refine b_if_eq 68 dX4_number_60 g2 (by decide) (fun c2 => ?_) (fun c2 => ?_)
    ·
      refine b_iconst dX4_number_68 ?_
      rw [if_pos c2] at K
      exact K
    ·
      refine b_bipush dX4_number_63 (by decide) ?_
      refine b_goto 69 dX4_number_65 (by decide) ?_
      rw [if_neg c2] at K
      exact K
theorem pl_X4_number_4 {f : Nat} {Q : Int → MM → Prop} {T : MM → Prop} (hf : 2 ≤ f) : ∀ (n : Nat) (x1 : Int) (x2 : Int) (x3 : Int) (m : MM), P_X4_number_4 Q n x1 x2 x3 m → B f M_X4_number 4 [vR 366, vI x1, vI x2, vI x3] [] m Q T := by
  intro n
  induction n with
  | zero => intro x1 x2 x3 m h; exact h.elim
  | succ n ih =>
    intro x1 x2 x3 m h
    have h : P_X4_see x2 m (fun r1 m1 => P_X4_isDigit r1 m1 (fun r2 m2 => (RI r2) ∧ (if r2 = 0 then P_X4_number_43 Q x1 x2 x3 m2 else (RI (x2 - x1)) ∧ (if 9 ≤ (x2 - x1) then P_X4_number_4 Q n x1 (x2 + 1) x3 m2 else P_X4_see x2 m2 (fun r3 m3 => P_X4_number_4 Q n x1 (x2 + 1) (((10 * x3) + r3) - 48) m3))))) := h
    refine b_aload_n dX4_number_4 rfl ?_
    refine b_iload_n dX4_number_5 rfl ?_
    refine b_cVi (as := [vI x2]) (st := []) dX4_number_6 mf_X4_see qs0 lk_X4_42 ly_366 rfl (p_X4_see (f := 1) (Nat.le_refl _) _ _ h) (by omega) rfl rfl (Nat.le_of_ble_eq_true rfl) (by decide) rfl (fun _ => rfl) (fun r1 m1 h => ?_) (fun _ h => h)
    refine b_cSi (as := [vI r1]) (st := []) dX4_number_9 mf_X4_isDigit lk_X4_57 (p_X4_isDigit (f := 1) (Nat.le_refl _) _ _ h) (by omega) rfl rfl (Nat.le_of_ble_eq_true rfl) (by decide) rfl (fun _ => rfl) (fun r2 m2 h => ?_) (fun _ h => h)
    obtain ⟨g1, h⟩ := h
    refine b_if_eq 43 dX4_number_12 g1 (by decide) (fun c1 => ?_) (fun c1 => ?_)
    · have h := ifT c1 h
      exact pl_X4_number_43 hf _ _ _ _ h
    · have h := ifF c1 h
      refine b_iload_n dX4_number_15 rfl ?_
      refine b_iload_n dX4_number_16 rfl ?_
      refine b_isub dX4_number_17 ?_
      refine b_bipush dX4_number_18 (by decide) ?_
      obtain ⟨g2, h⟩ := h
      refine b_icmp_ge 37 dX4_number_20 g2 (by decide) (by decide) (fun c2 => ?_) (fun c2 => ?_)
      · have h := ifT c2 h
        refine b_iinc (ls' := [vR 366, vI x1, vI (x2 + 1), vI x3]) dX4_number_37 rfl rfl ?_
        refine b_goto 4 dX4_number_40 (by decide) ?_
        exact ih _ _ _ _ h
      · have h := ifF c2 h
        refine b_bipush dX4_number_23 (by decide) ?_
        refine b_iload_n dX4_number_25 rfl ?_
        refine b_imul dX4_number_26 ?_
        refine b_aload_n dX4_number_27 rfl ?_
        refine b_iload_n dX4_number_28 rfl ?_
        refine b_cVi (as := [vI x2]) (st := [vI (10 * x3)]) dX4_number_29 mf_X4_see qs0 lk_X4_42 ly_366 rfl (p_X4_see (f := 1) (Nat.le_refl _) _ _ h) (by omega) rfl rfl (Nat.le_of_ble_eq_true rfl) (by decide) rfl (fun _ => rfl) (fun r3 m3 h => ?_) (fun _ h => h)
        refine b_iadd dX4_number_32 ?_
        refine b_bipush dX4_number_33 (by decide) ?_
        refine b_isub dX4_number_35 ?_
        refine b_istore_n (ls' := [vR 366, vI x1, vI x2, vI (((10 * x3) + r3) - 48)]) dX4_number_36 (Nat.le_of_ble_eq_true rfl) rfl ?_
        refine b_iinc (ls' := [vR 366, vI x1, vI (x2 + 1), vI (((10 * x3) + r3) - 48)]) dX4_number_37 rfl rfl ?_
        refine b_goto 4 dX4_number_40 (by decide) ?_
        exact ih _ _ _ _ h
theorem p_X4_number {f : Nat} {Q : Int → MM → Prop} {T : MM → Prop} (hf : 2 ≤ f) (x1 : Int) (m : MM) (h : P_X4_number x1 m Q) : CC f M_X4_number [vR 366, vI x1] m Q T := by
  refine CC.of (plainFor_of_name (by decide)) (Nat.le_of_ble_eq_true rfl) (ls := [vR 366, vI x1, vU, vU]) rfl ?_
  have h : ∃ nn, P_X4_number_4 Q nn x1 x1 0 m := h
  refine b_iload_n dX4_number_0 rfl ?_
  refine b_istore_n (ls' := [vR 366, vI x1, vI x1, vU]) dX4_number_1 (Nat.le_of_ble_eq_true rfl) rfl ?_
  refine b_iconst dX4_number_2 ?_
  refine b_istore_n (ls' := [vR 366, vI x1, vI x1, vI 0]) dX4_number_3 (Nat.le_of_ble_eq_true rfl) rfl ?_
  obtain ⟨nn, h⟩ := h
  exact pl_X4_number_4 hf nn _ _ _ _ h
theorem dX4_sign_0 : decode cX4_sign 0 = .ok (.aload_n 0, 1) := by decide +kernel
theorem dX4_sign_1 : decode cX4_sign 1 = .ok (.iload_n 1, 1) := by decide +kernel
theorem dX4_sign_2 : decode cX4_sign 2 = .ok (.iconst 1, 1) := by decide +kernel
theorem dX4_sign_3 : decode cX4_sign 3 = .ok (.iadd, 1) := by decide +kernel
theorem dX4_sign_4 : decode cX4_sign 4 = .ok (.invokevirtual 42, 3) := by decide +kernel
theorem dX4_sign_7 : decode cX4_sign 7 = .ok (.istore_n 3, 1) := by decide +kernel
theorem dX4_sign_8 : decode cX4_sign 8 = .ok (.iload_n 2, 1) := by decide +kernel
theorem dX4_sign_9 : decode cX4_sign 9 = .ok (.bipush 58, 2) := by decide +kernel
theorem dX4_sign_11 : decode cX4_sign 11 = .ok (.if_icmp .ne 15, 3) := by decide +kernel
theorem dX4_sign_14 : decode cX4_sign 14 = .ok (.iload_n 3, 1) := by decide +kernel
theorem dX4_sign_15 : decode cX4_sign 15 = .ok (.bipush 61, 2) := by decide +kernel
theorem dX4_sign_17 : decode cX4_sign 17 = .ok (.if_icmp .ne 9, 3) := by decide +kernel
theorem dX4_sign_20 : decode cX4_sign 20 = .ok (.sipush 128, 3) := by decide +kernel
theorem dX4_sign_23 : decode cX4_sign 23 = .ok (.goto 58, 3) := by decide +kernel
theorem dX4_sign_26 : decode cX4_sign 26 = .ok (.iload_n 2, 1) := by decide +kernel
theorem dX4_sign_27 : decode cX4_sign 27 = .ok (.bipush 61, 2) := by decide +kernel
theorem dX4_sign_29 : decode cX4_sign 29 = .ok (.if_icmp .ne 15, 3) := by decide +kernel
theorem dX4_sign_32 : decode cX4_sign 32 = .ok (.iload_n 3, 1) := by decide +kernel
theorem dX4_sign_33 : decode cX4_sign 33 = .ok (.bipush 61, 2) := by decide +kernel
theorem dX4_sign_35 : decode cX4_sign 35 = .ok (.if_icmp .ne 9, 3) := by decide +kernel
theorem dX4_sign_38 : decode cX4_sign 38 = .ok (.sipush 129, 3) := by decide +kernel
theorem dX4_sign_41 : decode cX4_sign 41 = .ok (.goto 40, 3) := by decide +kernel
theorem dX4_sign_44 : decode cX4_sign 44 = .ok (.iload_n 2, 1) := by decide +kernel
theorem dX4_sign_45 : decode cX4_sign 45 = .ok (.bipush 58, 2) := by decide +kernel
theorem dX4_sign_47 : decode cX4_sign 47 = .ok (.if_icmp .ne 15, 3) := by decide +kernel
theorem dX4_sign_50 : decode cX4_sign 50 = .ok (.iload_n 3, 1) := by decide +kernel
theorem dX4_sign_51 : decode cX4_sign 51 = .ok (.bipush 58, 2) := by decide +kernel
theorem dX4_sign_53 : decode cX4_sign 53 = .ok (.if_icmp .ne 9, 3) := by decide +kernel
theorem dX4_sign_56 : decode cX4_sign 56 = .ok (.sipush 130, 3) := by decide +kernel
theorem dX4_sign_59 : decode cX4_sign 59 = .ok (.goto 22, 3) := by decide +kernel
theorem dX4_sign_62 : decode cX4_sign 62 = .ok (.iload_n 2, 1) := by decide +kernel
theorem dX4_sign_63 : decode cX4_sign 63 = .ok (.bipush 60, 2) := by decide +kernel
theorem dX4_sign_65 : decode cX4_sign 65 = .ok (.if_icmp .ne 15, 3) := by decide +kernel
theorem dX4_sign_68 : decode cX4_sign 68 = .ok (.iload_n 3, 1) := by decide +kernel
theorem dX4_sign_69 : decode cX4_sign 69 = .ok (.bipush 61, 2) := by decide +kernel
theorem dX4_sign_71 : decode cX4_sign 71 = .ok (.if_icmp .ne 9, 3) := by decide +kernel
theorem dX4_sign_74 : decode cX4_sign 74 = .ok (.sipush 131, 3) := by decide +kernel
theorem dX4_sign_77 : decode cX4_sign 77 = .ok (.goto 4, 3) := by decide +kernel
theorem dX4_sign_80 : decode cX4_sign 80 = .ok (.iconst (-1), 1) := by decide +kernel
theorem dX4_sign_81 : decode cX4_sign 81 = .ok (.istore 4, 2) := by decide +kernel
theorem dX4_sign_83 : decode cX4_sign 83 = .ok (.iload 4, 2) := by decide +kernel
theorem dX4_sign_85 : decode cX4_sign 85 = .ok (.iconst (-1), 1) := by decide +kernel
theorem dX4_sign_86 : decode cX4_sign 86 = .ok (.if_icmp .eq 15, 3) := by decide +kernel
theorem dX4_sign_89 : decode cX4_sign 89 = .ok (.aload_n 0, 1) := by decide +kernel
theorem dX4_sign_90 : decode cX4_sign 90 = .ok (.iconst 5, 1) := by decide +kernel
theorem dX4_sign_91 : decode cX4_sign 91 = .ok (.iload 4, 2) := by decide +kernel
theorem dX4_sign_93 : decode cX4_sign 93 = .ok (.iload_n 1, 1) := by decide +kernel
theorem dX4_sign_94 : decode cX4_sign 94 = .ok (.invokevirtual 46, 3) := by decide +kernel
theorem dX4_sign_97 : decode cX4_sign 97 = .ok (.iload_n 1, 1) := by decide +kernel
theorem dX4_sign_98 : decode cX4_sign 98 = .ok (.iconst 2, 1) := by decide +kernel
theorem dX4_sign_99 : decode cX4_sign 99 = .ok (.iadd, 1) := by decide +kernel
theorem dX4_sign_100 : decode cX4_sign 100 = .ok (.ireturn, 1) := by decide +kernel
theorem dX4_sign_101 : decode cX4_sign 101 = .ok (.aload_n 0, 1) := by decide +kernel
theorem dX4_sign_102 : decode cX4_sign 102 = .ok (.ldc 90, 2) := by decide +kernel
theorem dX4_sign_104 : decode cX4_sign 104 = .ok (.iload_n 2, 1) := by decide +kernel
theorem dX4_sign_105 : decode cX4_sign 105 = .ok (.i2c, 1) := by decide +kernel
theorem dX4_sign_106 : decode cX4_sign 106 = .ok (.invokevirtual 92, 3) := by decide +kernel
theorem dX4_sign_109 : decode cX4_sign 109 = .ok (.ifCond .lt 11, 3) := by decide +kernel
theorem dX4_sign_112 : decode cX4_sign 112 = .ok (.iload_n 2, 1) := by decide +kernel
theorem dX4_sign_113 : decode cX4_sign 113 = .ok (.ifCond .le 7, 3) := by decide +kernel
theorem dX4_sign_116 : decode cX4_sign 116 = .ok (.iconst 5, 1) := by decide +kernel
theorem dX4_sign_117 : decode cX4_sign 117 = .ok (.goto 5, 3) := by decide +kernel
theorem dX4_sign_120 : decode cX4_sign 120 = .ok (.bipush 6, 2) := by decide +kernel
theorem dX4_sign_122 : decode cX4_sign 122 = .ok (.iload_n 2, 1) := by decide +kernel
theorem dX4_sign_123 : decode cX4_sign 123 = .ok (.iload_n 1, 1) := by decide +kernel
theorem dX4_sign_124 : decode cX4_sign 124 = .ok (.invokevirtual 46, 3) := by decide +kernel
theorem dX4_sign_127 : decode cX4_sign 127 = .ok (.iload_n 1, 1) := by decide +kernel
theorem dX4_sign_128 : decode cX4_sign 128 = .ok (.iconst 1, 1) := by decide +kernel
theorem dX4_sign_129 : decode cX4_sign 129 = .ok (.iadd, 1) := by decide +kernel
theorem dX4_sign_130 : decode cX4_sign 130 = .ok (.ireturn, 1) := by decide +kernel
/-! AlgebraHouse$Tokens.sign(II)I -/
def P_X4_sign_26 (Q : Int → MM → Prop) (x1 : Int) (x2 : Int) (x3 : Int) (m : MM) : Prop := ((RI x2) ∧ (if x2 = 61 then ((RI x3)) else ((if x2 = 58 then ((RI x3)) else ((if x2 = 60 then ((RI x3)) else True)))))) ∧ (RI (if x2 = 61 then (if x3 = 61 then 129 else (if x2 = 58 then (if x3 = 58 then 130 else (if x2 = 60 then (if x3 = 61 then 131 else (-1) : Int) else (-1) : Int) : Int) else (if x2 = 60 then (if x3 = 61 then 131 else (-1) : Int) else (-1) : Int) : Int) : Int) else (if x2 = 58 then (if x3 = 58 then 130 else (if x2 = 60 then (if x3 = 61 then 131 else (-1) : Int) else (-1) : Int) : Int) else (if x2 = 60 then (if x3 = 61 then 131 else (-1) : Int) else (-1) : Int) : Int) : Int)) ∧ (if (if x2 = 61 then (if x3 = 61 then 129 else (if x2 = 58 then (if x3 = 58 then 130 else (if x2 = 60 then (if x3 = 61 then 131 else (-1) : Int) else (-1) : Int) : Int) else (if x2 = 60 then (if x3 = 61 then 131 else (-1) : Int) else (-1) : Int) : Int) : Int) else (if x2 = 58 then (if x3 = 58 then 130 else (if x2 = 60 then (if x3 = 61 then 131 else (-1) : Int) else (-1) : Int) : Int) else (if x2 = 60 then (if x3 = 61 then 131 else (-1) : Int) else (-1) : Int) : Int) : Int) = (-1) then (isSt (-3)) ∧ P_J0_indexOf (-3) (i2C x2) m (fun r1 m1 => ((RI r1) ∧ (if r1 < 0 then True else ((RI x2)))) ∧ P_X4_put (if r1 < 0 then 6 else (if x2 ≤ 0 then 6 else 5 : Int) : Int) x2 x1 m1 (fun r2 m2 => Q (x1 + 1) m2)) else P_X4_put 5 (if x2 = 61 then (if x3 = 61 then 129 else (if x2 = 58 then (if x3 = 58 then 130 else (if x2 = 60 then (if x3 = 61 then 131 else (-1) : Int) else (-1) : Int) : Int) else (if x2 = 60 then (if x3 = 61 then 131 else (-1) : Int) else (-1) : Int) : Int) : Int) else (if x2 = 58 then (if x3 = 58 then 130 else (if x2 = 60 then (if x3 = 61 then 131 else (-1) : Int) else (-1) : Int) : Int) else (if x2 = 60 then (if x3 = 61 then 131 else (-1) : Int) else (-1) : Int) : Int) : Int) x1 m (fun r3 m3 => Q (x1 + 2) m3))
def P_X4_sign_81 (Q : Int → MM → Prop) (x1 : Int) (x2 : Int) (s0 : Int) (m : MM) : Prop := (RI s0) ∧ (if s0 = (-1) then (isSt (-3)) ∧ P_J0_indexOf (-3) (i2C x2) m (fun r1 m1 => ((RI r1) ∧ (if r1 < 0 then True else ((RI x2)))) ∧ P_X4_put (if r1 < 0 then 6 else (if x2 ≤ 0 then 6 else 5 : Int) : Int) x2 x1 m1 (fun r2 m2 => Q (x1 + 1) m2)) else P_X4_put 5 s0 x1 m (fun r3 m3 => Q (x1 + 2) m3))
def P_X4_sign (x1 : Int) (x2 : Int) (m : MM) (Q : Int → MM → Prop) : Prop := P_X4_see (x1 + 1) m (fun r1 m1 => (RI x2) ∧ (if x2 = 58 then (RI r1) ∧ (if r1 = 61 then P_X4_sign_81 Q x1 x2 128 m1 else P_X4_sign_26 Q x1 x2 r1 m1) else P_X4_sign_26 Q x1 x2 r1 m1))
theorem pl_X4_sign_26 {f : Nat} {Q : Int → MM → Prop} {T : MM → Prop} (hf : 5 ≤ f) : ∀ (x1 : Int) (x2 : Int) (x3 : Int) (m : MM), P_X4_sign_26 Q x1 x2 x3 m → B f M_X4_sign 26 [vR 366, vI x1, vI x2, vI x3, vU] [] m Q T := by
  intro x1 x2 x3 m h
  have h : ((RI x2) ∧ (if x2 = 61 then ((RI x3)) else ((if x2 = 58 then ((RI x3)) else ((if x2 = 60 then ((RI x3)) else True)))))) ∧ (RI (if x2 = 61 then (if x3 = 61 then 129 else (if x2 = 58 then (if x3 = 58 then 130 else (if x2 = 60 then (if x3 = 61 then 131 else (-1) : Int) else (-1) : Int) : Int) else (if x2 = 60 then (if x3 = 61 then 131 else (-1) : Int) else (-1) : Int) : Int) : Int) else (if x2 = 58 then (if x3 = 58 then 130 else (if x2 = 60 then (if x3 = 61 then 131 else (-1) : Int) else (-1) : Int) : Int) else (if x2 = 60 then (if x3 = 61 then 131 else (-1) : Int) else (-1) : Int) : Int) : Int)) ∧ (if (if x2 = 61 then (if x3 = 61 then 129 else (if x2 = 58 then (if x3 = 58 then 130 else (if x2 = 60 then (if x3 = 61 then 131 else (-1) : Int) else (-1) : Int) : Int) else (if x2 = 60 then (if x3 = 61 then 131 else (-1) : Int) else (-1) : Int) : Int) : Int) else (if x2 = 58 then (if x3 = 58 then 130 else (if x2 = 60 then (if x3 = 61 then 131 else (-1) : Int) else (-1) : Int) : Int) else (if x2 = 60 then (if x3 = 61 then 131 else (-1) : Int) else (-1) : Int) : Int) : Int) = (-1) then (isSt (-3)) ∧ P_J0_indexOf (-3) (i2C x2) m (fun r1 m1 => ((RI r1) ∧ (if r1 < 0 then True else ((RI x2)))) ∧ P_X4_put (if r1 < 0 then 6 else (if x2 ≤ 0 then 6 else 5 : Int) : Int) x2 x1 m1 (fun r2 m2 => Q (x1 + 1) m2)) else P_X4_put 5 (if x2 = 61 then (if x3 = 61 then 129 else (if x2 = 58 then (if x3 = 58 then 130 else (if x2 = 60 then (if x3 = 61 then 131 else (-1) : Int) else (-1) : Int) : Int) else (if x2 = 60 then (if x3 = 61 then 131 else (-1) : Int) else (-1) : Int) : Int) : Int) else (if x2 = 58 then (if x3 = 58 then 130 else (if x2 = 60 then (if x3 = 61 then 131 else (-1) : Int) else (-1) : Int) : Int) else (if x2 = 60 then (if x3 = 61 then 131 else (-1) : Int) else (-1) : Int) : Int) : Int) x1 m (fun r3 m3 => Q (x1 + 2) m3)) := h
  refine b_iload_n dX4_sign_26 rfl ?_
  refine b_bipush dX4_sign_27 (by decide) ?_
  obtain ⟨hs, h⟩ := h
  have K : B f M_X4_sign 81 [vR 366, vI x1, vI x2, vI x3, vU] [vI (if x2 = 61 then (if x3 = 61 then 129 else (if x2 = 58 then (if x3 = 58 then 130 else (if x2 = 60 then (if x3 = 61 then 131 else (-1) : Int) else (-1) : Int) : Int) else (if x2 = 60 then (if x3 = 61 then 131 else (-1) : Int) else (-1) : Int) : Int) : Int) else (if x2 = 58 then (if x3 = 58 then 130 else (if x2 = 60 then (if x3 = 61 then 131 else (-1) : Int) else (-1) : Int) : Int) else (if x2 = 60 then (if x3 = 61 then 131 else (-1) : Int) else (-1) : Int) : Int) : Int)] m Q T := by
    clear hs
    refine b_istore (ls' := [vR 366, vI x1, vI x2, vI x3, vI (if x2 = 61 then (if x3 = 61 then 129 else (if x2 = 58 then (if x3 = 58 then 130 else (if x2 = 60 then (if x3 = 61 then 131 else (-1) : Int) else (-1) : Int) : Int) else (if x2 = 60 then (if x3 = 61 then 131 else (-1) : Int) else (-1) : Int) : Int) : Int) else (if x2 = 58 then (if x3 = 58 then 130 else (if x2 = 60 then (if x3 = 61 then 131 else (-1) : Int) else (-1) : Int) : Int) else (if x2 = 60 then (if x3 = 61 then 131 else (-1) : Int) else (-1) : Int) : Int) : Int)]) dX4_sign_81 (Nat.le_of_ble_eq_true rfl) rfl ?_
    refine b_iload dX4_sign_83 rfl ?_
    refine b_iconst dX4_sign_85 ?_
    obtain ⟨g5, h⟩ := h
    refine b_icmp_eq 101 dX4_sign_86 g5 (by decide) (by decide) (fun c1 => ?_) (fun c1 => ?_)
    · have h := ifT c1 h
      refine b_aload_n dX4_sign_101 rfl ?_
      refine b_ldcS (z := -3) dX4_sign_102 (by decide) q845 (fun E h => h.2.2.2.2.2.2.2.2.2.1) ?_
      refine b_iload_n dX4_sign_104 rfl ?_
      refine b_i2c dX4_sign_105 ?_
      obtain ⟨g6, h⟩ := h
      refine b_cO (as := [vI (i2C x2)]) (st := [vR 366]) dX4_sign_106 mf_J0_indexOf q848 q846 g6 rfl (p_J0_indexOf (f := 4) (Nat.le_refl _) _ _ _ h) (by omega) rfl rfl (Nat.le_of_ble_eq_true rfl) (by decide) rfl (fun _ => rfl) (fun r1 m1 h => ?_) (fun _ h => h)
      obtain ⟨hs, h⟩ := h
      have K : B f M_X4_sign 122 [vR 366, vI x1, vI x2, vI x3, vI (if x2 = 61 then (if x3 = 61 then 129 else (if x2 = 58 then (if x3 = 58 then 130 else (if x2 = 60 then (if x3 = 61 then 131 else (-1) : Int) else (-1) : Int) : Int) else (if x2 = 60 then (if x3 = 61 then 131 else (-1) : Int) else (-1) : Int) : Int) : Int) else (if x2 = 58 then (if x3 = 58 then 130 else (if x2 = 60 then (if x3 = 61 then 131 else (-1) : Int) else (-1) : Int) : Int) else (if x2 = 60 then (if x3 = 61 then 131 else (-1) : Int) else (-1) : Int) : Int) : Int)] [vI (if r1 < 0 then 6 else (if x2 ≤ 0 then 6 else 5 : Int) : Int), vR 366] m1 Q T := by
        clear hs
        refine b_iload_n dX4_sign_122 rfl ?_
        refine b_iload_n dX4_sign_123 rfl ?_
        refine b_cVv (as := [vI (if r1 < 0 then 6 else (if x2 ≤ 0 then 6 else 5 : Int) : Int), vI x2, vI x1]) (st := []) dX4_sign_124 mf_X4_put qs1 lk_X4_46 ly_366 rfl (p_X4_put (f := 1) (Nat.le_refl _) _ _ _ _ h) (by omega) rfl rfl (Nat.le_of_ble_eq_true rfl) (by decide) rfl (fun _ => rfl) (fun r2 m2 h => ?_) (fun _ h => h)
        refine b_iload_n dX4_sign_127 rfl ?_
        refine b_iconst dX4_sign_128 ?_
        refine b_iadd dX4_sign_129 ?_
        exact b_iret dX4_sign_130 rfl h
      obtain ⟨g7, hs⟩ := hs
      refine b_if_lt 120 dX4_sign_109 g7 (by decide) (fun c2 => ?_) (fun c2 => ?_)
      ·
        refine b_bipush dX4_sign_120 (by decide) ?_
        rw [if_pos c2] at K
        exact K
      ·
        have hs := ifF c2 hs
        have g8 := hs
        refine b_iload_n dX4_sign_112 rfl ?_
        refine b_if_le 120 dX4_sign_113 g8 (by decide) (fun c3 => ?_) (fun c3 => ?_)
        ·
          refine b_bipush dX4_sign_120 (by decide) ?_
          rw [if_neg c2, if_pos c3] at K
          exact K
        ·
          refine b_iconst dX4_sign_116 ?_
          refine b_goto 122 dX4_sign_117 (by decide) ?_
          rw [if_neg c2, if_neg c3] at K
          exact K
    · have h := ifF c1 h
      refine b_aload_n dX4_sign_89 rfl ?_
      refine b_iconst dX4_sign_90 ?_
      refine b_iload dX4_sign_91 rfl ?_
      refine b_iload_n dX4_sign_93 rfl ?_
      refine b_cVv (as := [vI 5, vI (if x2 = 61 then (if x3 = 61 then 129 else (if x2 = 58 then (if x3 = 58 then 130 else (if x2 = 60 then (if x3 = 61 then 131 else (-1) : Int) else (-1) : Int) : Int) else (if x2 = 60 then (if x3 = 61 then 131 else (-1) : Int) else (-1) : Int) : Int) : Int) else (if x2 = 58 then (if x3 = 58 then 130 else (if x2 = 60 then (if x3 = 61 then 131 else (-1) : Int) else (-1) : Int) : Int) else (if x2 = 60 then (if x3 = 61 then 131 else (-1) : Int) else (-1) : Int) : Int) : Int), vI x1]) (st := []) dX4_sign_94 mf_X4_put qs1 lk_X4_46 ly_366 rfl (p_X4_put (f := 1) (Nat.le_refl _) _ _ _ _ h) (by omega) rfl rfl (Nat.le_of_ble_eq_true rfl) (by decide) rfl (fun _ => rfl) (fun r3 m3 h => ?_) (fun _ h => h)
      refine b_iload_n dX4_sign_97 rfl ?_
      refine b_iconst dX4_sign_98 ?_
      refine b_iadd dX4_sign_99 ?_
      exact b_iret dX4_sign_100 rfl h
  obtain ⟨g1, hs⟩ := hs
  refine b_icmp_ne 44 dX4_sign_29 g1 (by decide) (by decide) (fun c4 => ?_) (fun c4 => ?_)
  ·
    have hs := ifF c4 hs
    refine b_iload_n dX4_sign_44 rfl ?_
    refine b_bipush dX4_sign_45 (by decide) ?_
    refine b_icmp_ne 62 dX4_sign_47 g1 (by decide) (by decide) (fun c5 => ?_) (fun c5 => ?_)
    ·
      have hs := ifF c5 hs
      refine b_iload_n dX4_sign_62 rfl ?_
      refine b_bipush dX4_sign_63 (by decide) ?_
      refine b_icmp_ne 80 dX4_sign_65 g1 (by decide) (by decide) (fun c6 => ?_) (fun c6 => ?_)
      ·
        refine b_iconst dX4_sign_80 ?_
        rw [if_neg c4, if_neg c5, if_neg c6] at K
        exact K
      ·
        have c6 := Decidable.of_not_not c6
        have hs := ifT c6 hs
        have g2 := hs
        refine b_iload_n dX4_sign_68 rfl ?_
        refine b_bipush dX4_sign_69 (by decide) ?_
        refine b_icmp_ne 80 dX4_sign_71 g2 (by decide) (by decide) (fun c7 => ?_) (fun c7 => ?_)
        ·
          refine b_iconst dX4_sign_80 ?_
          rw [if_neg c4, if_neg c5, if_pos c6, if_neg c7] at K
          exact K
        ·
          have c7 := Decidable.of_not_not c7
          refine b_sipush dX4_sign_74 (by decide) ?_
          refine b_goto 81 dX4_sign_77 (by decide) ?_
          rw [if_neg c4, if_neg c5, if_pos c6, if_pos c7] at K
          exact K
    ·
      have c5 := Decidable.of_not_not c5
      have hs := ifT c5 hs
      have g3 := hs
      refine b_iload_n dX4_sign_50 rfl ?_
      refine b_bipush dX4_sign_51 (by decide) ?_
      refine b_icmp_ne 62 dX4_sign_53 g3 (by decide) (by decide) (fun c8 => ?_) (fun c8 => ?_)
      ·
        refine b_iload_n dX4_sign_62 rfl ?_
        refine b_bipush dX4_sign_63 (by decide) ?_
        refine b_icmp_ne 80 dX4_sign_65 g1 (by decide) (by decide) (fun c9 => ?_) (fun c9 => ?_)
        ·
          refine b_iconst dX4_sign_80 ?_
          rw [if_neg c4, if_pos c5, if_neg c8, if_neg c9] at K
          exact K
        ·
          have c9 := Decidable.of_not_not c9
          refine b_iload_n dX4_sign_68 rfl ?_
          refine b_bipush dX4_sign_69 (by decide) ?_
          refine b_icmp_ne 80 dX4_sign_71 g3 (by decide) (by decide) (fun c10 => ?_) (fun c10 => ?_)
          ·
            refine b_iconst dX4_sign_80 ?_
            rw [if_neg c4, if_pos c5, if_neg c8, if_pos c9, if_neg c10] at K
            exact K
          ·
            have c10 := Decidable.of_not_not c10
            refine b_sipush dX4_sign_74 (by decide) ?_
            refine b_goto 81 dX4_sign_77 (by decide) ?_
            rw [if_neg c4, if_pos c5, if_neg c8, if_pos c9, if_pos c10] at K
            exact K
      ·
        have c8 := Decidable.of_not_not c8
        refine b_sipush dX4_sign_56 (by decide) ?_
        refine b_goto 81 dX4_sign_59 (by decide) ?_
        rw [if_neg c4, if_pos c5, if_pos c8] at K
        exact K
  ·
    have c4 := Decidable.of_not_not c4
    have hs := ifT c4 hs
    have g4 := hs
    refine b_iload_n dX4_sign_32 rfl ?_
    refine b_bipush dX4_sign_33 (by decide) ?_
    refine b_icmp_ne 44 dX4_sign_35 g4 (by decide) (by decide) (fun c11 => ?_) (fun c11 => ?_)
    ·
      refine b_iload_n dX4_sign_44 rfl ?_
      refine b_bipush dX4_sign_45 (by decide) ?_
      refine b_icmp_ne 62 dX4_sign_47 g1 (by decide) (by decide) (fun c12 => ?_) (fun c12 => ?_)
      ·
        refine b_iload_n dX4_sign_62 rfl ?_
        refine b_bipush dX4_sign_63 (by decide) ?_
        refine b_icmp_ne 80 dX4_sign_65 g1 (by decide) (by decide) (fun c13 => ?_) (fun c13 => ?_)
        ·
          refine b_iconst dX4_sign_80 ?_
          rw [if_pos c4, if_neg c11, if_neg c12, if_neg c13] at K
          exact K
        ·
          have c13 := Decidable.of_not_not c13
          refine b_iload_n dX4_sign_68 rfl ?_
          refine b_bipush dX4_sign_69 (by decide) ?_
          refine b_icmp_ne 80 dX4_sign_71 g4 (by decide) (by decide) (fun c14 => ?_) (fun c14 => ?_)
          ·
            refine b_iconst dX4_sign_80 ?_
            rw [if_pos c4, if_neg c11, if_neg c12, if_pos c13, if_neg c14] at K
            exact K
          ·
            have c14 := Decidable.of_not_not c14
            refine b_sipush dX4_sign_74 (by decide) ?_
            refine b_goto 81 dX4_sign_77 (by decide) ?_
            rw [if_pos c4, if_neg c11, if_neg c12, if_pos c13, if_pos c14] at K
            exact K
      ·
        have c12 := Decidable.of_not_not c12
        refine b_iload_n dX4_sign_50 rfl ?_
        refine b_bipush dX4_sign_51 (by decide) ?_
        refine b_icmp_ne 62 dX4_sign_53 g4 (by decide) (by decide) (fun c15 => ?_) (fun c15 => ?_)
        ·
          refine b_iload_n dX4_sign_62 rfl ?_
          refine b_bipush dX4_sign_63 (by decide) ?_
          refine b_icmp_ne 80 dX4_sign_65 g1 (by decide) (by decide) (fun c16 => ?_) (fun c16 => ?_)
          ·
            refine b_iconst dX4_sign_80 ?_
            rw [if_pos c4, if_neg c11, if_pos c12, if_neg c15, if_neg c16] at K
            exact K
          ·
            have c16 := Decidable.of_not_not c16
            refine b_iload_n dX4_sign_68 rfl ?_
            refine b_bipush dX4_sign_69 (by decide) ?_
            refine b_icmp_ne 80 dX4_sign_71 g4 (by decide) (by decide) (fun c17 => ?_) (fun c17 => ?_)
            ·
              refine b_iconst dX4_sign_80 ?_
              rw [if_pos c4, if_neg c11, if_pos c12, if_neg c15, if_pos c16, if_neg c17] at K
              exact K
            ·
              have c17 := Decidable.of_not_not c17
              refine b_sipush dX4_sign_74 (by decide) ?_
              refine b_goto 81 dX4_sign_77 (by decide) ?_
              rw [if_pos c4, if_neg c11, if_pos c12, if_neg c15, if_pos c16, if_pos c17] at K
              exact K
        ·
          have c15 := Decidable.of_not_not c15
          refine b_sipush dX4_sign_56 (by decide) ?_
          refine b_goto 81 dX4_sign_59 (by decide) ?_
          rw [if_pos c4, if_neg c11, if_pos c12, if_pos c15] at K
          exact K
    ·
      have c11 := Decidable.of_not_not c11
      refine b_sipush dX4_sign_38 (by decide) ?_
      refine b_goto 81 dX4_sign_41 (by decide) ?_
      rw [if_pos c4, if_pos c11] at K
      exact K
theorem pl_X4_sign_81 {f : Nat} {Q : Int → MM → Prop} {T : MM → Prop} (hf : 5 ≤ f) : ∀ (x1 : Int) (x2 : Int) (s0 : Int) (m : MM), P_X4_sign_81 Q x1 x2 s0 m → B f M_X4_sign 81 [vR 366, vI x1, vI x2, vU, vU] [vI s0] m Q T := by
  intro x1 x2 s0 m h
  have h : (RI s0) ∧ (if s0 = (-1) then (isSt (-3)) ∧ P_J0_indexOf (-3) (i2C x2) m (fun r1 m1 => ((RI r1) ∧ (if r1 < 0 then True else ((RI x2)))) ∧ P_X4_put (if r1 < 0 then 6 else (if x2 ≤ 0 then 6 else 5 : Int) : Int) x2 x1 m1 (fun r2 m2 => Q (x1 + 1) m2)) else P_X4_put 5 s0 x1 m (fun r3 m3 => Q (x1 + 2) m3)) := h
  refine b_istore (ls' := [vR 366, vI x1, vI x2, vU, vI s0]) dX4_sign_81 (Nat.le_of_ble_eq_true rfl) rfl ?_
  refine b_iload dX4_sign_83 rfl ?_
  refine b_iconst dX4_sign_85 ?_
  obtain ⟨g1, h⟩ := h
  refine b_icmp_eq 101 dX4_sign_86 g1 (by decide) (by decide) (fun c1 => ?_) (fun c1 => ?_)
  · have h := ifT c1 h
    refine b_aload_n dX4_sign_101 rfl ?_
    refine b_ldcS (z := -3) dX4_sign_102 (by decide) q845 (fun E h => h.2.2.2.2.2.2.2.2.2.1) ?_
    refine b_iload_n dX4_sign_104 rfl ?_
    refine b_i2c dX4_sign_105 ?_
    obtain ⟨g2, h⟩ := h
    refine b_cO (as := [vI (i2C x2)]) (st := [vR 366]) dX4_sign_106 mf_J0_indexOf q848 q846 g2 rfl (p_J0_indexOf (f := 4) (Nat.le_refl _) _ _ _ h) (by omega) rfl rfl (Nat.le_of_ble_eq_true rfl) (by decide) rfl (fun _ => rfl) (fun r1 m1 h => ?_) (fun _ h => h)
    obtain ⟨hs, h⟩ := h
    have K : B f M_X4_sign 122 [vR 366, vI x1, vI x2, vU, vI s0] [vI (if r1 < 0 then 6 else (if x2 ≤ 0 then 6 else 5 : Int) : Int), vR 366] m1 Q T := by
      clear hs
      refine b_iload_n dX4_sign_122 rfl ?_
      refine b_iload_n dX4_sign_123 rfl ?_
      refine b_cVv (as := [vI (if r1 < 0 then 6 else (if x2 ≤ 0 then 6 else 5 : Int) : Int), vI x2, vI x1]) (st := []) dX4_sign_124 mf_X4_put qs1 lk_X4_46 ly_366 rfl (p_X4_put (f := 1) (Nat.le_refl _) _ _ _ _ h) (by omega) rfl rfl (Nat.le_of_ble_eq_true rfl) (by decide) rfl (fun _ => rfl) (fun r2 m2 h => ?_) (fun _ h => h)
      refine b_iload_n dX4_sign_127 rfl ?_
      refine b_iconst dX4_sign_128 ?_
      refine b_iadd dX4_sign_129 ?_
      exact b_iret dX4_sign_130 rfl h
    obtain ⟨g3, hs⟩ := hs
    refine b_if_lt 120 dX4_sign_109 g3 (by decide) (fun c2 => ?_) (fun c2 => ?_)
    ·
      refine b_bipush dX4_sign_120 (by decide) ?_
      rw [if_pos c2] at K
      exact K
    ·
      have hs := ifF c2 hs
      have g4 := hs
      refine b_iload_n dX4_sign_112 rfl ?_
      refine b_if_le 120 dX4_sign_113 g4 (by decide) (fun c3 => ?_) (fun c3 => ?_)
      ·
        refine b_bipush dX4_sign_120 (by decide) ?_
        rw [if_neg c2, if_pos c3] at K
        exact K
      ·
        refine b_iconst dX4_sign_116 ?_
        refine b_goto 122 dX4_sign_117 (by decide) ?_
        rw [if_neg c2, if_neg c3] at K
        exact K
  · have h := ifF c1 h
    refine b_aload_n dX4_sign_89 rfl ?_
    refine b_iconst dX4_sign_90 ?_
    refine b_iload dX4_sign_91 rfl ?_
    refine b_iload_n dX4_sign_93 rfl ?_
    refine b_cVv (as := [vI 5, vI s0, vI x1]) (st := []) dX4_sign_94 mf_X4_put qs1 lk_X4_46 ly_366 rfl (p_X4_put (f := 1) (Nat.le_refl _) _ _ _ _ h) (by omega) rfl rfl (Nat.le_of_ble_eq_true rfl) (by decide) rfl (fun _ => rfl) (fun r3 m3 h => ?_) (fun _ h => h)
    refine b_iload_n dX4_sign_97 rfl ?_
    refine b_iconst dX4_sign_98 ?_
    refine b_iadd dX4_sign_99 ?_
    exact b_iret dX4_sign_100 rfl h
theorem p_X4_sign {f : Nat} {Q : Int → MM → Prop} {T : MM → Prop} (hf : 5 ≤ f) (x1 : Int) (x2 : Int) (m : MM) (h : P_X4_sign x1 x2 m Q) : CC f M_X4_sign [vR 366, vI x1, vI x2] m Q T := by
  refine CC.of (plainFor_of_name (by decide)) (Nat.le_of_ble_eq_true rfl) (ls := [vR 366, vI x1, vI x2, vU, vU]) rfl ?_
  have h : P_X4_see (x1 + 1) m (fun r1 m1 => (RI x2) ∧ (if x2 = 58 then (RI r1) ∧ (if r1 = 61 then P_X4_sign_81 Q x1 x2 128 m1 else P_X4_sign_26 Q x1 x2 r1 m1) else P_X4_sign_26 Q x1 x2 r1 m1)) := h
  refine b_aload_n dX4_sign_0 rfl ?_
  refine b_iload_n dX4_sign_1 rfl ?_
  refine b_iconst dX4_sign_2 ?_
  refine b_iadd dX4_sign_3 ?_
  refine b_cVi (as := [vI (x1 + 1)]) (st := []) dX4_sign_4 mf_X4_see qs0 lk_X4_42 ly_366 rfl (p_X4_see (f := 1) (Nat.le_refl _) _ _ h) (by omega) rfl rfl (Nat.le_of_ble_eq_true rfl) (by decide) rfl (fun _ => rfl) (fun r1 m1 h => ?_) (fun _ h => h)
  refine b_istore_n (ls' := [vR 366, vI x1, vI x2, vI r1, vU]) dX4_sign_7 (Nat.le_of_ble_eq_true rfl) rfl ?_
  refine b_iload_n dX4_sign_8 rfl ?_
  refine b_bipush dX4_sign_9 (by decide) ?_
  obtain ⟨g1, h⟩ := h
  refine b_icmp_ne 26 dX4_sign_11 g1 (by decide) (by decide) (fun c1 => ?_) (fun c1 => ?_)
  · have h := ifF c1 h
    exact pl_X4_sign_26 hf _ _ _ _ h
  · have h := ifT (Decidable.of_not_not c1) h
    refine b_iload_n dX4_sign_14 rfl ?_
    refine b_bipush dX4_sign_15 (by decide) ?_
    obtain ⟨g2, h⟩ := h
    refine b_icmp_ne 26 dX4_sign_17 g2 (by decide) (by decide) (fun c2 => ?_) (fun c2 => ?_)
    · have h := ifF c2 h
      exact pl_X4_sign_26 hf _ _ _ _ h
    · have h := ifT (Decidable.of_not_not c2) h
      refine b_sipush dX4_sign_20 (by decide) ?_
      refine b_goto 81 dX4_sign_23 (by decide) ?_
      refine b_fgt [true, true, true, false, false] (ls' := [vR 366, vI x1, vI x2, vU, vU]) rfl rfl ?_
      exact pl_X4_sign_81 hf _ _ _ _ h
theorem dX4_find_0 : decode cX4_find 0 = .ok (.iconst 0, 1) := by decide +kernel
theorem dX4_find_1 : decode cX4_find 1 = .ok (.istore 4, 2) := by decide +kernel
theorem dX4_find_3 : decode cX4_find 3 = .ok (.iconst 1, 1) := by decide +kernel
theorem dX4_find_4 : decode cX4_find 4 = .ok (.istore 5, 2) := by decide +kernel
theorem dX4_find_6 : decode cX4_find 6 = .ok (.iload 5, 2) := by decide +kernel
theorem dX4_find_8 : decode cX4_find 8 = .ok (.aload_n 1, 1) := by decide +kernel
theorem dX4_find_9 : decode cX4_find 9 = .ok (.invokevirtual 80, 3) := by decide +kernel
theorem dX4_find_12 : decode cX4_find 12 = .ok (.if_icmp .ge 91, 3) := by decide +kernel
theorem dX4_find_15 : decode cX4_find 15 = .ok (.iconst 0, 1) := by decide +kernel
theorem dX4_find_16 : decode cX4_find 16 = .ok (.istore 6, 2) := by decide +kernel
theorem dX4_find_18 : decode cX4_find 18 = .ok (.iload 6, 2) := by decide +kernel
theorem dX4_find_20 : decode cX4_find 20 = .ok (.iload_n 3, 1) := by decide +kernel
theorem dX4_find_21 : decode cX4_find 21 = .ok (.iload_n 2, 1) := by decide +kernel
theorem dX4_find_22 : decode cX4_find 22 = .ok (.isub, 1) := by decide +kernel
theorem dX4_find_23 : decode cX4_find 23 = .ok (.if_icmp .ge 29, 3) := by decide +kernel
theorem dX4_find_26 : decode cX4_find 26 = .ok (.aload_n 1, 1) := by decide +kernel
theorem dX4_find_27 : decode cX4_find 27 = .ok (.iload 5, 2) := by decide +kernel
theorem dX4_find_29 : decode cX4_find 29 = .ok (.iload 6, 2) := by decide +kernel
theorem dX4_find_31 : decode cX4_find 31 = .ok (.iadd, 1) := by decide +kernel
theorem dX4_find_32 : decode cX4_find 32 = .ok (.invokevirtual 86, 3) := by decide +kernel
theorem dX4_find_35 : decode cX4_find 35 = .ok (.aload_n 0, 1) := by decide +kernel
theorem dX4_find_36 : decode cX4_find 36 = .ok (.iload_n 2, 1) := by decide +kernel
theorem dX4_find_37 : decode cX4_find 37 = .ok (.iload 6, 2) := by decide +kernel
theorem dX4_find_39 : decode cX4_find 39 = .ok (.iadd, 1) := by decide +kernel
theorem dX4_find_40 : decode cX4_find 40 = .ok (.invokevirtual 42, 3) := by decide +kernel
theorem dX4_find_43 : decode cX4_find 43 = .ok (.if_icmp .ne 9, 3) := by decide +kernel
theorem dX4_find_46 : decode cX4_find 46 = .ok (.iinc 6 1, 3) := by decide +kernel
theorem dX4_find_49 : decode cX4_find 49 = .ok (.goto (-31), 3) := by decide +kernel
theorem dX4_find_52 : decode cX4_find 52 = .ok (.iload 6, 2) := by decide +kernel
theorem dX4_find_54 : decode cX4_find 54 = .ok (.iload_n 3, 1) := by decide +kernel
theorem dX4_find_55 : decode cX4_find 55 = .ok (.iload_n 2, 1) := by decide +kernel
theorem dX4_find_56 : decode cX4_find 56 = .ok (.isub, 1) := by decide +kernel
theorem dX4_find_57 : decode cX4_find 57 = .ok (.if_icmp .ne 20, 3) := by decide +kernel
theorem dX4_find_60 : decode cX4_find 60 = .ok (.aload_n 1, 1) := by decide +kernel
theorem dX4_find_61 : decode cX4_find 61 = .ok (.iload 5, 2) := by decide +kernel
theorem dX4_find_63 : decode cX4_find 63 = .ok (.iload 6, 2) := by decide +kernel
theorem dX4_find_65 : decode cX4_find 65 = .ok (.iadd, 1) := by decide +kernel
theorem dX4_find_66 : decode cX4_find 66 = .ok (.invokevirtual 86, 3) := by decide +kernel
theorem dX4_find_69 : decode cX4_find 69 = .ok (.bipush 32, 2) := by decide +kernel
theorem dX4_find_71 : decode cX4_find 71 = .ok (.if_icmp .ne 6, 3) := by decide +kernel
theorem dX4_find_74 : decode cX4_find 74 = .ok (.iload 4, 2) := by decide +kernel
theorem dX4_find_76 : decode cX4_find 76 = .ok (.ireturn, 1) := by decide +kernel
theorem dX4_find_77 : decode cX4_find 77 = .ok (.aload_n 1, 1) := by decide +kernel
theorem dX4_find_78 : decode cX4_find 78 = .ok (.iload 5, 2) := by decide +kernel
theorem dX4_find_80 : decode cX4_find 80 = .ok (.invokevirtual 86, 3) := by decide +kernel
theorem dX4_find_83 : decode cX4_find 83 = .ok (.bipush 32, 2) := by decide +kernel
theorem dX4_find_85 : decode cX4_find 85 = .ok (.if_icmp .eq 9, 3) := by decide +kernel
theorem dX4_find_88 : decode cX4_find 88 = .ok (.iinc 5 1, 3) := by decide +kernel
theorem dX4_find_91 : decode cX4_find 91 = .ok (.goto (-14), 3) := by decide +kernel
theorem dX4_find_94 : decode cX4_find 94 = .ok (.iinc 5 1, 3) := by decide +kernel
theorem dX4_find_97 : decode cX4_find 97 = .ok (.iinc 4 1, 3) := by decide +kernel
theorem dX4_find_100 : decode cX4_find 100 = .ok (.goto (-94), 3) := by decide +kernel
theorem dX4_find_103 : decode cX4_find 103 = .ok (.iconst (-1), 1) := by decide +kernel
theorem dX4_find_104 : decode cX4_find 104 = .ok (.ireturn, 1) := by decide +kernel
/-! AlgebraHouse$Tokens.find(Ljava/lang/String;II)I -/
def P_X4_find_77 (Q : Int → MM → Prop) (T : MM → Prop) (K6 : Int → Int → Int → Int → Int → MM → Prop) : Nat → Int → Int → Int → Int → Int → MM → Prop
  | 0, _, _, _, _, _, _ => False
  | n + 1, x1, x2, x3, x4, x5, m => (isSt x1) ∧ P_J0_charAt x1 x5 m (fun r1 m1 => (RI r1) ∧ (if r1 = 32 then K6 x1 x2 x3 (x4 + 1) (x5 + 1) m1 else P_X4_find_77 Q T K6 n x1 x2 x3 x4 (x5 + 1) m1)) T
def P_X4_find_52 (Q : Int → MM → Prop) (T : MM → Prop) (K6 : Int → Int → Int → Int → Int → MM → Prop) (x1 : Int) (x2 : Int) (x3 : Int) (x4 : Int) (x5 : Int) (x6 : Int) (m : MM) : Prop := (RI x6) ∧ (RI (x3 - x2)) ∧ (if x6 = (x3 - x2) then (isSt x1) ∧ P_J0_charAt x1 (x5 + x6) m (fun r1 m1 => (RI r1) ∧ (if r1 = 32 then Q x4 m1 else ∃ nn, P_X4_find_77 Q T K6 nn x1 x2 x3 x4 x5 m1)) T else ∃ nn, P_X4_find_77 Q T K6 nn x1 x2 x3 x4 x5 m)
def P_X4_find_18 (Q : Int → MM → Prop) (T : MM → Prop) (K6 : Int → Int → Int → Int → Int → MM → Prop) : Nat → Int → Int → Int → Int → Int → Int → MM → Prop
  | 0, _, _, _, _, _, _, _ => False
  | n + 1, x1, x2, x3, x4, x5, x6, m => (RI x6) ∧ (RI (x3 - x2)) ∧ (if (x3 - x2) ≤ x6 then P_X4_find_52 Q T K6 x1 x2 x3 x4 x5 x6 m else (isSt x1) ∧ P_J0_charAt x1 (x5 + x6) m (fun r1 m1 => P_X4_see (x2 + x6) m1 (fun r2 m2 => (RI r1) ∧ (RI r2) ∧ (if r1 = r2 then P_X4_find_18 Q T K6 n x1 x2 x3 x4 x5 (x6 + 1) m2 else P_X4_find_52 Q T K6 x1 x2 x3 x4 x5 x6 m2))) T)
def P_X4_find_6 (Q : Int → MM → Prop) (T : MM → Prop) : Nat → Int → Int → Int → Int → Int → MM → Prop
  | 0, _, _, _, _, _, _ => False
  | n + 1, x1, x2, x3, x4, x5, m => (isSt x1) ∧ P_J0_length x1 m (fun r1 m1 => (RI x5) ∧ (RI r1) ∧ (if r1 ≤ x5 then Q (-1) m1 else ∃ nn, P_X4_find_18 Q T (fun z0 z1 z2 z3 z4 z5 => P_X4_find_6 Q T n z0 z1 z2 z3 z4 z5) nn x1 x2 x3 x4 x5 0 m1))
def P_X4_find (x1 : Int) (x2 : Int) (x3 : Int) (m : MM) (Q : Int → MM → Prop) (T : MM → Prop) : Prop := ∃ nn, P_X4_find_6 Q T nn x1 x2 x3 0 1 m
theorem pl_X4_find_77 {f : Nat} {Q : Int → MM → Prop} {T : MM → Prop} (hf : 5 ≤ f) {K6 : Int → Int → Int → Int → Int → MM → Prop} (hK6 : ∀ (x1 : Int) (x2 : Int) (x3 : Int) (x4 : Int) (x5 : Int) (m : MM), K6 x1 x2 x3 x4 x5 m → B f M_X4_find 6 [vR 366, vR x1, vI x2, vI x3, vI x4, vI x5, vU] [] m Q T) : ∀ (n : Nat) (x1 : Int) (x2 : Int) (x3 : Int) (x4 : Int) (x5 : Int) (m : MM), P_X4_find_77 Q T K6 n x1 x2 x3 x4 x5 m → B f M_X4_find 77 [vR 366, vR x1, vI x2, vI x3, vI x4, vI x5, vU] [] m Q T := by
  intro n
  induction n with
  | zero => intro x1 x2 x3 x4 x5 m h; exact h.elim
  | succ n ih =>
    intro x1 x2 x3 x4 x5 m h
    have h : (isSt x1) ∧ P_J0_charAt x1 x5 m (fun r1 m1 => (RI r1) ∧ (if r1 = 32 then K6 x1 x2 x3 (x4 + 1) (x5 + 1) m1 else P_X4_find_77 Q T K6 n x1 x2 x3 x4 (x5 + 1) m1)) T := h
    refine b_aload_n dX4_find_77 rfl ?_
    refine b_iload dX4_find_78 rfl ?_
    obtain ⟨g1, h⟩ := h
    refine b_cO (as := [vI x5]) (st := []) dX4_find_80 mf_J0_charAt q797 q795 g1 rfl (p_J0_charAt (f := 4) (Nat.le_refl _) _ _ _ h) (by omega) rfl rfl (Nat.le_of_ble_eq_true rfl) (by decide) rfl (fun _ => rfl) (fun r1 m1 h => ?_) (fun _ h => h)
    refine b_bipush dX4_find_83 (by decide) ?_
    obtain ⟨g2, h⟩ := h
    refine b_icmp_eq 94 dX4_find_85 g2 (by decide) (by decide) (fun c1 => ?_) (fun c1 => ?_)
    · have h := ifT c1 h
      refine b_iinc (ls' := [vR 366, vR x1, vI x2, vI x3, vI x4, vI (x5 + 1), vU]) dX4_find_94 rfl rfl ?_
      refine b_iinc (ls' := [vR 366, vR x1, vI x2, vI x3, vI (x4 + 1), vI (x5 + 1), vU]) dX4_find_97 rfl rfl ?_
      refine b_goto 6 dX4_find_100 (by decide) ?_
      exact hK6 _ _ _ _ _ _ h
    · have h := ifF c1 h
      refine b_iinc (ls' := [vR 366, vR x1, vI x2, vI x3, vI x4, vI (x5 + 1), vU]) dX4_find_88 rfl rfl ?_
      refine b_goto 77 dX4_find_91 (by decide) ?_
      exact ih _ _ _ _ _ _ h
theorem pl_X4_find_52 {f : Nat} {Q : Int → MM → Prop} {T : MM → Prop} (hf : 5 ≤ f) {K6 : Int → Int → Int → Int → Int → MM → Prop} (hK6 : ∀ (x1 : Int) (x2 : Int) (x3 : Int) (x4 : Int) (x5 : Int) (m : MM), K6 x1 x2 x3 x4 x5 m → B f M_X4_find 6 [vR 366, vR x1, vI x2, vI x3, vI x4, vI x5, vU] [] m Q T) : ∀ (x1 : Int) (x2 : Int) (x3 : Int) (x4 : Int) (x5 : Int) (x6 : Int) (m : MM), P_X4_find_52 Q T K6 x1 x2 x3 x4 x5 x6 m → B f M_X4_find 52 [vR 366, vR x1, vI x2, vI x3, vI x4, vI x5, vI x6] [] m Q T := by
  intro x1 x2 x3 x4 x5 x6 m h
  have h : (RI x6) ∧ (RI (x3 - x2)) ∧ (if x6 = (x3 - x2) then (isSt x1) ∧ P_J0_charAt x1 (x5 + x6) m (fun r1 m1 => (RI r1) ∧ (if r1 = 32 then Q x4 m1 else ∃ nn, P_X4_find_77 Q T K6 nn x1 x2 x3 x4 x5 m1)) T else ∃ nn, P_X4_find_77 Q T K6 nn x1 x2 x3 x4 x5 m) := h
  refine b_iload dX4_find_52 rfl ?_
  refine b_iload_n dX4_find_54 rfl ?_
  refine b_iload_n dX4_find_55 rfl ?_
  refine b_isub dX4_find_56 ?_
  obtain ⟨g1, h⟩ := h
  obtain ⟨g2, h⟩ := h
  refine b_icmp_ne 77 dX4_find_57 g1 g2 (by decide) (fun c1 => ?_) (fun c1 => ?_)
  · have h := ifF c1 h
    refine b_fgt [true, true, true, true, true, true, false] (ls' := [vR 366, vR x1, vI x2, vI x3, vI x4, vI x5, vU]) rfl rfl ?_
    obtain ⟨nn, h⟩ := h
    exact pl_X4_find_77 hf hK6 nn _ _ _ _ _ _ h
  · have h := ifT (Decidable.of_not_not c1) h
    refine b_aload_n dX4_find_60 rfl ?_
    refine b_iload dX4_find_61 rfl ?_
    refine b_iload dX4_find_63 rfl ?_
    refine b_iadd dX4_find_65 ?_
    obtain ⟨g3, h⟩ := h
    refine b_cO (as := [vI (x5 + x6)]) (st := []) dX4_find_66 mf_J0_charAt q797 q795 g3 rfl (p_J0_charAt (f := 4) (Nat.le_refl _) _ _ _ h) (by omega) rfl rfl (Nat.le_of_ble_eq_true rfl) (by decide) rfl (fun _ => rfl) (fun r1 m1 h => ?_) (fun _ h => h)
    refine b_bipush dX4_find_69 (by decide) ?_
    obtain ⟨g4, h⟩ := h
    refine b_icmp_ne 77 dX4_find_71 g4 (by decide) (by decide) (fun c2 => ?_) (fun c2 => ?_)
    · have h := ifF c2 h
      refine b_fgt [true, true, true, true, true, true, false] (ls' := [vR 366, vR x1, vI x2, vI x3, vI x4, vI x5, vU]) rfl rfl ?_
      obtain ⟨nn, h⟩ := h
      exact pl_X4_find_77 hf hK6 nn _ _ _ _ _ _ h
    · have h := ifT (Decidable.of_not_not c2) h
      refine b_iload dX4_find_74 rfl ?_
      exact b_iret dX4_find_76 rfl h
theorem pl_X4_find_18 {f : Nat} {Q : Int → MM → Prop} {T : MM → Prop} (hf : 5 ≤ f) {K6 : Int → Int → Int → Int → Int → MM → Prop} (hK6 : ∀ (x1 : Int) (x2 : Int) (x3 : Int) (x4 : Int) (x5 : Int) (m : MM), K6 x1 x2 x3 x4 x5 m → B f M_X4_find 6 [vR 366, vR x1, vI x2, vI x3, vI x4, vI x5, vU] [] m Q T) : ∀ (n : Nat) (x1 : Int) (x2 : Int) (x3 : Int) (x4 : Int) (x5 : Int) (x6 : Int) (m : MM), P_X4_find_18 Q T K6 n x1 x2 x3 x4 x5 x6 m → B f M_X4_find 18 [vR 366, vR x1, vI x2, vI x3, vI x4, vI x5, vI x6] [] m Q T := by
  intro n
  induction n with
  | zero => intro x1 x2 x3 x4 x5 x6 m h; exact h.elim
  | succ n ih =>
    intro x1 x2 x3 x4 x5 x6 m h
    have h : (RI x6) ∧ (RI (x3 - x2)) ∧ (if (x3 - x2) ≤ x6 then P_X4_find_52 Q T K6 x1 x2 x3 x4 x5 x6 m else (isSt x1) ∧ P_J0_charAt x1 (x5 + x6) m (fun r1 m1 => P_X4_see (x2 + x6) m1 (fun r2 m2 => (RI r1) ∧ (RI r2) ∧ (if r1 = r2 then P_X4_find_18 Q T K6 n x1 x2 x3 x4 x5 (x6 + 1) m2 else P_X4_find_52 Q T K6 x1 x2 x3 x4 x5 x6 m2))) T) := h
    refine b_iload dX4_find_18 rfl ?_
    refine b_iload_n dX4_find_20 rfl ?_
    refine b_iload_n dX4_find_21 rfl ?_
    refine b_isub dX4_find_22 ?_
    obtain ⟨g1, h⟩ := h
    obtain ⟨g2, h⟩ := h
    refine b_icmp_ge 52 dX4_find_23 g1 g2 (by decide) (fun c1 => ?_) (fun c1 => ?_)
    · have h := ifT c1 h
      exact pl_X4_find_52 hf hK6 _ _ _ _ _ _ _ h
    · have h := ifF c1 h
      refine b_aload_n dX4_find_26 rfl ?_
      refine b_iload dX4_find_27 rfl ?_
      refine b_iload dX4_find_29 rfl ?_
      refine b_iadd dX4_find_31 ?_
      obtain ⟨g3, h⟩ := h
      refine b_cO (as := [vI (x5 + x6)]) (st := []) dX4_find_32 mf_J0_charAt q797 q795 g3 rfl (p_J0_charAt (f := 4) (Nat.le_refl _) _ _ _ h) (by omega) rfl rfl (Nat.le_of_ble_eq_true rfl) (by decide) rfl (fun _ => rfl) (fun r1 m1 h => ?_) (fun _ h => h)
      refine b_aload_n dX4_find_35 rfl ?_
      refine b_iload_n dX4_find_36 rfl ?_
      refine b_iload dX4_find_37 rfl ?_
      refine b_iadd dX4_find_39 ?_
      refine b_cVi (as := [vI (x2 + x6)]) (st := [vI r1]) dX4_find_40 mf_X4_see qs0 lk_X4_42 ly_366 rfl (p_X4_see (f := 1) (Nat.le_refl _) _ _ h) (by omega) rfl rfl (Nat.le_of_ble_eq_true rfl) (by decide) rfl (fun _ => rfl) (fun r2 m2 h => ?_) (fun _ h => h)
      obtain ⟨g4, h⟩ := h
      obtain ⟨g5, h⟩ := h
      refine b_icmp_ne 52 dX4_find_43 g4 g5 (by decide) (fun c2 => ?_) (fun c2 => ?_)
      · have h := ifF c2 h
        exact pl_X4_find_52 hf hK6 _ _ _ _ _ _ _ h
      · have h := ifT (Decidable.of_not_not c2) h
        refine b_iinc (ls' := [vR 366, vR x1, vI x2, vI x3, vI x4, vI x5, vI (x6 + 1)]) dX4_find_46 rfl rfl ?_
        refine b_goto 18 dX4_find_49 (by decide) ?_
        exact ih _ _ _ _ _ _ _ h
theorem pl_X4_find_6 {f : Nat} {Q : Int → MM → Prop} {T : MM → Prop} (hf : 5 ≤ f) : ∀ (n : Nat) (x1 : Int) (x2 : Int) (x3 : Int) (x4 : Int) (x5 : Int) (m : MM), P_X4_find_6 Q T n x1 x2 x3 x4 x5 m → B f M_X4_find 6 [vR 366, vR x1, vI x2, vI x3, vI x4, vI x5, vU] [] m Q T := by
  intro n
  induction n with
  | zero => intro x1 x2 x3 x4 x5 m h; exact h.elim
  | succ n ih =>
    intro x1 x2 x3 x4 x5 m h
    have h : (isSt x1) ∧ P_J0_length x1 m (fun r1 m1 => (RI x5) ∧ (RI r1) ∧ (if r1 ≤ x5 then Q (-1) m1 else ∃ nn, P_X4_find_18 Q T (fun z0 z1 z2 z3 z4 z5 => P_X4_find_6 Q T n z0 z1 z2 z3 z4 z5) nn x1 x2 x3 x4 x5 0 m1)) := h
    refine b_iload dX4_find_6 rfl ?_
    refine b_aload_n dX4_find_8 rfl ?_
    obtain ⟨g1, h⟩ := h
    refine b_cO (as := []) (st := [vI x5]) dX4_find_9 mf_J0_length q787 q785 g1 rfl (p_J0_length (f := 2) (Nat.le_refl _) _ _ h) (by omega) rfl rfl (Nat.le_of_ble_eq_true rfl) (by decide) rfl (fun _ => rfl) (fun r1 m1 h => ?_) (fun _ h => h)
    obtain ⟨g2, h⟩ := h
    obtain ⟨g3, h⟩ := h
    refine b_icmp_ge 103 dX4_find_12 g2 g3 (by decide) (fun c1 => ?_) (fun c1 => ?_)
    · have h := ifT c1 h
      refine b_iconst dX4_find_103 ?_
      exact b_iret dX4_find_104 rfl h
    · have h := ifF c1 h
      refine b_iconst dX4_find_15 ?_
      refine b_istore (ls' := [vR 366, vR x1, vI x2, vI x3, vI x4, vI x5, vI 0]) dX4_find_16 (Nat.le_of_ble_eq_true rfl) rfl ?_
      obtain ⟨nn, h⟩ := h
      exact pl_X4_find_18 hf (fun _ _ _ _ _ _ h => ih _ _ _ _ _ _ h) nn _ _ _ _ _ _ _ h
theorem p_X4_find {f : Nat} {Q : Int → MM → Prop} {T : MM → Prop} (hf : 5 ≤ f) (x1 : Int) (x2 : Int) (x3 : Int) (m : MM) (h : P_X4_find x1 x2 x3 m Q T) : CC f M_X4_find [vR 366, vR x1, vI x2, vI x3] m Q T := by
  refine CC.of (plainFor_of_name (by decide)) (Nat.le_of_ble_eq_true rfl) (ls := [vR 366, vR x1, vI x2, vI x3, vU, vU, vU]) rfl ?_
  have h : ∃ nn, P_X4_find_6 Q T nn x1 x2 x3 0 1 m := h
  refine b_iconst dX4_find_0 ?_
  refine b_istore (ls' := [vR 366, vR x1, vI x2, vI x3, vI 0, vU, vU]) dX4_find_1 (Nat.le_of_ble_eq_true rfl) rfl ?_
  refine b_iconst dX4_find_3 ?_
  refine b_istore (ls' := [vR 366, vR x1, vI x2, vI x3, vI 0, vI 1, vU]) dX4_find_4 (Nat.le_of_ble_eq_true rfl) rfl ?_
  obtain ⟨nn, h⟩ := h
  exact pl_X4_find_6 hf nn _ _ _ _ _ _ h
theorem dX4_word_0 : decode cX4_word 0 = .ok (.iload_n 1, 1) := by decide +kernel
theorem dX4_word_1 : decode cX4_word 1 = .ok (.istore_n 2, 1) := by decide +kernel
theorem dX4_word_2 : decode cX4_word 2 = .ok (.lconst 0, 1) := by decide +kernel
theorem dX4_word_3 : decode cX4_word 3 = .ok (.lstore_n 3, 1) := by decide +kernel
theorem dX4_word_4 : decode cX4_word 4 = .ok (.aload_n 0, 1) := by decide +kernel
theorem dX4_word_5 : decode cX4_word 5 = .ok (.iload_n 2, 1) := by decide +kernel
theorem dX4_word_6 : decode cX4_word 6 = .ok (.invokevirtual 42, 3) := by decide +kernel
theorem dX4_word_9 : decode cX4_word 9 = .ok (.invokestatic 50, 3) := by decide +kernel
theorem dX4_word_12 : decode cX4_word 12 = .ok (.ifCond .ne 14, 3) := by decide +kernel
theorem dX4_word_15 : decode cX4_word 15 = .ok (.aload_n 0, 1) := by decide +kernel
theorem dX4_word_16 : decode cX4_word 16 = .ok (.iload_n 2, 1) := by decide +kernel
theorem dX4_word_17 : decode cX4_word 17 = .ok (.invokevirtual 42, 3) := by decide +kernel
theorem dX4_word_20 : decode cX4_word 20 = .ok (.invokestatic 57, 3) := by decide +kernel
theorem dX4_word_23 : decode cX4_word 23 = .ok (.ifCond .eq 21, 3) := by decide +kernel
theorem dX4_word_26 : decode cX4_word 26 = .ok (.lload_n 3, 1) := by decide +kernel
theorem dX4_word_27 : decode cX4_word 27 = .ok (.bipush 8, 2) := by decide +kernel
theorem dX4_word_29 : decode cX4_word 29 = .ok (.lshl, 1) := by decide +kernel
theorem dX4_word_30 : decode cX4_word 30 = .ok (.aload_n 0, 1) := by decide +kernel
theorem dX4_word_31 : decode cX4_word 31 = .ok (.iload_n 2, 1) := by decide +kernel
theorem dX4_word_32 : decode cX4_word 32 = .ok (.invokevirtual 42, 3) := by decide +kernel
theorem dX4_word_35 : decode cX4_word 35 = .ok (.i2l, 1) := by decide +kernel
theorem dX4_word_36 : decode cX4_word 36 = .ok (.lor, 1) := by decide +kernel
theorem dX4_word_37 : decode cX4_word 37 = .ok (.lstore_n 3, 1) := by decide +kernel
theorem dX4_word_38 : decode cX4_word 38 = .ok (.iinc 2 1, 3) := by decide +kernel
theorem dX4_word_41 : decode cX4_word 41 = .ok (.goto (-37), 3) := by decide +kernel
theorem dX4_word_44 : decode cX4_word 44 = .ok (.iload_n 2, 1) := by decide +kernel
theorem dX4_word_45 : decode cX4_word 45 = .ok (.iload_n 1, 1) := by decide +kernel
theorem dX4_word_46 : decode cX4_word 46 = .ok (.isub, 1) := by decide +kernel
theorem dX4_word_47 : decode cX4_word 47 = .ok (.bipush 8, 2) := by decide +kernel
theorem dX4_word_49 : decode cX4_word 49 = .ok (.if_icmp .le 13, 3) := by decide +kernel
theorem dX4_word_52 : decode cX4_word 52 = .ok (.aload_n 0, 1) := by decide +kernel
theorem dX4_word_53 : decode cX4_word 53 = .ok (.bipush 6, 2) := by decide +kernel
theorem dX4_word_55 : decode cX4_word 55 = .ok (.iconst 0, 1) := by decide +kernel
theorem dX4_word_56 : decode cX4_word 56 = .ok (.iload_n 1, 1) := by decide +kernel
theorem dX4_word_57 : decode cX4_word 57 = .ok (.invokevirtual 46, 3) := by decide +kernel
theorem dX4_word_60 : decode cX4_word 60 = .ok (.iload_n 2, 1) := by decide +kernel
theorem dX4_word_61 : decode cX4_word 61 = .ok (.ireturn, 1) := by decide +kernel
theorem dX4_word_62 : decode cX4_word 62 = .ok (.aload_n 0, 1) := by decide +kernel
theorem dX4_word_63 : decode cX4_word 63 = .ok (.ldc 67, 2) := by decide +kernel
theorem dX4_word_65 : decode cX4_word 65 = .ok (.iload_n 1, 1) := by decide +kernel
theorem dX4_word_66 : decode cX4_word 66 = .ok (.iload_n 2, 1) := by decide +kernel
theorem dX4_word_67 : decode cX4_word 67 = .ok (.invokevirtual 69, 3) := by decide +kernel
theorem dX4_word_70 : decode cX4_word 70 = .ok (.istore 5, 2) := by decide +kernel
theorem dX4_word_72 : decode cX4_word 72 = .ok (.aload_n 0, 1) := by decide +kernel
theorem dX4_word_73 : decode cX4_word 73 = .ok (.ldc 73, 2) := by decide +kernel
theorem dX4_word_75 : decode cX4_word 75 = .ok (.iload_n 1, 1) := by decide +kernel
theorem dX4_word_76 : decode cX4_word 76 = .ok (.iload_n 2, 1) := by decide +kernel
theorem dX4_word_77 : decode cX4_word 77 = .ok (.invokevirtual 69, 3) := by decide +kernel
theorem dX4_word_80 : decode cX4_word 80 = .ok (.istore 6, 2) := by decide +kernel
theorem dX4_word_82 : decode cX4_word 82 = .ok (.aload_n 0, 1) := by decide +kernel
theorem dX4_word_83 : decode cX4_word 83 = .ok (.getfield 25, 3) := by decide +kernel
theorem dX4_word_86 : decode cX4_word 86 = .ok (.aload_n 0, 1) := by decide +kernel
theorem dX4_word_87 : decode cX4_word 87 = .ok (.getfield 33, 3) := by decide +kernel
theorem dX4_word_90 : decode cX4_word 90 = .ok (.lload_n 3, 1) := by decide +kernel
theorem dX4_word_91 : decode cX4_word 91 = .ok (.lastore, 1) := by decide +kernel
theorem dX4_word_92 : decode cX4_word 92 = .ok (.aload_n 0, 1) := by decide +kernel
theorem dX4_word_93 : decode cX4_word 93 = .ok (.iload 5, 2) := by decide +kernel
theorem dX4_word_95 : decode cX4_word 95 = .ok (.ifCond .lt 7, 3) := by decide +kernel
theorem dX4_word_98 : decode cX4_word 98 = .ok (.iconst 3, 1) := by decide +kernel
theorem dX4_word_99 : decode cX4_word 99 = .ok (.goto 13, 3) := by decide +kernel
theorem dX4_word_102 : decode cX4_word 102 = .ok (.iload 6, 2) := by decide +kernel
theorem dX4_word_104 : decode cX4_word 104 = .ok (.ifCond .lt 7, 3) := by decide +kernel
theorem dX4_word_107 : decode cX4_word 107 = .ok (.iconst 4, 1) := by decide +kernel
theorem dX4_word_108 : decode cX4_word 108 = .ok (.goto 4, 3) := by decide +kernel
theorem dX4_word_111 : decode cX4_word 111 = .ok (.iconst 2, 1) := by decide +kernel
theorem dX4_word_112 : decode cX4_word 112 = .ok (.iload 5, 2) := by decide +kernel
theorem dX4_word_114 : decode cX4_word 114 = .ok (.iload 6, 2) := by decide +kernel
theorem dX4_word_116 : decode cX4_word 116 = .ok (.invokestatic 75, 3) := by decide +kernel
theorem dX4_word_119 : decode cX4_word 119 = .ok (.iload_n 1, 1) := by decide +kernel
theorem dX4_word_120 : decode cX4_word 120 = .ok (.invokevirtual 46, 3) := by decide +kernel
theorem dX4_word_123 : decode cX4_word 123 = .ok (.iload_n 2, 1) := by decide +kernel
theorem dX4_word_124 : decode cX4_word 124 = .ok (.ireturn, 1) := by decide +kernel
/-! AlgebraHouse$Tokens.word(I)I -/
def P_X4_word_26 (Q : Int → MM → Prop) (T : MM → Prop) (K4 : Int → Int → Int → MM → Prop) (x1 : Int) (x2 : Int) (x3 : Int) (m : MM) : Prop := P_X4_see x2 m (fun r1 m1 => (RI r1) ∧ K4 x1 (x2 + 1) (lOr (lShl x3 8) r1) m1)
def P_X4_word_44 (Q : Int → MM → Prop) (T : MM → Prop) (x1 : Int) (x2 : Int) (x3 : Int) (m : MM) : Prop := (RI (x2 - x1)) ∧ (if (x2 - x1) ≤ 8 then P_X4_find (-1) x1 x2 m (fun r1 m1 => P_X4_find (-2) x1 x2 m1 (fun r2 m2 => (0 ≤ (m2 366 2) ∧ (m2 366 2) < 401) ∧ ∀ m3 : MM, m3 = up m2 371 (m2 366 2) x3 → ((RI r1) ∧ (if r1 < 0 then ((RI r2)) else True)) ∧ P_J4_max r1 r2 m3 (fun r3 m4 => P_X4_put (if r1 < 0 then (if r2 < 0 then 2 else 4 : Int) else 3 : Int) r3 x1 m4 (fun r4 m5 => Q x2 m5))) T) T else P_X4_put 6 0 x1 m (fun r5 m6 => Q x2 m6))
def P_X4_word_4 (Q : Int → MM → Prop) (T : MM → Prop) : Nat → Int → Int → Int → MM → Prop
  | 0, _, _, _, _ => False
  | n + 1, x1, x2, x3, m => P_X4_see x2 m (fun r1 m1 => P_X4_isLetter r1 m1 (fun r2 m2 => (RI r2) ∧ (if r2 = 0 then P_X4_see x2 m2 (fun r3 m3 => P_X4_isDigit r3 m3 (fun r4 m4 => (RI r4) ∧ (if r4 = 0 then P_X4_word_44 Q T x1 x2 x3 m4 else P_X4_word_26 Q T (fun z0 z1 z2 z3 => P_X4_word_4 Q T n z0 z1 z2 z3) x1 x2 x3 m4))) else P_X4_word_26 Q T (fun z0 z1 z2 z3 => P_X4_word_4 Q T n z0 z1 z2 z3) x1 x2 x3 m2)))
def P_X4_word (x1 : Int) (m : MM) (Q : Int → MM → Prop) (T : MM → Prop) : Prop := ∃ nn, P_X4_word_4 Q T nn x1 x1 0 m
theorem pl_X4_word_26 {f : Nat} {Q : Int → MM → Prop} {T : MM → Prop} (hf : 6 ≤ f) {K4 : Int → Int → Int → MM → Prop} (hK4 : ∀ (x1 : Int) (x2 : Int) (x3 : Int) (m : MM), K4 x1 x2 x3 m → B f M_X4_word 4 [vR 366, vI x1, vI x2, vL x3, vU, vU, vU] [] m Q T) : ∀ (x1 : Int) (x2 : Int) (x3 : Int) (m : MM), P_X4_word_26 Q T K4 x1 x2 x3 m → B f M_X4_word 26 [vR 366, vI x1, vI x2, vL x3, vU, vU, vU] [] m Q T := by
  intro x1 x2 x3 m h
  have h : P_X4_see x2 m (fun r1 m1 => (RI r1) ∧ K4 x1 (x2 + 1) (lOr (lShl x3 8) r1) m1) := h
  refine b_lload_n dX4_word_26 rfl ?_
  refine b_bipush dX4_word_27 (by decide) ?_
  refine b_lshl dX4_word_29 ?_
  refine b_aload_n dX4_word_30 rfl ?_
  refine b_iload_n dX4_word_31 rfl ?_
  refine b_cVi (as := [vI x2]) (st := [vL (lShl x3 8)]) dX4_word_32 mf_X4_see qs0 lk_X4_42 ly_366 rfl (p_X4_see (f := 1) (Nat.le_refl _) _ _ h) (by omega) rfl rfl (Nat.le_of_ble_eq_true rfl) (by decide) rfl (fun _ => rfl) (fun r1 m1 h => ?_) (fun _ h => h)
  obtain ⟨g1, h⟩ := h
  refine b_i2l dX4_word_35 g1 ?_
  refine b_lor dX4_word_36 ?_
  refine b_lstore_n (ls' := [vR 366, vI x1, vI x2, vL (lOr (lShl x3 8) r1), vU, vU, vU]) dX4_word_37 (Nat.le_of_ble_eq_true rfl) rfl ?_
  refine b_iinc (ls' := [vR 366, vI x1, vI (x2 + 1), vL (lOr (lShl x3 8) r1), vU, vU, vU]) dX4_word_38 rfl rfl ?_
  refine b_goto 4 dX4_word_41 (by decide) ?_
  exact hK4 _ _ _ _ h
theorem pl_X4_word_44 {f : Nat} {Q : Int → MM → Prop} {T : MM → Prop} (hf : 6 ≤ f) : ∀ (x1 : Int) (x2 : Int) (x3 : Int) (m : MM), P_X4_word_44 Q T x1 x2 x3 m → B f M_X4_word 44 [vR 366, vI x1, vI x2, vL x3, vU, vU, vU] [] m Q T := by
  intro x1 x2 x3 m h
  have h : (RI (x2 - x1)) ∧ (if (x2 - x1) ≤ 8 then P_X4_find (-1) x1 x2 m (fun r1 m1 => P_X4_find (-2) x1 x2 m1 (fun r2 m2 => (0 ≤ (m2 366 2) ∧ (m2 366 2) < 401) ∧ ∀ m3 : MM, m3 = up m2 371 (m2 366 2) x3 → ((RI r1) ∧ (if r1 < 0 then ((RI r2)) else True)) ∧ P_J4_max r1 r2 m3 (fun r3 m4 => P_X4_put (if r1 < 0 then (if r2 < 0 then 2 else 4 : Int) else 3 : Int) r3 x1 m4 (fun r4 m5 => Q x2 m5))) T) T else P_X4_put 6 0 x1 m (fun r5 m6 => Q x2 m6)) := h
  refine b_iload_n dX4_word_44 rfl ?_
  refine b_iload_n dX4_word_45 rfl ?_
  refine b_isub dX4_word_46 ?_
  refine b_bipush dX4_word_47 (by decide) ?_
  obtain ⟨g1, h⟩ := h
  refine b_icmp_le 62 dX4_word_49 g1 (by decide) (by decide) (fun c1 => ?_) (fun c1 => ?_)
  · have h := ifT c1 h
    refine b_aload_n dX4_word_62 rfl ?_
    refine b_ldcS (z := -1) dX4_word_63 (by decide) q780 (fun E h => h.2.2.2.2.2.2.2.1) ?_
    refine b_iload_n dX4_word_65 rfl ?_
    refine b_iload_n dX4_word_66 rfl ?_
    refine b_cVi (as := [vR (-1), vI x1, vI x2]) (st := []) dX4_word_67 mf_X4_find qs3 lk_X4_69 ly_366 rfl (p_X4_find (f := 5) (Nat.le_refl _) _ _ _ _ h) (by omega) rfl rfl (Nat.le_of_ble_eq_true rfl) (by decide) rfl (fun _ => rfl) (fun r1 m1 h => ?_) (fun _ h => h)
    refine b_istore (ls' := [vR 366, vI x1, vI x2, vL x3, vU, vI r1, vU]) dX4_word_70 (Nat.le_of_ble_eq_true rfl) rfl ?_
    refine b_aload_n dX4_word_72 rfl ?_
    refine b_ldcS (z := -2) dX4_word_73 (by decide) q833 (fun E h => h.2.2.2.2.2.2.2.2.1) ?_
    refine b_iload_n dX4_word_75 rfl ?_
    refine b_iload_n dX4_word_76 rfl ?_
    refine b_cVi (as := [vR (-2), vI x1, vI x2]) (st := []) dX4_word_77 mf_X4_find qs3 lk_X4_69 ly_366 rfl (p_X4_find (f := 5) (Nat.le_refl _) _ _ _ _ h) (by omega) rfl rfl (Nat.le_of_ble_eq_true rfl) (by decide) rfl (fun _ => rfl) (fun r2 m2 h => ?_) (fun _ h => h)
    refine b_istore (ls' := [vR 366, vI x1, vI x2, vL x3, vU, vI r1, vI r2]) dX4_word_80 (Nat.le_of_ble_eq_true rfl) rfl ?_
    refine b_aload_n dX4_word_82 rfl ?_
    refine b_getR dX4_word_83 fk_X4_25 ly_366 gg_366_6 ?_
    refine b_aload_n dX4_word_86 rfl ?_
    refine b_getI dX4_word_87 fk_X4_33 ly_366 ?_
    refine b_lload_n dX4_word_90 rfl ?_
    obtain ⟨g2, h⟩ := h
    refine b_last dX4_word_91 ly_371 g2 (fun m3 em3 => ?_)
    have h := h m3 em3
    refine b_aload_n dX4_word_92 rfl ?_
    refine b_iload dX4_word_93 rfl ?_
    obtain ⟨hs, h⟩ := h
    have K : B f M_X4_word 112 [vR 366, vI x1, vI x2, vL x3, vU, vI r1, vI r2] [vI (if r1 < 0 then (if r2 < 0 then 2 else 4 : Int) else 3 : Int), vR 366] m3 Q T := by
      clear hs
      refine b_iload dX4_word_112 rfl ?_
      refine b_iload dX4_word_114 rfl ?_
      refine b_cSi (as := [vI r1, vI r2]) (st := [vI (if r1 < 0 then (if r2 < 0 then 2 else 4 : Int) else 3 : Int), vR 366]) dX4_word_116 mf_J4_max lk_X4_75 (p_J4_max (f := 1) (Nat.le_refl _) _ _ _ h) (by omega) rfl rfl (Nat.le_of_ble_eq_true rfl) (by decide) rfl (fun _ => rfl) (fun r3 m4 h => ?_) (fun _ h => h)
      refine b_iload_n dX4_word_119 rfl ?_
      refine b_cVv (as := [vI (if r1 < 0 then (if r2 < 0 then 2 else 4 : Int) else 3 : Int), vI r3, vI x1]) (st := []) dX4_word_120 mf_X4_put qs1 lk_X4_46 ly_366 rfl (p_X4_put (f := 1) (Nat.le_refl _) _ _ _ _ h) (by omega) rfl rfl (Nat.le_of_ble_eq_true rfl) (by decide) rfl (fun _ => rfl) (fun r4 m5 h => ?_) (fun _ h => h)
      refine b_iload_n dX4_word_123 rfl ?_
      exact b_iret dX4_word_124 rfl h
    obtain ⟨g3, hs⟩ := hs
    refine b_if_lt 102 dX4_word_95 g3 (by decide) (fun c2 => ?_) (fun c2 => ?_)
    ·
      have hs := ifT c2 hs
      have g4 := hs
      refine b_iload dX4_word_102 rfl ?_
      refine b_if_lt 111 dX4_word_104 g4 (by decide) (fun c3 => ?_) (fun c3 => ?_)
      ·
        refine b_iconst dX4_word_111 ?_
        rw [if_pos c2, if_pos c3] at K
        exact K
      ·
        refine b_iconst dX4_word_107 ?_
        refine b_goto 112 dX4_word_108 (by decide) ?_
        rw [if_pos c2, if_neg c3] at K
        exact K
    ·
      refine b_iconst dX4_word_98 ?_
      refine b_goto 112 dX4_word_99 (by decide) ?_
      rw [if_neg c2] at K
      exact K
  · have h := ifF c1 h
    refine b_aload_n dX4_word_52 rfl ?_
    refine b_bipush dX4_word_53 (by decide) ?_
    refine b_iconst dX4_word_55 ?_
    refine b_iload_n dX4_word_56 rfl ?_
    refine b_cVv (as := [vI 6, vI 0, vI x1]) (st := []) dX4_word_57 mf_X4_put qs1 lk_X4_46 ly_366 rfl (p_X4_put (f := 1) (Nat.le_refl _) _ _ _ _ h) (by omega) rfl rfl (Nat.le_of_ble_eq_true rfl) (by decide) rfl (fun _ => rfl) (fun r5 m6 h => ?_) (fun _ h => h)
    refine b_iload_n dX4_word_60 rfl ?_
    exact b_iret dX4_word_61 rfl h
theorem pl_X4_word_4 {f : Nat} {Q : Int → MM → Prop} {T : MM → Prop} (hf : 6 ≤ f) : ∀ (n : Nat) (x1 : Int) (x2 : Int) (x3 : Int) (m : MM), P_X4_word_4 Q T n x1 x2 x3 m → B f M_X4_word 4 [vR 366, vI x1, vI x2, vL x3, vU, vU, vU] [] m Q T := by
  intro n
  induction n with
  | zero => intro x1 x2 x3 m h; exact h.elim
  | succ n ih =>
    intro x1 x2 x3 m h
    have h : P_X4_see x2 m (fun r1 m1 => P_X4_isLetter r1 m1 (fun r2 m2 => (RI r2) ∧ (if r2 = 0 then P_X4_see x2 m2 (fun r3 m3 => P_X4_isDigit r3 m3 (fun r4 m4 => (RI r4) ∧ (if r4 = 0 then P_X4_word_44 Q T x1 x2 x3 m4 else P_X4_word_26 Q T (fun z0 z1 z2 z3 => P_X4_word_4 Q T n z0 z1 z2 z3) x1 x2 x3 m4))) else P_X4_word_26 Q T (fun z0 z1 z2 z3 => P_X4_word_4 Q T n z0 z1 z2 z3) x1 x2 x3 m2))) := h
    refine b_aload_n dX4_word_4 rfl ?_
    refine b_iload_n dX4_word_5 rfl ?_
    refine b_cVi (as := [vI x2]) (st := []) dX4_word_6 mf_X4_see qs0 lk_X4_42 ly_366 rfl (p_X4_see (f := 1) (Nat.le_refl _) _ _ h) (by omega) rfl rfl (Nat.le_of_ble_eq_true rfl) (by decide) rfl (fun _ => rfl) (fun r1 m1 h => ?_) (fun _ h => h)
    refine b_cSi (as := [vI r1]) (st := []) dX4_word_9 mf_X4_isLetter lk_X4_50 (p_X4_isLetter (f := 1) (Nat.le_refl _) _ _ h) (by omega) rfl rfl (Nat.le_of_ble_eq_true rfl) (by decide) rfl (fun _ => rfl) (fun r2 m2 h => ?_) (fun _ h => h)
    obtain ⟨g1, h⟩ := h
    refine b_if_ne 26 dX4_word_12 g1 (by decide) (fun c1 => ?_) (fun c1 => ?_)
    · have h := ifF c1 h
      exact pl_X4_word_26 hf (fun _ _ _ _ h => ih _ _ _ _ h) _ _ _ _ h
    · have h := ifT (Decidable.of_not_not c1) h
      refine b_aload_n dX4_word_15 rfl ?_
      refine b_iload_n dX4_word_16 rfl ?_
      refine b_cVi (as := [vI x2]) (st := []) dX4_word_17 mf_X4_see qs0 lk_X4_42 ly_366 rfl (p_X4_see (f := 1) (Nat.le_refl _) _ _ h) (by omega) rfl rfl (Nat.le_of_ble_eq_true rfl) (by decide) rfl (fun _ => rfl) (fun r3 m3 h => ?_) (fun _ h => h)
      refine b_cSi (as := [vI r3]) (st := []) dX4_word_20 mf_X4_isDigit lk_X4_57 (p_X4_isDigit (f := 1) (Nat.le_refl _) _ _ h) (by omega) rfl rfl (Nat.le_of_ble_eq_true rfl) (by decide) rfl (fun _ => rfl) (fun r4 m4 h => ?_) (fun _ h => h)
      obtain ⟨g2, h⟩ := h
      refine b_if_eq 44 dX4_word_23 g2 (by decide) (fun c2 => ?_) (fun c2 => ?_)
      · have h := ifT c2 h
        exact pl_X4_word_44 hf _ _ _ _ h
      · have h := ifF c2 h
        exact pl_X4_word_26 hf (fun _ _ _ _ h => ih _ _ _ _ h) _ _ _ _ h
theorem p_X4_word {f : Nat} {Q : Int → MM → Prop} {T : MM → Prop} (hf : 6 ≤ f) (x1 : Int) (m : MM) (h : P_X4_word x1 m Q T) : CC f M_X4_word [vR 366, vI x1] m Q T := by
  refine CC.of (plainFor_of_name (by decide)) (Nat.le_of_ble_eq_true rfl) (ls := [vR 366, vI x1, vU, vU, vU, vU, vU]) rfl ?_
  have h : ∃ nn, P_X4_word_4 Q T nn x1 x1 0 m := h
  refine b_iload_n dX4_word_0 rfl ?_
  refine b_istore_n (ls' := [vR 366, vI x1, vI x1, vU, vU, vU, vU]) dX4_word_1 (Nat.le_of_ble_eq_true rfl) rfl ?_
  refine b_lconst 0 dX4_word_2 (by decide) ?_
  refine b_lstore_n (ls' := [vR 366, vI x1, vI x1, vL 0, vU, vU, vU]) dX4_word_3 (Nat.le_of_ble_eq_true rfl) rfl ?_
  obtain ⟨nn, h⟩ := h
  exact pl_X4_word_4 hf nn _ _ _ _ h
theorem dX4_read_0 : decode cX4_read 0 = .ok (.aload_n 1, 1) := by decide +kernel
theorem dX4_read_1 : decode cX4_read 1 = .ok (.iconst 0, 1) := by decide +kernel
theorem dX4_read_2 : decode cX4_read 2 = .ok (.aload_n 0, 1) := by decide +kernel
theorem dX4_read_3 : decode cX4_read 3 = .ok (.getfield 9, 3) := by decide +kernel
theorem dX4_read_6 : decode cX4_read 6 = .ok (.iconst 0, 1) := by decide +kernel
theorem dX4_read_7 : decode cX4_read 7 = .ok (.iload_n 2, 1) := by decide +kernel
theorem dX4_read_8 : decode cX4_read 8 = .ok (.invokestatic 36, 3) := by decide +kernel
theorem dX4_read_11 : decode cX4_read 11 = .ok (.aload_n 0, 1) := by decide +kernel
theorem dX4_read_12 : decode cX4_read 12 = .ok (.iload_n 2, 1) := by decide +kernel
theorem dX4_read_13 : decode cX4_read 13 = .ok (.putfield 29, 3) := by decide +kernel
theorem dX4_read_16 : decode cX4_read 16 = .ok (.aload_n 0, 1) := by decide +kernel
theorem dX4_read_17 : decode cX4_read 17 = .ok (.iconst 0, 1) := by decide +kernel
theorem dX4_read_18 : decode cX4_read 18 = .ok (.putfield 33, 3) := by decide +kernel
theorem dX4_read_21 : decode cX4_read 21 = .ok (.iconst 0, 1) := by decide +kernel
theorem dX4_read_22 : decode cX4_read 22 = .ok (.istore_n 3, 1) := by decide +kernel
theorem dX4_read_23 : decode cX4_read 23 = .ok (.aload_n 0, 1) := by decide +kernel
theorem dX4_read_24 : decode cX4_read 24 = .ok (.getfield 33, 3) := by decide +kernel
theorem dX4_read_27 : decode cX4_read 27 = .ok (.ifCond .eq 33, 3) := by decide +kernel
theorem dX4_read_30 : decode cX4_read 30 = .ok (.aload_n 0, 1) := by decide +kernel
theorem dX4_read_31 : decode cX4_read 31 = .ok (.getfield 15, 3) := by decide +kernel
theorem dX4_read_34 : decode cX4_read 34 = .ok (.aload_n 0, 1) := by decide +kernel
theorem dX4_read_35 : decode cX4_read 35 = .ok (.getfield 33, 3) := by decide +kernel
theorem dX4_read_38 : decode cX4_read 38 = .ok (.iconst 1, 1) := by decide +kernel
theorem dX4_read_39 : decode cX4_read 39 = .ok (.isub, 1) := by decide +kernel
theorem dX4_read_40 : decode cX4_read 40 = .ok (.iaload, 1) := by decide +kernel
theorem dX4_read_41 : decode cX4_read 41 = .ok (.ifCond .eq 106, 3) := by decide +kernel
theorem dX4_read_44 : decode cX4_read 44 = .ok (.aload_n 0, 1) := by decide +kernel
theorem dX4_read_45 : decode cX4_read 45 = .ok (.getfield 15, 3) := by decide +kernel
theorem dX4_read_48 : decode cX4_read 48 = .ok (.aload_n 0, 1) := by decide +kernel
theorem dX4_read_49 : decode cX4_read 49 = .ok (.getfield 33, 3) := by decide +kernel
theorem dX4_read_52 : decode cX4_read 52 = .ok (.iconst 1, 1) := by decide +kernel
theorem dX4_read_53 : decode cX4_read 53 = .ok (.isub, 1) := by decide +kernel
theorem dX4_read_54 : decode cX4_read 54 = .ok (.iaload, 1) := by decide +kernel
theorem dX4_read_55 : decode cX4_read 55 = .ok (.bipush 6, 2) := by decide +kernel
theorem dX4_read_57 : decode cX4_read 57 = .ok (.if_icmp .eq 90, 3) := by decide +kernel
theorem dX4_read_60 : decode cX4_read 60 = .ok (.aload_n 0, 1) := by decide +kernel
theorem dX4_read_61 : decode cX4_read 61 = .ok (.iload_n 3, 1) := by decide +kernel
theorem dX4_read_62 : decode cX4_read 62 = .ok (.invokevirtual 42, 3) := by decide +kernel
theorem dX4_read_65 : decode cX4_read 65 = .ok (.bipush 32, 2) := by decide +kernel
theorem dX4_read_67 : decode cX4_read 67 = .ok (.if_icmp .ne 9, 3) := by decide +kernel
theorem dX4_read_70 : decode cX4_read 70 = .ok (.iinc 3 1, 3) := by decide +kernel
theorem dX4_read_73 : decode cX4_read 73 = .ok (.goto (-13), 3) := by decide +kernel
theorem dX4_read_76 : decode cX4_read 76 = .ok (.aload_n 0, 1) := by decide +kernel
theorem dX4_read_77 : decode cX4_read 77 = .ok (.iload_n 3, 1) := by decide +kernel
theorem dX4_read_78 : decode cX4_read 78 = .ok (.invokevirtual 42, 3) := by decide +kernel
theorem dX4_read_81 : decode cX4_read 81 = .ok (.istore 4, 2) := by decide +kernel
theorem dX4_read_83 : decode cX4_read 83 = .ok (.iload 4, 2) := by decide +kernel
theorem dX4_read_85 : decode cX4_read 85 = .ok (.iconst (-1), 1) := by decide +kernel
theorem dX4_read_86 : decode cX4_read 86 = .ok (.if_icmp .ne 16, 3) := by decide +kernel
theorem dX4_read_89 : decode cX4_read 89 = .ok (.aload_n 0, 1) := by decide +kernel
theorem dX4_read_90 : decode cX4_read 90 = .ok (.iconst 0, 1) := by decide +kernel
theorem dX4_read_91 : decode cX4_read 91 = .ok (.iconst 0, 1) := by decide +kernel
theorem dX4_read_92 : decode cX4_read 92 = .ok (.aload_n 0, 1) := by decide +kernel
theorem dX4_read_93 : decode cX4_read 93 = .ok (.getfield 29, 3) := by decide +kernel
theorem dX4_read_96 : decode cX4_read 96 = .ok (.invokevirtual 46, 3) := by decide +kernel
theorem dX4_read_99 : decode cX4_read 99 = .ok (.goto 45, 3) := by decide +kernel
theorem dX4_read_102 : decode cX4_read 102 = .ok (.iload 4, 2) := by decide +kernel
theorem dX4_read_104 : decode cX4_read 104 = .ok (.invokestatic 50, 3) := by decide +kernel
theorem dX4_read_107 : decode cX4_read 107 = .ok (.ifCond .eq 12, 3) := by decide +kernel
theorem dX4_read_110 : decode cX4_read 110 = .ok (.aload_n 0, 1) := by decide +kernel
theorem dX4_read_111 : decode cX4_read 111 = .ok (.iload_n 3, 1) := by decide +kernel
theorem dX4_read_112 : decode cX4_read 112 = .ok (.invokevirtual 54, 3) := by decide +kernel
theorem dX4_read_115 : decode cX4_read 115 = .ok (.istore_n 3, 1) := by decide +kernel
theorem dX4_read_116 : decode cX4_read 116 = .ok (.goto 28, 3) := by decide +kernel
theorem dX4_read_119 : decode cX4_read 119 = .ok (.iload 4, 2) := by decide +kernel
theorem dX4_read_121 : decode cX4_read 121 = .ok (.invokestatic 57, 3) := by decide +kernel
theorem dX4_read_124 : decode cX4_read 124 = .ok (.ifCond .eq 12, 3) := by decide +kernel
theorem dX4_read_127 : decode cX4_read 127 = .ok (.aload_n 0, 1) := by decide +kernel
theorem dX4_read_128 : decode cX4_read 128 = .ok (.iload_n 3, 1) := by decide +kernel
theorem dX4_read_129 : decode cX4_read 129 = .ok (.invokevirtual 60, 3) := by decide +kernel
theorem dX4_read_132 : decode cX4_read 132 = .ok (.istore_n 3, 1) := by decide +kernel
theorem dX4_read_133 : decode cX4_read 133 = .ok (.goto 11, 3) := by decide +kernel
theorem dX4_read_136 : decode cX4_read 136 = .ok (.aload_n 0, 1) := by decide +kernel
theorem dX4_read_137 : decode cX4_read 137 = .ok (.iload_n 3, 1) := by decide +kernel
theorem dX4_read_138 : decode cX4_read 138 = .ok (.iload 4, 2) := by decide +kernel
theorem dX4_read_140 : decode cX4_read 140 = .ok (.invokevirtual 63, 3) := by decide +kernel
theorem dX4_read_143 : decode cX4_read 143 = .ok (.istore_n 3, 1) := by decide +kernel
theorem dX4_read_144 : decode cX4_read 144 = .ok (.goto (-121), 3) := by decide +kernel
theorem dX4_read_147 : decode cX4_read 147 = .ok (.return_, 1) := by decide +kernel
/-! AlgebraHouse$Tokens.read([BI)V -/
def P_X4_read_76 (Q : Int → MM → Prop) (T : MM → Prop) (K23 : Int → MM → Prop) (x3 : Int) (m : MM) : Prop := P_X4_see x3 m (fun r1 m1 => (RI r1) ∧ (if r1 = (-1) then P_X4_put 0 0 (m1 366 1) m1 (fun r7 m7 => K23 x3 m7) else P_X4_isLetter r1 m1 (fun r2 m2 => (RI r2) ∧ (if r2 = 0 then P_X4_isDigit r1 m2 (fun r3 m3 => (RI r3) ∧ (if r3 = 0 then P_X4_sign x3 r1 m3 (fun r4 m4 => K23 r4 m4) else P_X4_number x3 m3 (fun r5 m5 => K23 r5 m5))) else P_X4_word x3 m2 (fun r6 m6 => K23 r6 m6) T))))
def P_X4_read_60 (Q : Int → MM → Prop) (T : MM → Prop) (K23 : Int → MM → Prop) : Nat → Int → MM → Prop
  | 0, _, _ => False
  | n + 1, x3, m => P_X4_see x3 m (fun r1 m1 => (RI r1) ∧ (if r1 = 32 then P_X4_read_60 Q T K23 n (x3 + 1) m1 else P_X4_read_76 Q T K23 x3 m1))
def P_X4_read_23 (Q : Int → MM → Prop) (T : MM → Prop) : Nat → Int → MM → Prop
  | 0, _, _ => False
  | n + 1, x3, m => (RI (m 366 2)) ∧ (if (m 366 2) = 0 then ∃ nn, P_X4_read_60 Q T (fun z0 z1 => P_X4_read_23 Q T n z0 z1) nn x3 m else (0 ≤ ((m 366 2) - 1) ∧ ((m 366 2) - 1) < 401) ∧ (RI (m 368 ((m 366 2) - 1))) ∧ (if (m 368 ((m 366 2) - 1)) = 0 then Q 0 m else (if (m 368 ((m 366 2) - 1)) = 6 then Q 0 m else ∃ nn, P_X4_read_60 Q T (fun z0 z1 => P_X4_read_23 Q T n z0 z1) nn x3 m)))
def P_X4_read (x1 : Int) (x2 : Int) (m : MM) (Q : Int → MM → Prop) (T : MM → Prop) : Prop := (0 ≤ x2) ∧ (inR x1 2 0 x2) ∧ (inR 367 2 0 x2) ∧ (∀ j : Int, 0 ≤ j → j < x2 → -128 ≤ m x1 (0 + j) ∧ m x1 (0 + j) ≤ 127) ∧ ∀ m1 : MM, m1 = cpm m x1 0 367 0 x2 → ∀ m2 : MM, m2 = up m1 366 1 x2 → ∀ m3 : MM, m3 = up m2 366 2 0 → ∃ nn, P_X4_read_23 Q T nn 0 m3
theorem pl_X4_read_76 {f : Nat} {Q : Int → MM → Prop} {T : MM → Prop} (hf : 7 ≤ f) {K23 : Int → MM → Prop} (hK23 : ∀ (x3 : Int) (m : MM), K23 x3 m → B f M_X4_read 23 [vR 366, vU, vU, vI x3, vU] [] m Q T) : ∀ (x3 : Int) (m : MM), P_X4_read_76 Q T K23 x3 m → B f M_X4_read 76 [vR 366, vU, vU, vI x3, vU] [] m Q T := by
  intro x3 m h
  have h : P_X4_see x3 m (fun r1 m1 => (RI r1) ∧ (if r1 = (-1) then P_X4_put 0 0 (m1 366 1) m1 (fun r7 m7 => K23 x3 m7) else P_X4_isLetter r1 m1 (fun r2 m2 => (RI r2) ∧ (if r2 = 0 then P_X4_isDigit r1 m2 (fun r3 m3 => (RI r3) ∧ (if r3 = 0 then P_X4_sign x3 r1 m3 (fun r4 m4 => K23 r4 m4) else P_X4_number x3 m3 (fun r5 m5 => K23 r5 m5))) else P_X4_word x3 m2 (fun r6 m6 => K23 r6 m6) T)))) := h
  refine b_aload_n dX4_read_76 rfl ?_
  refine b_iload_n dX4_read_77 rfl ?_
  refine b_cVi (as := [vI x3]) (st := []) dX4_read_78 mf_X4_see qs0 lk_X4_42 ly_366 rfl (p_X4_see (f := 1) (Nat.le_refl _) _ _ h) (by omega) rfl rfl (Nat.le_of_ble_eq_true rfl) (by decide) rfl (fun _ => rfl) (fun r1 m1 h => ?_) (fun _ h => h)
  refine b_istore (ls' := [vR 366, vU, vU, vI x3, vI r1]) dX4_read_81 (Nat.le_of_ble_eq_true rfl) rfl ?_
  refine b_iload dX4_read_83 rfl ?_
  refine b_iconst dX4_read_85 ?_
  obtain ⟨g1, h⟩ := h
  refine b_icmp_ne 102 dX4_read_86 g1 (by decide) (by decide) (fun c1 => ?_) (fun c1 => ?_)
  · have h := ifF c1 h
    refine b_iload dX4_read_102 rfl ?_
    refine b_cSi (as := [vI r1]) (st := []) dX4_read_104 mf_X4_isLetter lk_X4_50 (p_X4_isLetter (f := 1) (Nat.le_refl _) _ _ h) (by omega) rfl rfl (Nat.le_of_ble_eq_true rfl) (by decide) rfl (fun _ => rfl) (fun r2 m2 h => ?_) (fun _ h => h)
    obtain ⟨g2, h⟩ := h
    refine b_if_eq 119 dX4_read_107 g2 (by decide) (fun c2 => ?_) (fun c2 => ?_)
    · have h := ifT c2 h
      refine b_iload dX4_read_119 rfl ?_
      refine b_cSi (as := [vI r1]) (st := []) dX4_read_121 mf_X4_isDigit lk_X4_57 (p_X4_isDigit (f := 1) (Nat.le_refl _) _ _ h) (by omega) rfl rfl (Nat.le_of_ble_eq_true rfl) (by decide) rfl (fun _ => rfl) (fun r3 m3 h => ?_) (fun _ h => h)
      obtain ⟨g3, h⟩ := h
      refine b_if_eq 136 dX4_read_124 g3 (by decide) (fun c3 => ?_) (fun c3 => ?_)
      · have h := ifT c3 h
        refine b_aload_n dX4_read_136 rfl ?_
        refine b_iload_n dX4_read_137 rfl ?_
        refine b_iload dX4_read_138 rfl ?_
        refine b_cVi (as := [vI x3, vI r1]) (st := []) dX4_read_140 mf_X4_sign qs5 lk_X4_63 ly_366 rfl (p_X4_sign (f := 5) (Nat.le_refl _) _ _ _ h) (by omega) rfl rfl (Nat.le_of_ble_eq_true rfl) (by decide) rfl (fun _ => rfl) (fun r4 m4 h => ?_) (fun _ h => h)
        refine b_istore_n (ls' := [vR 366, vU, vU, vI r4, vI r1]) dX4_read_143 (Nat.le_of_ble_eq_true rfl) rfl ?_
        refine b_goto 23 dX4_read_144 (by decide) ?_
        refine b_fgt [true, false, false, true, false] (ls' := [vR 366, vU, vU, vI r4, vU]) rfl rfl ?_
        exact hK23 _ _ h
      · have h := ifF c3 h
        refine b_aload_n dX4_read_127 rfl ?_
        refine b_iload_n dX4_read_128 rfl ?_
        refine b_cVi (as := [vI x3]) (st := []) dX4_read_129 mf_X4_number qs4 lk_X4_60 ly_366 rfl (p_X4_number (f := 2) (Nat.le_refl _) _ _ h) (by omega) rfl rfl (Nat.le_of_ble_eq_true rfl) (by decide) rfl (fun _ => rfl) (fun r5 m5 h => ?_) (fun _ h => h)
        refine b_istore_n (ls' := [vR 366, vU, vU, vI r5, vI r1]) dX4_read_132 (Nat.le_of_ble_eq_true rfl) rfl ?_
        refine b_goto 144 dX4_read_133 (by decide) ?_
        refine b_goto 23 dX4_read_144 (by decide) ?_
        refine b_fgt [true, false, false, true, false] (ls' := [vR 366, vU, vU, vI r5, vU]) rfl rfl ?_
        exact hK23 _ _ h
    · have h := ifF c2 h
      refine b_aload_n dX4_read_110 rfl ?_
      refine b_iload_n dX4_read_111 rfl ?_
      refine b_cVi (as := [vI x3]) (st := []) dX4_read_112 mf_X4_word qs2 lk_X4_54 ly_366 rfl (p_X4_word (f := 6) (Nat.le_refl _) _ _ h) (by omega) rfl rfl (Nat.le_of_ble_eq_true rfl) (by decide) rfl (fun _ => rfl) (fun r6 m6 h => ?_) (fun _ h => h)
      refine b_istore_n (ls' := [vR 366, vU, vU, vI r6, vI r1]) dX4_read_115 (Nat.le_of_ble_eq_true rfl) rfl ?_
      refine b_goto 144 dX4_read_116 (by decide) ?_
      refine b_goto 23 dX4_read_144 (by decide) ?_
      refine b_fgt [true, false, false, true, false] (ls' := [vR 366, vU, vU, vI r6, vU]) rfl rfl ?_
      exact hK23 _ _ h
  · have h := ifT (Decidable.of_not_not c1) h
    refine b_aload_n dX4_read_89 rfl ?_
    refine b_iconst dX4_read_90 ?_
    refine b_iconst dX4_read_91 ?_
    refine b_aload_n dX4_read_92 rfl ?_
    refine b_getI dX4_read_93 fk_X4_29 ly_366 ?_
    refine b_cVv (as := [vI 0, vI 0, vI (m1 366 1)]) (st := []) dX4_read_96 mf_X4_put qs1 lk_X4_46 ly_366 rfl (p_X4_put (f := 1) (Nat.le_refl _) _ _ _ _ h) (by omega) rfl rfl (Nat.le_of_ble_eq_true rfl) (by decide) rfl (fun _ => rfl) (fun r7 m7 h => ?_) (fun _ h => h)
    refine b_goto 144 dX4_read_99 (by decide) ?_
    refine b_goto 23 dX4_read_144 (by decide) ?_
    refine b_fgt [true, false, false, true, false] (ls' := [vR 366, vU, vU, vI x3, vU]) rfl rfl ?_
    exact hK23 _ _ h
theorem pl_X4_read_60 {f : Nat} {Q : Int → MM → Prop} {T : MM → Prop} (hf : 7 ≤ f) {K23 : Int → MM → Prop} (hK23 : ∀ (x3 : Int) (m : MM), K23 x3 m → B f M_X4_read 23 [vR 366, vU, vU, vI x3, vU] [] m Q T) : ∀ (n : Nat) (x3 : Int) (m : MM), P_X4_read_60 Q T K23 n x3 m → B f M_X4_read 60 [vR 366, vU, vU, vI x3, vU] [] m Q T := by
  intro n
  induction n with
  | zero => intro x3 m h; exact h.elim
  | succ n ih =>
    intro x3 m h
    have h : P_X4_see x3 m (fun r1 m1 => (RI r1) ∧ (if r1 = 32 then P_X4_read_60 Q T K23 n (x3 + 1) m1 else P_X4_read_76 Q T K23 x3 m1)) := h
    refine b_aload_n dX4_read_60 rfl ?_
    refine b_iload_n dX4_read_61 rfl ?_
    refine b_cVi (as := [vI x3]) (st := []) dX4_read_62 mf_X4_see qs0 lk_X4_42 ly_366 rfl (p_X4_see (f := 1) (Nat.le_refl _) _ _ h) (by omega) rfl rfl (Nat.le_of_ble_eq_true rfl) (by decide) rfl (fun _ => rfl) (fun r1 m1 h => ?_) (fun _ h => h)
    refine b_bipush dX4_read_65 (by decide) ?_
    obtain ⟨g1, h⟩ := h
    refine b_icmp_ne 76 dX4_read_67 g1 (by decide) (by decide) (fun c1 => ?_) (fun c1 => ?_)
    · have h := ifF c1 h
      exact pl_X4_read_76 hf hK23 _ _ h
    · have h := ifT (Decidable.of_not_not c1) h
      refine b_iinc (ls' := [vR 366, vU, vU, vI (x3 + 1), vU]) dX4_read_70 rfl rfl ?_
      refine b_goto 60 dX4_read_73 (by decide) ?_
      exact ih _ _ h
theorem pl_X4_read_23 {f : Nat} {Q : Int → MM → Prop} {T : MM → Prop} (hf : 7 ≤ f) : ∀ (n : Nat) (x3 : Int) (m : MM), P_X4_read_23 Q T n x3 m → B f M_X4_read 23 [vR 366, vU, vU, vI x3, vU] [] m Q T := by
  intro n
  induction n with
  | zero => intro x3 m h; exact h.elim
  | succ n ih =>
    intro x3 m h
    have h : (RI (m 366 2)) ∧ (if (m 366 2) = 0 then ∃ nn, P_X4_read_60 Q T (fun z0 z1 => P_X4_read_23 Q T n z0 z1) nn x3 m else (0 ≤ ((m 366 2) - 1) ∧ ((m 366 2) - 1) < 401) ∧ (RI (m 368 ((m 366 2) - 1))) ∧ (if (m 368 ((m 366 2) - 1)) = 0 then Q 0 m else (if (m 368 ((m 366 2) - 1)) = 6 then Q 0 m else ∃ nn, P_X4_read_60 Q T (fun z0 z1 => P_X4_read_23 Q T n z0 z1) nn x3 m))) := h
    refine b_aload_n dX4_read_23 rfl ?_
    refine b_getI dX4_read_24 fk_X4_33 ly_366 ?_
    obtain ⟨g1, h⟩ := h
    refine b_if_eq 60 dX4_read_27 g1 (by decide) (fun c1 => ?_) (fun c1 => ?_)
    · have h := ifT c1 h
      obtain ⟨nn, h⟩ := h
      exact pl_X4_read_60 hf (fun _ _ h => ih _ _ h) nn _ _ h
    · have h := ifF c1 h
      refine b_aload_n dX4_read_30 rfl ?_
      refine b_getR dX4_read_31 fk_X4_15 ly_366 gg_366_3 ?_
      refine b_aload_n dX4_read_34 rfl ?_
      refine b_getI dX4_read_35 fk_X4_33 ly_366 ?_
      refine b_iconst dX4_read_38 ?_
      refine b_isub dX4_read_39 ?_
      obtain ⟨g2, h⟩ := h
      refine b_iald dX4_read_40 ly_368 g2 ?_
      obtain ⟨g3, h⟩ := h
      refine b_if_eq 147 dX4_read_41 g3 (by decide) (fun c2 => ?_) (fun c2 => ?_)
      · have h := ifT c2 h
        exact b_vret dX4_read_147 rfl h
      · have h := ifF c2 h
        refine b_aload_n dX4_read_44 rfl ?_
        refine b_getR dX4_read_45 fk_X4_15 ly_366 gg_366_3 ?_
        refine b_aload_n dX4_read_48 rfl ?_
        refine b_getI dX4_read_49 fk_X4_33 ly_366 ?_
        refine b_iconst dX4_read_52 ?_
        refine b_isub dX4_read_53 ?_
        refine b_iald dX4_read_54 ly_368 g2 ?_
        refine b_bipush dX4_read_55 (by decide) ?_
        refine b_icmp_eq 147 dX4_read_57 g3 (by decide) (by decide) (fun c3 => ?_) (fun c3 => ?_)
        · have h := ifT c3 h
          exact b_vret dX4_read_147 rfl h
        · have h := ifF c3 h
          obtain ⟨nn, h⟩ := h
          exact pl_X4_read_60 hf (fun _ _ h => ih _ _ h) nn _ _ h
theorem p_X4_read {f : Nat} {Q : Int → MM → Prop} {T : MM → Prop} (hf : 7 ≤ f) (x1 : Int) (x2 : Int) (m : MM) (h : P_X4_read x1 x2 m Q T) : CC f M_X4_read [vR 366, vR x1, vI x2] m Q T := by
  refine CC.of (plainFor_of_name (by decide)) (Nat.le_of_ble_eq_true rfl) (ls := [vR 366, vR x1, vI x2, vU, vU]) rfl ?_
  have h : (0 ≤ x2) ∧ (inR x1 2 0 x2) ∧ (inR 367 2 0 x2) ∧ (∀ j : Int, 0 ≤ j → j < x2 → -128 ≤ m x1 (0 + j) ∧ m x1 (0 + j) ≤ 127) ∧ ∀ m1 : MM, m1 = cpm m x1 0 367 0 x2 → ∀ m2 : MM, m2 = up m1 366 1 x2 → ∀ m3 : MM, m3 = up m2 366 2 0 → ∃ nn, P_X4_read_23 Q T nn 0 m3 := h
  refine b_aload_n dX4_read_0 rfl ?_
  refine b_iconst dX4_read_1 ?_
  refine b_aload_n dX4_read_2 rfl ?_
  refine b_getR dX4_read_3 fk_X4_9 ly_366 gg_366_0 ?_
  refine b_iconst dX4_read_6 ?_
  refine b_iload_n dX4_read_7 rfl ?_
  obtain ⟨g1, h⟩ := h
  obtain ⟨g2, h⟩ := h
  obtain ⟨g3, h⟩ := h
  obtain ⟨g4, h⟩ := h
  refine b_copyb dX4_read_8 lk_X4_36 g1 g2 g3 g4 (by omega) (Nat.le_of_ble_eq_true rfl) rfl (fun m1 em1 => ?_)
  have h := h m1 em1
  refine b_aload_n dX4_read_11 rfl ?_
  refine b_iload_n dX4_read_12 rfl ?_
  refine b_putI dX4_read_13 fk_X4_29 ly_366 (fun m2 em2 => ?_)
  have h := h m2 em2
  refine b_aload_n dX4_read_16 rfl ?_
  refine b_iconst dX4_read_17 ?_
  refine b_putI dX4_read_18 fk_X4_33 ly_366 (fun m3 em3 => ?_)
  have h := h m3 em3
  refine b_iconst dX4_read_21 ?_
  refine b_istore_n (ls' := [vR 366, vR x1, vI x2, vI 0, vU]) dX4_read_22 (Nat.le_of_ble_eq_true rfl) rfl ?_
  refine b_fgt [true, false, false, true, false] (ls' := [vR 366, vU, vU, vI 0, vU]) rfl rfl ?_
  obtain ⟨nn, h⟩ := h
  exact pl_X4_read_23 hf nn _ _ h
