set_option maxRecDepth 100000
theorem dX7_add_0 : decode cX7_add 0 = .ok (.aload_n 0, 1) := by decide +kernel
theorem dX7_add_1 : decode cX7_add 1 = .ok (.getfield 19, 3) := by decide +kernel
theorem dX7_add_4 : decode cX7_add 4 = .ok (.iload_n 1, 1) := by decide +kernel
theorem dX7_add_5 : decode cX7_add 5 = .ok (.iload_n 2, 1) := by decide +kernel
theorem dX7_add_6 : decode cX7_add 6 = .ok (.iload_n 3, 1) := by decide +kernel
theorem dX7_add_7 : decode cX7_add 7 = .ok (.invokevirtual 46, 3) := by decide +kernel
theorem dX7_add_10 : decode cX7_add 10 = .ok (.istore 4, 2) := by decide +kernel
theorem dX7_add_12 : decode cX7_add 12 = .ok (.return_, 1) := by decide +kernel
/-! AlgebraHouse$Coder.add(III)V -/
def P_X7_add (x1 : Int) (x2 : Int) (x3 : Int) (m : MM) (Q : Int → MM → Prop) : Prop := (isCd (m 377 1)) ∧ P_X9_add (m 377 1) x1 x2 x3 m (fun r1 m1 => Q 0 m1)
theorem p_X7_add {f : Nat} {Q : Int → MM → Prop} {T : MM → Prop} (hf : 2 ≤ f) (x1 : Int) (x2 : Int) (x3 : Int) (m : MM) (h : P_X7_add x1 x2 x3 m Q) : CC f M_X7_add [vR 377, vI x1, vI x2, vI x3] m Q T := by
  refine CC.of (plainFor_of_name (by decide)) (Nat.le_of_ble_eq_true rfl) (ls := [vR 377, vI x1, vI x2, vI x3, vU]) rfl ?_
  have h : (isCd (m 377 1)) ∧ P_X9_add (m 377 1) x1 x2 x3 m (fun r1 m1 => Q 0 m1) := h
  refine b_aload_n dX7_add_0 rfl ?_
  refine b_getM dX7_add_1 fk_X7_19 ly_377 ?_
  refine b_iload_n dX7_add_4 rfl ?_
  refine b_iload_n dX7_add_5 rfl ?_
  refine b_iload_n dX7_add_6 rfl ?_
  obtain ⟨g1, h⟩ := h
  refine b_cVi (as := [vI x1, vI x2, vI x3]) (st := []) dX7_add_7 mf_X9_add q1259 lk_X7_46 (cd_ly0 g1) rfl (p_X9_add (f := 1) (Nat.le_refl _) _ _ _ _ _ h) (by omega) rfl rfl (Nat.le_of_ble_eq_true rfl) (by decide) rfl (fun _ => rfl) (fun r1 m1 h => ?_) (fun _ h => h)
  refine b_istore (ls' := [vR 377, vI x1, vI x2, vI x3, vI r1]) dX7_add_10 (Nat.le_of_ble_eq_true rfl) rfl ?_
  exact b_vret dX7_add_12 rfl h
theorem dX7_turn_0 : decode cX7_turn 0 = .ok (.iload_n 1, 1) := by decide +kernel
theorem dX7_turn_1 : decode cX7_turn 1 = .ok (.iload_n 2, 1) := by decide +kernel
theorem dX7_turn_2 : decode cX7_turn 2 = .ok (.if_icmp .eq 11, 3) := by decide +kernel
theorem dX7_turn_5 : decode cX7_turn 5 = .ok (.aload_n 0, 1) := by decide +kernel
theorem dX7_turn_6 : decode cX7_turn 6 = .ok (.bipush 6, 2) := by decide +kernel
theorem dX7_turn_8 : decode cX7_turn 8 = .ok (.iload_n 1, 1) := by decide +kernel
theorem dX7_turn_9 : decode cX7_turn 9 = .ok (.iload_n 2, 1) := by decide +kernel
theorem dX7_turn_10 : decode cX7_turn 10 = .ok (.invokevirtual 50, 3) := by decide +kernel
theorem dX7_turn_13 : decode cX7_turn 13 = .ok (.return_, 1) := by decide +kernel
/-! AlgebraHouse$Coder.turn(II)V -/
def P_X7_turn (x1 : Int) (x2 : Int) (m : MM) (Q : Int → MM → Prop) : Prop := (RI x1) ∧ (RI x2) ∧ (if x1 = x2 then Q 0 m else P_X7_add 6 x1 x2 m (fun r1 m1 => Q 0 m1))
theorem p_X7_turn {f : Nat} {Q : Int → MM → Prop} {T : MM → Prop} (hf : 3 ≤ f) (x1 : Int) (x2 : Int) (m : MM) (h : P_X7_turn x1 x2 m Q) : CC f M_X7_turn [vR 377, vI x1, vI x2] m Q T := by
  refine CC.of (plainFor_of_name (by decide)) (Nat.le_of_ble_eq_true rfl) (ls := [vR 377, vI x1, vI x2]) rfl ?_
  have h : (RI x1) ∧ (RI x2) ∧ (if x1 = x2 then Q 0 m else P_X7_add 6 x1 x2 m (fun r1 m1 => Q 0 m1)) := h
  refine b_iload_n dX7_turn_0 rfl ?_
  refine b_iload_n dX7_turn_1 rfl ?_
  obtain ⟨g1, h⟩ := h
  obtain ⟨g2, h⟩ := h
  refine b_icmp_eq 13 dX7_turn_2 g1 g2 (by decide) (fun c1 => ?_) (fun c1 => ?_)
  · have h := ifT c1 h
    exact b_vret dX7_turn_13 rfl h
  · have h := ifF c1 h
    refine b_aload_n dX7_turn_5 rfl ?_
    refine b_bipush dX7_turn_6 (by decide) ?_
    refine b_iload_n dX7_turn_8 rfl ?_
    refine b_iload_n dX7_turn_9 rfl ?_
    refine b_cVv (as := [vI 6, vI x1, vI x2]) (st := []) dX7_turn_10 mf_X7_add qs56 lk_X7_50 ly_377 rfl (p_X7_add (f := 2) (Nat.le_refl _) _ _ _ _ h) (by omega) rfl rfl (Nat.le_of_ble_eq_true rfl) (by decide) rfl (fun _ => rfl) (fun r1 m1 h => ?_) (fun _ h => h)
    exact b_vret dX7_turn_13 rfl h
theorem dX7_heavy_0 : decode cX7_heavy 0 = .ok (.aload_n 0, 1) := by decide +kernel
theorem dX7_heavy_1 : decode cX7_heavy 1 = .ok (.getfield 15, 3) := by decide +kernel
theorem dX7_heavy_4 : decode cX7_heavy 4 = .ok (.getfield 62, 3) := by decide +kernel
theorem dX7_heavy_7 : decode cX7_heavy 7 = .ok (.iload_n 1, 1) := by decide +kernel
theorem dX7_heavy_8 : decode cX7_heavy 8 = .ok (.iaload, 1) := by decide +kernel
theorem dX7_heavy_9 : decode cX7_heavy 9 = .ok (.istore_n 2, 1) := by decide +kernel
theorem dX7_heavy_10 : decode cX7_heavy 10 = .ok (.aload_n 0, 1) := by decide +kernel
theorem dX7_heavy_11 : decode cX7_heavy 11 = .ok (.getfield 15, 3) := by decide +kernel
theorem dX7_heavy_14 : decode cX7_heavy 14 = .ok (.getfield 38, 3) := by decide +kernel
theorem dX7_heavy_17 : decode cX7_heavy 17 = .ok (.aload_n 0, 1) := by decide +kernel
theorem dX7_heavy_18 : decode cX7_heavy 18 = .ok (.getfield 15, 3) := by decide +kernel
theorem dX7_heavy_21 : decode cX7_heavy 21 = .ok (.getfield 86, 3) := by decide +kernel
theorem dX7_heavy_24 : decode cX7_heavy 24 = .ok (.iload_n 1, 1) := by decide +kernel
theorem dX7_heavy_25 : decode cX7_heavy 25 = .ok (.iaload, 1) := by decide +kernel
theorem dX7_heavy_26 : decode cX7_heavy 26 = .ok (.iaload, 1) := by decide +kernel
theorem dX7_heavy_27 : decode cX7_heavy 27 = .ok (.istore_n 3, 1) := by decide +kernel
theorem dX7_heavy_28 : decode cX7_heavy 28 = .ok (.iload_n 2, 1) := by decide +kernel
theorem dX7_heavy_29 : decode cX7_heavy 29 = .ok (.ifCond .eq 20, 3) := by decide +kernel
theorem dX7_heavy_32 : decode cX7_heavy 32 = .ok (.iload_n 2, 1) := by decide +kernel
theorem dX7_heavy_33 : decode cX7_heavy 33 = .ok (.iconst 3, 1) := by decide +kernel
theorem dX7_heavy_34 : decode cX7_heavy 34 = .ok (.if_icmp .eq 15, 3) := by decide +kernel
theorem dX7_heavy_37 : decode cX7_heavy 37 = .ok (.iload_n 2, 1) := by decide +kernel
theorem dX7_heavy_38 : decode cX7_heavy 38 = .ok (.bipush 8, 2) := by decide +kernel
theorem dX7_heavy_40 : decode cX7_heavy 40 = .ok (.if_icmp .eq 9, 3) := by decide +kernel
theorem dX7_heavy_43 : decode cX7_heavy 43 = .ok (.iload_n 2, 1) := by decide +kernel
theorem dX7_heavy_44 : decode cX7_heavy 44 = .ok (.bipush 9, 2) := by decide +kernel
theorem dX7_heavy_46 : decode cX7_heavy 46 = .ok (.if_icmp .ne 18, 3) := by decide +kernel
theorem dX7_heavy_49 : decode cX7_heavy 49 = .ok (.aload_n 0, 1) := by decide +kernel
theorem dX7_heavy_50 : decode cX7_heavy 50 = .ok (.getfield 15, 3) := by decide +kernel
theorem dX7_heavy_53 : decode cX7_heavy 53 = .ok (.getfield 38, 3) := by decide +kernel
theorem dX7_heavy_56 : decode cX7_heavy 56 = .ok (.iload_n 1, 1) := by decide +kernel
theorem dX7_heavy_57 : decode cX7_heavy 57 = .ok (.iaload, 1) := by decide +kernel
theorem dX7_heavy_58 : decode cX7_heavy 58 = .ok (.invokestatic 56, 3) := by decide +kernel
theorem dX7_heavy_61 : decode cX7_heavy 61 = .ok (.goto 22, 3) := by decide +kernel
theorem dX7_heavy_64 : decode cX7_heavy 64 = .ok (.iload_n 2, 1) := by decide +kernel
theorem dX7_heavy_65 : decode cX7_heavy 65 = .ok (.iconst 5, 1) := by decide +kernel
theorem dX7_heavy_66 : decode cX7_heavy 66 = .ok (.if_icmp .eq 9, 3) := by decide +kernel
theorem dX7_heavy_69 : decode cX7_heavy 69 = .ok (.iload_n 2, 1) := by decide +kernel
theorem dX7_heavy_70 : decode cX7_heavy 70 = .ok (.bipush 10, 2) := by decide +kernel
theorem dX7_heavy_72 : decode cX7_heavy 72 = .ok (.if_icmp .ne 10, 3) := by decide +kernel
theorem dX7_heavy_75 : decode cX7_heavy 75 = .ok (.iload_n 3, 1) := by decide +kernel
theorem dX7_heavy_76 : decode cX7_heavy 76 = .ok (.invokestatic 56, 3) := by decide +kernel
theorem dX7_heavy_79 : decode cX7_heavy 79 = .ok (.goto 4, 3) := by decide +kernel
theorem dX7_heavy_82 : decode cX7_heavy 82 = .ok (.iconst 1, 1) := by decide +kernel
theorem dX7_heavy_83 : decode cX7_heavy 83 = .ok (.ireturn, 1) := by decide +kernel
/-! AlgebraHouse$Coder.heavy(I)I -/
def P_X7_heavy_49 (Q : Int → MM → Prop) (x1 : Int) (m : MM) : Prop := (isTx (m 377 0)) ∧ (0 ≤ x1 ∧ x1 < 160) ∧ P_X11_weight (m ((m 377 0) + 6) x1) m (fun r1 m1 => Q r1 m1)
def P_X7_heavy_75 (Q : Int → MM → Prop) (x3 : Int) (m : MM) : Prop := P_X11_weight x3 m (fun r1 m1 => Q r1 m1)
def P_X7_heavy (x1 : Int) (m : MM) (Q : Int → MM → Prop) : Prop := (isTx (m 377 0)) ∧ (0 ≤ x1 ∧ x1 < 160) ∧ (0 ≤ (m ((m 377 0) + 2) x1) ∧ (m ((m 377 0) + 2) x1) < 160) ∧ (RI (m ((m 377 0) + 4) x1)) ∧ (if (m ((m 377 0) + 4) x1) = 0 then P_X7_heavy_49 Q x1 m else (if (m ((m 377 0) + 4) x1) = 3 then P_X7_heavy_49 Q x1 m else (if (m ((m 377 0) + 4) x1) = 8 then P_X7_heavy_49 Q x1 m else (if (m ((m 377 0) + 4) x1) = 9 then P_X7_heavy_49 Q x1 m else (if (m ((m 377 0) + 4) x1) = 5 then P_X7_heavy_75 Q (m ((m 377 0) + 6) (m ((m 377 0) + 2) x1)) m else (if (m ((m 377 0) + 4) x1) = 10 then P_X7_heavy_75 Q (m ((m 377 0) + 6) (m ((m 377 0) + 2) x1)) m else Q 1 m))))))
theorem pl_X7_heavy_49 {f : Nat} {Q : Int → MM → Prop} {T : MM → Prop} (hf : 4 ≤ f) : ∀ (x1 : Int) (m : MM), P_X7_heavy_49 Q x1 m → B f M_X7_heavy 49 [vR 377, vI x1, vU, vU] [] m Q T := by
  intro x1 m h
  have h : (isTx (m 377 0)) ∧ (0 ≤ x1 ∧ x1 < 160) ∧ P_X11_weight (m ((m 377 0) + 6) x1) m (fun r1 m1 => Q r1 m1) := h
  refine b_aload_n dX7_heavy_49 rfl ?_
  refine b_getM dX7_heavy_50 fk_X7_15 ly_377 ?_
  obtain ⟨g1, h⟩ := h
  refine b_getR dX7_heavy_53 fk_X7_38 (tx_ly0 g1) (tx_gg12 g1) ?_
  refine b_iload_n dX7_heavy_56 rfl ?_
  obtain ⟨g2, h⟩ := h
  refine b_iald dX7_heavy_57 (tx_ly6 g1) g2 ?_
  refine b_cSi (as := [vI (m ((m 377 0) + 6) x1)]) (st := []) dX7_heavy_58 mf_X11_weight lk_X7_56 (p_X11_weight (f := 3) (Nat.le_refl _) _ _ h) (by omega) rfl rfl (Nat.le_of_ble_eq_true rfl) (by decide) rfl (fun _ => rfl) (fun r1 m1 h => ?_) (fun _ h => h)
  refine b_goto 83 dX7_heavy_61 (by decide) ?_
  exact b_iret dX7_heavy_83 rfl h
theorem pl_X7_heavy_75 {f : Nat} {Q : Int → MM → Prop} {T : MM → Prop} (hf : 4 ≤ f) : ∀ (x3 : Int) (m : MM), P_X7_heavy_75 Q x3 m → B f M_X7_heavy 75 [vU, vU, vU, vI x3] [] m Q T := by
  intro x3 m h
  have h : P_X11_weight x3 m (fun r1 m1 => Q r1 m1) := h
  refine b_iload_n dX7_heavy_75 rfl ?_
  refine b_cSi (as := [vI x3]) (st := []) dX7_heavy_76 mf_X11_weight lk_X7_56 (p_X11_weight (f := 3) (Nat.le_refl _) _ _ h) (by omega) rfl rfl (Nat.le_of_ble_eq_true rfl) (by decide) rfl (fun _ => rfl) (fun r1 m1 h => ?_) (fun _ h => h)
  refine b_goto 83 dX7_heavy_79 (by decide) ?_
  exact b_iret dX7_heavy_83 rfl h
theorem p_X7_heavy {f : Nat} {Q : Int → MM → Prop} {T : MM → Prop} (hf : 4 ≤ f) (x1 : Int) (m : MM) (h : P_X7_heavy x1 m Q) : CC f M_X7_heavy [vR 377, vI x1] m Q T := by
  refine CC.of (plainFor_of_name (by decide)) (Nat.le_of_ble_eq_true rfl) (ls := [vR 377, vI x1, vU, vU]) rfl ?_
  have h : (isTx (m 377 0)) ∧ (0 ≤ x1 ∧ x1 < 160) ∧ (0 ≤ (m ((m 377 0) + 2) x1) ∧ (m ((m 377 0) + 2) x1) < 160) ∧ (RI (m ((m 377 0) + 4) x1)) ∧ (if (m ((m 377 0) + 4) x1) = 0 then P_X7_heavy_49 Q x1 m else (if (m ((m 377 0) + 4) x1) = 3 then P_X7_heavy_49 Q x1 m else (if (m ((m 377 0) + 4) x1) = 8 then P_X7_heavy_49 Q x1 m else (if (m ((m 377 0) + 4) x1) = 9 then P_X7_heavy_49 Q x1 m else (if (m ((m 377 0) + 4) x1) = 5 then P_X7_heavy_75 Q (m ((m 377 0) + 6) (m ((m 377 0) + 2) x1)) m else (if (m ((m 377 0) + 4) x1) = 10 then P_X7_heavy_75 Q (m ((m 377 0) + 6) (m ((m 377 0) + 2) x1)) m else Q 1 m)))))) := h
  refine b_aload_n dX7_heavy_0 rfl ?_
  refine b_getM dX7_heavy_1 fk_X7_15 ly_377 ?_
  obtain ⟨g1, h⟩ := h
  refine b_getR dX7_heavy_4 fk_X7_62 (tx_ly0 g1) (tx_gg10 g1) ?_
  refine b_iload_n dX7_heavy_7 rfl ?_
  obtain ⟨g2, h⟩ := h
  refine b_iald dX7_heavy_8 (tx_ly4 g1) g2 ?_
  refine b_istore_n (ls' := [vR 377, vI x1, vI (m ((m 377 0) + 4) x1), vU]) dX7_heavy_9 (Nat.le_of_ble_eq_true rfl) rfl ?_
  refine b_aload_n dX7_heavy_10 rfl ?_
  refine b_getM dX7_heavy_11 fk_X7_15 ly_377 ?_
  refine b_getR dX7_heavy_14 fk_X7_38 (tx_ly0 g1) (tx_gg12 g1) ?_
  refine b_aload_n dX7_heavy_17 rfl ?_
  refine b_getM dX7_heavy_18 fk_X7_15 ly_377 ?_
  refine b_getR dX7_heavy_21 fk_X7_86 (tx_ly0 g1) (tx_gg8 g1) ?_
  refine b_iload_n dX7_heavy_24 rfl ?_
  refine b_iald dX7_heavy_25 (tx_ly2 g1) g2 ?_
  obtain ⟨g3, h⟩ := h
  refine b_iald dX7_heavy_26 (tx_ly6 g1) g3 ?_
  refine b_istore_n (ls' := [vR 377, vI x1, vI (m ((m 377 0) + 4) x1), vI (m ((m 377 0) + 6) (m ((m 377 0) + 2) x1))]) dX7_heavy_27 (Nat.le_of_ble_eq_true rfl) rfl ?_
  refine b_iload_n dX7_heavy_28 rfl ?_
  obtain ⟨g4, h⟩ := h
  refine b_if_eq 49 dX7_heavy_29 g4 (by decide) (fun c1 => ?_) (fun c1 => ?_)
  · have h := ifT c1 h
    refine b_fgt [true, true, false, false] (ls' := [vR 377, vI x1, vU, vU]) rfl rfl ?_
    exact pl_X7_heavy_49 hf _ _ h
  · have h := ifF c1 h
    refine b_iload_n dX7_heavy_32 rfl ?_
    refine b_iconst dX7_heavy_33 ?_
    refine b_icmp_eq 49 dX7_heavy_34 g4 (by decide) (by decide) (fun c2 => ?_) (fun c2 => ?_)
    · have h := ifT c2 h
      refine b_fgt [true, true, false, false] (ls' := [vR 377, vI x1, vU, vU]) rfl rfl ?_
      exact pl_X7_heavy_49 hf _ _ h
    · have h := ifF c2 h
      refine b_iload_n dX7_heavy_37 rfl ?_
      refine b_bipush dX7_heavy_38 (by decide) ?_
      refine b_icmp_eq 49 dX7_heavy_40 g4 (by decide) (by decide) (fun c3 => ?_) (fun c3 => ?_)
      · have h := ifT c3 h
        refine b_fgt [true, true, false, false] (ls' := [vR 377, vI x1, vU, vU]) rfl rfl ?_
        exact pl_X7_heavy_49 hf _ _ h
      · have h := ifF c3 h
        refine b_iload_n dX7_heavy_43 rfl ?_
        refine b_bipush dX7_heavy_44 (by decide) ?_
        refine b_icmp_ne 64 dX7_heavy_46 g4 (by decide) (by decide) (fun c4 => ?_) (fun c4 => ?_)
        · have h := ifF c4 h
          refine b_iload_n dX7_heavy_64 rfl ?_
          refine b_iconst dX7_heavy_65 ?_
          refine b_icmp_eq 75 dX7_heavy_66 g4 (by decide) (by decide) (fun c5 => ?_) (fun c5 => ?_)
          · have h := ifT c5 h
            refine b_fgt [false, false, false, true] (ls' := [vU, vU, vU, vI (m ((m 377 0) + 6) (m ((m 377 0) + 2) x1))]) rfl rfl ?_
            exact pl_X7_heavy_75 hf _ _ h
          · have h := ifF c5 h
            refine b_iload_n dX7_heavy_69 rfl ?_
            refine b_bipush dX7_heavy_70 (by decide) ?_
            refine b_icmp_ne 82 dX7_heavy_72 g4 (by decide) (by decide) (fun c6 => ?_) (fun c6 => ?_)
            · have h := ifF c6 h
              refine b_iconst dX7_heavy_82 ?_
              exact b_iret dX7_heavy_83 rfl h
            · have h := ifT (Decidable.of_not_not c6) h
              refine b_fgt [false, false, false, true] (ls' := [vU, vU, vU, vI (m ((m 377 0) + 6) (m ((m 377 0) + 2) x1))]) rfl rfl ?_
              exact pl_X7_heavy_75 hf _ _ h
        · have h := ifT (Decidable.of_not_not c4) h
          refine b_fgt [true, true, false, false] (ls' := [vR 377, vI x1, vU, vU]) rfl rfl ?_
          exact pl_X7_heavy_49 hf _ _ h
theorem dX7_call_0 : decode cX7_call 0 = .ok (.aload_n 0, 1) := by decide +kernel
theorem dX7_call_1 : decode cX7_call 1 = .ok (.getfield 9, 3) := by decide +kernel
theorem dX7_call_4 : decode cX7_call 4 = .ok (.getfield 114, 3) := by decide +kernel
theorem dX7_call_7 : decode cX7_call 7 = .ok (.aload_n 0, 1) := by decide +kernel
theorem dX7_call_8 : decode cX7_call 8 = .ok (.getfield 15, 3) := by decide +kernel
theorem dX7_call_11 : decode cX7_call 11 = .ok (.getfield 77, 3) := by decide +kernel
theorem dX7_call_14 : decode cX7_call 14 = .ok (.iload_n 1, 1) := by decide +kernel
theorem dX7_call_15 : decode cX7_call 15 = .ok (.iaload, 1) := by decide +kernel
theorem dX7_call_16 : decode cX7_call 16 = .ok (.aaload, 1) := by decide +kernel
theorem dX7_call_17 : decode cX7_call 17 = .ok (.astore_n 2, 1) := by decide +kernel
theorem dX7_call_18 : decode cX7_call 18 = .ok (.iconst 1, 1) := by decide +kernel
theorem dX7_call_19 : decode cX7_call 19 = .ok (.istore_n 3, 1) := by decide +kernel
theorem dX7_call_20 : decode cX7_call 20 = .ok (.aload_n 0, 1) := by decide +kernel
theorem dX7_call_21 : decode cX7_call 21 = .ok (.getfield 15, 3) := by decide +kernel
theorem dX7_call_24 : decode cX7_call 24 = .ok (.getfield 120, 3) := by decide +kernel
theorem dX7_call_27 : decode cX7_call 27 = .ok (.iload_n 1, 1) := by decide +kernel
theorem dX7_call_28 : decode cX7_call 28 = .ok (.iaload, 1) := by decide +kernel
theorem dX7_call_29 : decode cX7_call 29 = .ok (.istore 4, 2) := by decide +kernel
theorem dX7_call_31 : decode cX7_call 31 = .ok (.aload_n 0, 1) := by decide +kernel
theorem dX7_call_32 : decode cX7_call 32 = .ok (.getfield 15, 3) := by decide +kernel
theorem dX7_call_35 : decode cX7_call 35 = .ok (.getfield 86, 3) := by decide +kernel
theorem dX7_call_38 : decode cX7_call 38 = .ok (.iload_n 1, 1) := by decide +kernel
theorem dX7_call_39 : decode cX7_call 39 = .ok (.iaload, 1) := by decide +kernel
theorem dX7_call_40 : decode cX7_call 40 = .ok (.istore 5, 2) := by decide +kernel
theorem dX7_call_42 : decode cX7_call 42 = .ok (.iload 5, 2) := by decide +kernel
theorem dX7_call_44 : decode cX7_call 44 = .ok (.iconst (-1), 1) := by decide +kernel
theorem dX7_call_45 : decode cX7_call 45 = .ok (.if_icmp .eq 34, 3) := by decide +kernel
theorem dX7_call_48 : decode cX7_call 48 = .ok (.aload_n 0, 1) := by decide +kernel
theorem dX7_call_49 : decode cX7_call 49 = .ok (.iload 5, 2) := by decide +kernel
theorem dX7_call_51 : decode cX7_call 51 = .ok (.aload_n 2, 1) := by decide +kernel
theorem dX7_call_52 : decode cX7_call 52 = .ok (.iload_n 3, 1) := by decide +kernel
theorem dX7_call_53 : decode cX7_call 53 = .ok (.iload 4, 2) := by decide +kernel
theorem dX7_call_55 : decode cX7_call 55 = .ok (.invokestatic 123, 3) := by decide +kernel
theorem dX7_call_58 : decode cX7_call 58 = .ok (.invokevirtual 91, 3) := by decide +kernel
theorem dX7_call_61 : decode cX7_call 61 = .ok (.iinc 3 1, 3) := by decide +kernel
theorem dX7_call_64 : decode cX7_call 64 = .ok (.aload_n 0, 1) := by decide +kernel
theorem dX7_call_65 : decode cX7_call 65 = .ok (.getfield 15, 3) := by decide +kernel
theorem dX7_call_68 : decode cX7_call 68 = .ok (.getfield 93, 3) := by decide +kernel
theorem dX7_call_71 : decode cX7_call 71 = .ok (.iload 5, 2) := by decide +kernel
theorem dX7_call_73 : decode cX7_call 73 = .ok (.iaload, 1) := by decide +kernel
theorem dX7_call_74 : decode cX7_call 74 = .ok (.istore 5, 2) := by decide +kernel
theorem dX7_call_76 : decode cX7_call 76 = .ok (.goto (-34), 3) := by decide +kernel
theorem dX7_call_79 : decode cX7_call 79 = .ok (.aload_n 0, 1) := by decide +kernel
theorem dX7_call_80 : decode cX7_call 80 = .ok (.bipush 8, 2) := by decide +kernel
theorem dX7_call_82 : decode cX7_call 82 = .ok (.aload_n 0, 1) := by decide +kernel
theorem dX7_call_83 : decode cX7_call 83 = .ok (.getfield 15, 3) := by decide +kernel
theorem dX7_call_86 : decode cX7_call 86 = .ok (.getfield 77, 3) := by decide +kernel
theorem dX7_call_89 : decode cX7_call 89 = .ok (.iload_n 1, 1) := by decide +kernel
theorem dX7_call_90 : decode cX7_call 90 = .ok (.iaload, 1) := by decide +kernel
theorem dX7_call_91 : decode cX7_call 91 = .ok (.iload 4, 2) := by decide +kernel
theorem dX7_call_93 : decode cX7_call 93 = .ok (.invokevirtual 50, 3) := by decide +kernel
theorem dX7_call_96 : decode cX7_call 96 = .ok (.return_, 1) := by decide +kernel
/-! AlgebraHouse$Coder.call(I)V -/
def P_X7_call_79 (rec : Nat → List Int → MM → (Int → MM → Prop) → (MM → Prop) → Prop) (Q : Int → MM → Prop) (T : MM → Prop) (x1 : Int) (x4 : Int) (m : MM) : Prop := (isTx (m 377 0)) ∧ (0 ≤ x1 ∧ x1 < 160) ∧ P_X7_add 8 (m ((m 377 0) + 7) x1) x4 m (fun r1 m1 => Q 0 m1)
def P_X7_call_42 (rec : Nat → List Int → MM → (Int → MM → Prop) → (MM → Prop) → Prop) (Q : Int → MM → Prop) (T : MM → Prop) : Nat → Int → Int → Int → Int → Int → MM → Prop
  | 0, _, _, _, _, _, _ => False
  | n + 1, x1, x2, x3, x4, x5, m => (RI x5) ∧ (if x5 = (-1) then P_X7_call_79 rec Q T x1 x4 m else P_X1_ring x2 x3 x4 m (fun r1 m1 => rec 4 [x5, r1] m1 (fun r2 m2 => (isTx (m2 377 0)) ∧ (0 ≤ x5 ∧ x5 < 160) ∧ P_X7_call_42 rec Q T n x1 x2 (x3 + 1) x4 (m2 ((m2 377 0) + 3) x5) m2) T))
def W_X7_call (rec : Nat → List Int → MM → (Int → MM → Prop) → (MM → Prop) → Prop) (x1 : Int) (m : MM) (Q : Int → MM → Prop) (T : MM → Prop) : Prop := (m 377 2 = 3) ∧ (isTx (m 377 0)) ∧ (0 ≤ x1 ∧ x1 < 160) ∧ (0 ≤ (m ((m 377 0) + 7) x1) ∧ (m ((m 377 0) + 7) x1) < 21) ∧ ∃ nn, P_X7_call_42 rec Q T nn x1 (8 + 17 * (m ((m 377 0) + 7) x1)) 1 (m ((m 377 0) + 8) x1) (m ((m 377 0) + 2) x1) m
theorem dX7_choice_0 : decode cX7_choice 0 = .ok (.aload_n 0, 1) := by decide +kernel
theorem dX7_choice_1 : decode cX7_choice 1 = .ok (.aload_n 0, 1) := by decide +kernel
theorem dX7_choice_2 : decode cX7_choice 2 = .ok (.getfield 15, 3) := by decide +kernel
theorem dX7_choice_5 : decode cX7_choice 5 = .ok (.getfield 86, 3) := by decide +kernel
theorem dX7_choice_8 : decode cX7_choice 8 = .ok (.iload_n 1, 1) := by decide +kernel
theorem dX7_choice_9 : decode cX7_choice 9 = .ok (.iaload, 1) := by decide +kernel
theorem dX7_choice_10 : decode cX7_choice 10 = .ok (.invokevirtual 34, 3) := by decide +kernel
theorem dX7_choice_13 : decode cX7_choice 13 = .ok (.aload_n 0, 1) := by decide +kernel
theorem dX7_choice_14 : decode cX7_choice 14 = .ok (.getfield 19, 3) := by decide +kernel
theorem dX7_choice_17 : decode cX7_choice 17 = .ok (.bipush 11, 2) := by decide +kernel
theorem dX7_choice_19 : decode cX7_choice 19 = .ok (.iconst 0, 1) := by decide +kernel
theorem dX7_choice_20 : decode cX7_choice 20 = .ok (.iconst 0, 1) := by decide +kernel
theorem dX7_choice_21 : decode cX7_choice 21 = .ok (.invokevirtual 46, 3) := by decide +kernel
theorem dX7_choice_24 : decode cX7_choice 24 = .ok (.istore_n 2, 1) := by decide +kernel
theorem dX7_choice_25 : decode cX7_choice 25 = .ok (.aload_n 0, 1) := by decide +kernel
theorem dX7_choice_26 : decode cX7_choice 26 = .ok (.aload_n 0, 1) := by decide +kernel
theorem dX7_choice_27 : decode cX7_choice 27 = .ok (.getfield 15, 3) := by decide +kernel
theorem dX7_choice_30 : decode cX7_choice 30 = .ok (.iload_n 1, 1) := by decide +kernel
theorem dX7_choice_31 : decode cX7_choice 31 = .ok (.invokevirtual 99, 3) := by decide +kernel
theorem dX7_choice_34 : decode cX7_choice 34 = .ok (.aload_n 0, 1) := by decide +kernel
theorem dX7_choice_35 : decode cX7_choice 35 = .ok (.getfield 15, 3) := by decide +kernel
theorem dX7_choice_38 : decode cX7_choice 38 = .ok (.getfield 38, 3) := by decide +kernel
theorem dX7_choice_41 : decode cX7_choice 41 = .ok (.iload_n 1, 1) := by decide +kernel
theorem dX7_choice_42 : decode cX7_choice 42 = .ok (.iaload, 1) := by decide +kernel
theorem dX7_choice_43 : decode cX7_choice 43 = .ok (.invokevirtual 91, 3) := by decide +kernel
theorem dX7_choice_46 : decode cX7_choice 46 = .ok (.aload_n 0, 1) := by decide +kernel
theorem dX7_choice_47 : decode cX7_choice 47 = .ok (.getfield 19, 3) := by decide +kernel
theorem dX7_choice_50 : decode cX7_choice 50 = .ok (.bipush 10, 2) := by decide +kernel
theorem dX7_choice_52 : decode cX7_choice 52 = .ok (.iconst 0, 1) := by decide +kernel
theorem dX7_choice_53 : decode cX7_choice 53 = .ok (.iconst 0, 1) := by decide +kernel
theorem dX7_choice_54 : decode cX7_choice 54 = .ok (.invokevirtual 46, 3) := by decide +kernel
theorem dX7_choice_57 : decode cX7_choice 57 = .ok (.istore_n 3, 1) := by decide +kernel
theorem dX7_choice_58 : decode cX7_choice 58 = .ok (.aload_n 0, 1) := by decide +kernel
theorem dX7_choice_59 : decode cX7_choice 59 = .ok (.getfield 19, 3) := by decide +kernel
theorem dX7_choice_62 : decode cX7_choice 62 = .ok (.getfield 102, 3) := by decide +kernel
theorem dX7_choice_65 : decode cX7_choice 65 = .ok (.iload_n 2, 1) := by decide +kernel
theorem dX7_choice_66 : decode cX7_choice 66 = .ok (.aload_n 0, 1) := by decide +kernel
theorem dX7_choice_67 : decode cX7_choice 67 = .ok (.getfield 19, 3) := by decide +kernel
theorem dX7_choice_70 : decode cX7_choice 70 = .ok (.getfield 23, 3) := by decide +kernel
theorem dX7_choice_73 : decode cX7_choice 73 = .ok (.iastore, 1) := by decide +kernel
theorem dX7_choice_74 : decode cX7_choice 74 = .ok (.aload_n 0, 1) := by decide +kernel
theorem dX7_choice_75 : decode cX7_choice 75 = .ok (.aload_n 0, 1) := by decide +kernel
theorem dX7_choice_76 : decode cX7_choice 76 = .ok (.getfield 15, 3) := by decide +kernel
theorem dX7_choice_79 : decode cX7_choice 79 = .ok (.iload_n 1, 1) := by decide +kernel
theorem dX7_choice_80 : decode cX7_choice 80 = .ok (.invokevirtual 111, 3) := by decide +kernel
theorem dX7_choice_83 : decode cX7_choice 83 = .ok (.aload_n 0, 1) := by decide +kernel
theorem dX7_choice_84 : decode cX7_choice 84 = .ok (.getfield 15, 3) := by decide +kernel
theorem dX7_choice_87 : decode cX7_choice 87 = .ok (.getfield 38, 3) := by decide +kernel
theorem dX7_choice_90 : decode cX7_choice 90 = .ok (.iload_n 1, 1) := by decide +kernel
theorem dX7_choice_91 : decode cX7_choice 91 = .ok (.iaload, 1) := by decide +kernel
theorem dX7_choice_92 : decode cX7_choice 92 = .ok (.invokevirtual 91, 3) := by decide +kernel
theorem dX7_choice_95 : decode cX7_choice 95 = .ok (.aload_n 0, 1) := by decide +kernel
theorem dX7_choice_96 : decode cX7_choice 96 = .ok (.getfield 19, 3) := by decide +kernel
theorem dX7_choice_99 : decode cX7_choice 99 = .ok (.getfield 102, 3) := by decide +kernel
theorem dX7_choice_102 : decode cX7_choice 102 = .ok (.iload_n 3, 1) := by decide +kernel
theorem dX7_choice_103 : decode cX7_choice 103 = .ok (.aload_n 0, 1) := by decide +kernel
theorem dX7_choice_104 : decode cX7_choice 104 = .ok (.getfield 19, 3) := by decide +kernel
theorem dX7_choice_107 : decode cX7_choice 107 = .ok (.getfield 23, 3) := by decide +kernel
theorem dX7_choice_110 : decode cX7_choice 110 = .ok (.iastore, 1) := by decide +kernel
theorem dX7_choice_111 : decode cX7_choice 111 = .ok (.return_, 1) := by decide +kernel
/-! AlgebraHouse$Coder.choice(I)V -/
def W_X7_choice (rec : Nat → List Int → MM → (Int → MM → Prop) → (MM → Prop) → Prop) (x1 : Int) (m : MM) (Q : Int → MM → Prop) (T : MM → Prop) : Prop := (isTx (m 377 0)) ∧ (0 ≤ x1 ∧ x1 < 160) ∧ rec 3 [(m ((m 377 0) + 2) x1)] m (fun r1 m1 => (isCd (m1 377 1)) ∧ P_X9_add (m1 377 1) 11 0 0 m1 (fun r2 m2 => (isTx (m2 377 0)) ∧ P_X2_second (m2 377 0) x1 m2 (fun r3 m3 => (isTx (m3 377 0)) ∧ rec 4 [r3, (m3 ((m3 377 0) + 6) x1)] m3 (fun r4 m4 => (isCd (m4 377 1)) ∧ P_X9_add (m4 377 1) 10 0 0 m4 (fun r5 m5 => (isCd (m5 377 1)) ∧ (0 ≤ r2 ∧ r2 < 1200) ∧ ∀ m6 : MM, m6 = up m5 ((m5 377 1) + 2) r2 (m5 (m5 377 1) 3) → (isTx (m6 377 0)) ∧ P_X2_third (m6 377 0) x1 m6 (fun r6 m7 => (isTx (m7 377 0)) ∧ rec 4 [r6, (m7 ((m7 377 0) + 6) x1)] m7 (fun r7 m8 => (isCd (m8 377 1)) ∧ (0 ≤ r5 ∧ r5 < 1200) ∧ ∀ m9 : MM, m9 = up m8 ((m8 377 1) + 2) r5 (m8 (m8 377 1) 3) → Q 0 m9) T))) T))) T
theorem dX7_function_0 : decode cX7_function 0 = .ok (.aload_n 0, 1) := by decide +kernel
theorem dX7_function_1 : decode cX7_function 1 = .ok (.getfield 15, 3) := by decide +kernel
theorem dX7_function_4 : decode cX7_function 4 = .ok (.getfield 62, 3) := by decide +kernel
theorem dX7_function_7 : decode cX7_function 7 = .ok (.iload_n 1, 1) := by decide +kernel
theorem dX7_function_8 : decode cX7_function 8 = .ok (.iaload, 1) := by decide +kernel
theorem dX7_function_9 : decode cX7_function 9 = .ok (.istore_n 2, 1) := by decide +kernel
theorem dX7_function_10 : decode cX7_function 10 = .ok (.aload_n 0, 1) := by decide +kernel
theorem dX7_function_11 : decode cX7_function 11 = .ok (.getfield 15, 3) := by decide +kernel
theorem dX7_function_14 : decode cX7_function 14 = .ok (.getfield 86, 3) := by decide +kernel
theorem dX7_function_17 : decode cX7_function 17 = .ok (.iload_n 1, 1) := by decide +kernel
theorem dX7_function_18 : decode cX7_function 18 = .ok (.iaload, 1) := by decide +kernel
theorem dX7_function_19 : decode cX7_function 19 = .ok (.istore_n 3, 1) := by decide +kernel
theorem dX7_function_20 : decode cX7_function 20 = .ok (.aload_n 0, 1) := by decide +kernel
theorem dX7_function_21 : decode cX7_function 21 = .ok (.getfield 15, 3) := by decide +kernel
theorem dX7_function_24 : decode cX7_function 24 = .ok (.getfield 38, 3) := by decide +kernel
theorem dX7_function_27 : decode cX7_function 27 = .ok (.iload_n 3, 1) := by decide +kernel
theorem dX7_function_28 : decode cX7_function 28 = .ok (.iaload, 1) := by decide +kernel
theorem dX7_function_29 : decode cX7_function 29 = .ok (.istore 4, 2) := by decide +kernel
theorem dX7_function_31 : decode cX7_function 31 = .ok (.aload_n 0, 1) := by decide +kernel
theorem dX7_function_32 : decode cX7_function 32 = .ok (.getfield 15, 3) := by decide +kernel
theorem dX7_function_35 : decode cX7_function 35 = .ok (.getfield 38, 3) := by decide +kernel
theorem dX7_function_38 : decode cX7_function 38 = .ok (.iload_n 1, 1) := by decide +kernel
theorem dX7_function_39 : decode cX7_function 39 = .ok (.iaload, 1) := by decide +kernel
theorem dX7_function_40 : decode cX7_function 40 = .ok (.istore 5, 2) := by decide +kernel
theorem dX7_function_42 : decode cX7_function 42 = .ok (.iload_n 2, 1) := by decide +kernel
theorem dX7_function_43 : decode cX7_function 43 = .ok (.ifCond .ne 28, 3) := by decide +kernel
theorem dX7_function_46 : decode cX7_function 46 = .ok (.aload_n 0, 1) := by decide +kernel
theorem dX7_function_47 : decode cX7_function 47 = .ok (.iload_n 3, 1) := by decide +kernel
theorem dX7_function_48 : decode cX7_function 48 = .ok (.iload 5, 2) := by decide +kernel
theorem dX7_function_50 : decode cX7_function 50 = .ok (.invokevirtual 91, 3) := by decide +kernel
theorem dX7_function_53 : decode cX7_function 53 = .ok (.aload_n 0, 1) := by decide +kernel
theorem dX7_function_54 : decode cX7_function 54 = .ok (.aload_n 0, 1) := by decide +kernel
theorem dX7_function_55 : decode cX7_function 55 = .ok (.getfield 15, 3) := by decide +kernel
theorem dX7_function_58 : decode cX7_function 58 = .ok (.getfield 93, 3) := by decide +kernel
theorem dX7_function_61 : decode cX7_function 61 = .ok (.iload_n 3, 1) := by decide +kernel
theorem dX7_function_62 : decode cX7_function 62 = .ok (.iaload, 1) := by decide +kernel
theorem dX7_function_63 : decode cX7_function 63 = .ok (.iload 5, 2) := by decide +kernel
theorem dX7_function_65 : decode cX7_function 65 = .ok (.invokevirtual 91, 3) := by decide +kernel
theorem dX7_function_68 : decode cX7_function 68 = .ok (.goto 83, 3) := by decide +kernel
theorem dX7_function_71 : decode cX7_function 71 = .ok (.iload_n 2, 1) := by decide +kernel
theorem dX7_function_72 : decode cX7_function 72 = .ok (.iconst 3, 1) := by decide +kernel
theorem dX7_function_73 : decode cX7_function 73 = .ok (.if_icmp .ne 26, 3) := by decide +kernel
theorem dX7_function_76 : decode cX7_function 76 = .ok (.aload_n 0, 1) := by decide +kernel
theorem dX7_function_77 : decode cX7_function 77 = .ok (.iload_n 3, 1) := by decide +kernel
theorem dX7_function_78 : decode cX7_function 78 = .ok (.invokevirtual 34, 3) := by decide +kernel
theorem dX7_function_81 : decode cX7_function 81 = .ok (.aload_n 0, 1) := by decide +kernel
theorem dX7_function_82 : decode cX7_function 82 = .ok (.aload_n 0, 1) := by decide +kernel
theorem dX7_function_83 : decode cX7_function 83 = .ok (.getfield 15, 3) := by decide +kernel
theorem dX7_function_86 : decode cX7_function 86 = .ok (.getfield 93, 3) := by decide +kernel
theorem dX7_function_89 : decode cX7_function 89 = .ok (.iload_n 3, 1) := by decide +kernel
theorem dX7_function_90 : decode cX7_function 90 = .ok (.iaload, 1) := by decide +kernel
theorem dX7_function_91 : decode cX7_function 91 = .ok (.iload 5, 2) := by decide +kernel
theorem dX7_function_93 : decode cX7_function 93 = .ok (.invokevirtual 91, 3) := by decide +kernel
theorem dX7_function_96 : decode cX7_function 96 = .ok (.goto 55, 3) := by decide +kernel
theorem dX7_function_99 : decode cX7_function 99 = .ok (.iload_n 2, 1) := by decide +kernel
theorem dX7_function_100 : decode cX7_function 100 = .ok (.bipush 9, 2) := by decide +kernel
theorem dX7_function_102 : decode cX7_function 102 = .ok (.if_icmp .eq 9, 3) := by decide +kernel
theorem dX7_function_105 : decode cX7_function 105 = .ok (.iload_n 2, 1) := by decide +kernel
theorem dX7_function_106 : decode cX7_function 106 = .ok (.bipush 11, 2) := by decide +kernel
theorem dX7_function_108 : decode cX7_function 108 = .ok (.if_icmp .le 20, 3) := by decide +kernel
theorem dX7_function_111 : decode cX7_function 111 = .ok (.iload 4, 2) := by decide +kernel
theorem dX7_function_113 : decode cX7_function 113 = .ok (.invokestatic 126, 3) := by decide +kernel
theorem dX7_function_116 : decode cX7_function 116 = .ok (.istore 4, 2) := by decide +kernel
theorem dX7_function_118 : decode cX7_function 118 = .ok (.aload_n 0, 1) := by decide +kernel
theorem dX7_function_119 : decode cX7_function 119 = .ok (.iload_n 3, 1) := by decide +kernel
theorem dX7_function_120 : decode cX7_function 120 = .ok (.iload 4, 2) := by decide +kernel
theorem dX7_function_122 : decode cX7_function 122 = .ok (.invokevirtual 91, 3) := by decide +kernel
theorem dX7_function_125 : decode cX7_function 125 = .ok (.goto 26, 3) := by decide +kernel
theorem dX7_function_128 : decode cX7_function 128 = .ok (.aload_n 0, 1) := by decide +kernel
theorem dX7_function_129 : decode cX7_function 129 = .ok (.iload_n 3, 1) := by decide +kernel
theorem dX7_function_130 : decode cX7_function 130 = .ok (.invokevirtual 34, 3) := by decide +kernel
theorem dX7_function_133 : decode cX7_function 133 = .ok (.iload_n 2, 1) := by decide +kernel
theorem dX7_function_134 : decode cX7_function 134 = .ok (.iconst 2, 1) := by decide +kernel
theorem dX7_function_135 : decode cX7_function 135 = .ok (.if_icmp .ne 16, 3) := by decide +kernel
theorem dX7_function_138 : decode cX7_function 138 = .ok (.aload_n 0, 1) := by decide +kernel
theorem dX7_function_139 : decode cX7_function 139 = .ok (.aload_n 0, 1) := by decide +kernel
theorem dX7_function_140 : decode cX7_function 140 = .ok (.getfield 15, 3) := by decide +kernel
theorem dX7_function_143 : decode cX7_function 143 = .ok (.getfield 93, 3) := by decide +kernel
theorem dX7_function_146 : decode cX7_function 146 = .ok (.iload_n 3, 1) := by decide +kernel
theorem dX7_function_147 : decode cX7_function 147 = .ok (.iaload, 1) := by decide +kernel
theorem dX7_function_148 : decode cX7_function 148 = .ok (.invokevirtual 34, 3) := by decide +kernel
theorem dX7_function_151 : decode cX7_function 151 = .ok (.aload_n 0, 1) := by decide +kernel
theorem dX7_function_152 : decode cX7_function 152 = .ok (.bipush 28, 2) := by decide +kernel
theorem dX7_function_154 : decode cX7_function 154 = .ok (.iload_n 2, 1) := by decide +kernel
theorem dX7_function_155 : decode cX7_function 155 = .ok (.iadd, 1) := by decide +kernel
theorem dX7_function_156 : decode cX7_function 156 = .ok (.iload 4, 2) := by decide +kernel
theorem dX7_function_158 : decode cX7_function 158 = .ok (.iload 5, 2) := by decide +kernel
theorem dX7_function_160 : decode cX7_function 160 = .ok (.invokevirtual 50, 3) := by decide +kernel
theorem dX7_function_163 : decode cX7_function 163 = .ok (.return_, 1) := by decide +kernel
/-! AlgebraHouse$Coder.function(I)V -/
def P_X7_function_151 (rec : Nat → List Int → MM → (Int → MM → Prop) → (MM → Prop) → Prop) (Q : Int → MM → Prop) (T : MM → Prop) (x2 : Int) (x4 : Int) (x5 : Int) (m : MM) : Prop := P_X7_add (28 + x2) x4 x5 m (fun r1 m1 => Q 0 m1)
def P_X7_function_111 (rec : Nat → List Int → MM → (Int → MM → Prop) → (MM → Prop) → Prop) (Q : Int → MM → Prop) (T : MM → Prop) (x2 : Int) (x3 : Int) (x4 : Int) (x5 : Int) (m : MM) : Prop := P_X11_fraction x4 m (fun r1 m1 => rec 4 [x3, r1] m1 (fun r2 m2 => P_X7_function_151 rec Q T x2 r1 x5 m2) T)
def W_X7_function (rec : Nat → List Int → MM → (Int → MM → Prop) → (MM → Prop) → Prop) (x1 : Int) (m : MM) (Q : Int → MM → Prop) (T : MM → Prop) : Prop := (isTx (m 377 0)) ∧ (0 ≤ x1 ∧ x1 < 160) ∧ (0 ≤ (m ((m 377 0) + 2) x1) ∧ (m ((m 377 0) + 2) x1) < 160) ∧ (RI (m ((m 377 0) + 4) x1)) ∧ (if (m ((m 377 0) + 4) x1) = 0 then rec 4 [(m ((m 377 0) + 2) x1), (m ((m 377 0) + 6) x1)] m (fun r5 m5 => (isTx (m5 377 0)) ∧ rec 4 [(m5 ((m5 377 0) + 3) (m ((m 377 0) + 2) x1)), (m ((m 377 0) + 6) x1)] m5 (fun r6 m6 => P_X7_function_151 rec Q T (m ((m 377 0) + 4) x1) (m ((m 377 0) + 6) (m ((m 377 0) + 2) x1)) (m ((m 377 0) + 6) x1) m6) T) T else (if (m ((m 377 0) + 4) x1) = 3 then rec 3 [(m ((m 377 0) + 2) x1)] m (fun r3 m3 => (isTx (m3 377 0)) ∧ rec 4 [(m3 ((m3 377 0) + 3) (m ((m 377 0) + 2) x1)), (m ((m 377 0) + 6) x1)] m3 (fun r4 m4 => P_X7_function_151 rec Q T (m ((m 377 0) + 4) x1) (m ((m 377 0) + 6) (m ((m 377 0) + 2) x1)) (m ((m 377 0) + 6) x1) m4) T) T else (if (m ((m 377 0) + 4) x1) = 9 then P_X7_function_111 rec Q T (m ((m 377 0) + 4) x1) (m ((m 377 0) + 2) x1) (m ((m 377 0) + 6) (m ((m 377 0) + 2) x1)) (m ((m 377 0) + 6) x1) m else (if (m ((m 377 0) + 4) x1) ≤ 11 then rec 3 [(m ((m 377 0) + 2) x1)] m (fun r1 m1 => (if (m ((m 377 0) + 4) x1) = 2 then (isTx (m1 377 0)) ∧ rec 3 [(m1 ((m1 377 0) + 3) (m ((m 377 0) + 2) x1))] m1 (fun r2 m2 => P_X7_function_151 rec Q T (m ((m 377 0) + 4) x1) (m ((m 377 0) + 6) (m ((m 377 0) + 2) x1)) (m ((m 377 0) + 6) x1) m2) T else P_X7_function_151 rec Q T (m ((m 377 0) + 4) x1) (m ((m 377 0) + 6) (m ((m 377 0) + 2) x1)) (m ((m 377 0) + 6) x1) m1)) T else P_X7_function_111 rec Q T (m ((m 377 0) + 4) x1) (m ((m 377 0) + 2) x1) (m ((m 377 0) + 6) (m ((m 377 0) + 2) x1)) (m ((m 377 0) + 6) x1) m))))
theorem dX7_part_0 : decode cX7_part 0 = .ok (.aload_n 0, 1) := by decide +kernel
theorem dX7_part_1 : decode cX7_part 1 = .ok (.getfield 15, 3) := by decide +kernel
theorem dX7_part_4 : decode cX7_part 4 = .ok (.getfield 53, 3) := by decide +kernel
theorem dX7_part_7 : decode cX7_part 7 = .ok (.iload_n 1, 1) := by decide +kernel
theorem dX7_part_8 : decode cX7_part 8 = .ok (.iaload, 1) := by decide +kernel
theorem dX7_part_9 : decode cX7_part 9 = .ok (.istore_n 2, 1) := by decide +kernel
theorem dX7_part_10 : decode cX7_part 10 = .ok (.aload_n 0, 1) := by decide +kernel
theorem dX7_part_11 : decode cX7_part 11 = .ok (.getfield 15, 3) := by decide +kernel
theorem dX7_part_14 : decode cX7_part 14 = .ok (.getfield 38, 3) := by decide +kernel
theorem dX7_part_17 : decode cX7_part 17 = .ok (.iload_n 1, 1) := by decide +kernel
theorem dX7_part_18 : decode cX7_part 18 = .ok (.iaload, 1) := by decide +kernel
theorem dX7_part_19 : decode cX7_part 19 = .ok (.istore_n 3, 1) := by decide +kernel
theorem dX7_part_20 : decode cX7_part 20 = .ok (.iload_n 2, 1) := by decide +kernel
theorem dX7_part_21 : decode cX7_part 21 = .ok (.bipush 18, 2) := by decide +kernel
theorem dX7_part_23 : decode cX7_part 23 = .ok (.if_icmp .eq 15, 3) := by decide +kernel
theorem dX7_part_26 : decode cX7_part 26 = .ok (.iload_n 2, 1) := by decide +kernel
theorem dX7_part_27 : decode cX7_part 27 = .ok (.bipush 20, 2) := by decide +kernel
theorem dX7_part_29 : decode cX7_part 29 = .ok (.if_icmp .eq 9, 3) := by decide +kernel
theorem dX7_part_32 : decode cX7_part 32 = .ok (.iload_n 2, 1) := by decide +kernel
theorem dX7_part_33 : decode cX7_part 33 = .ok (.bipush 21, 2) := by decide +kernel
theorem dX7_part_35 : decode cX7_part 35 = .ok (.if_icmp .ne 10, 3) := by decide +kernel
theorem dX7_part_38 : decode cX7_part 38 = .ok (.iload_n 3, 1) := by decide +kernel
theorem dX7_part_39 : decode cX7_part 39 = .ok (.invokestatic 56, 3) := by decide +kernel
theorem dX7_part_42 : decode cX7_part 42 = .ok (.goto 45, 3) := by decide +kernel
theorem dX7_part_45 : decode cX7_part 45 = .ok (.iload_n 2, 1) := by decide +kernel
theorem dX7_part_46 : decode cX7_part 46 = .ok (.bipush 23, 2) := by decide +kernel
theorem dX7_part_48 : decode cX7_part 48 = .ok (.if_icmp .ne 24, 3) := by decide +kernel
theorem dX7_part_51 : decode cX7_part 51 = .ok (.iload_n 3, 1) := by decide +kernel
theorem dX7_part_52 : decode cX7_part 52 = .ok (.invokestatic 56, 3) := by decide +kernel
theorem dX7_part_55 : decode cX7_part 55 = .ok (.iconst 1, 1) := by decide +kernel
theorem dX7_part_56 : decode cX7_part 56 = .ok (.aload_n 0, 1) := by decide +kernel
theorem dX7_part_57 : decode cX7_part 57 = .ok (.getfield 15, 3) := by decide +kernel
theorem dX7_part_60 : decode cX7_part 60 = .ok (.getfield 62, 3) := by decide +kernel
theorem dX7_part_63 : decode cX7_part 63 = .ok (.iload_n 1, 1) := by decide +kernel
theorem dX7_part_64 : decode cX7_part 64 = .ok (.iaload, 1) := by decide +kernel
theorem dX7_part_65 : decode cX7_part 65 = .ok (.invokestatic 65, 3) := by decide +kernel
theorem dX7_part_68 : decode cX7_part 68 = .ok (.imul, 1) := by decide +kernel
theorem dX7_part_69 : decode cX7_part 69 = .ok (.goto 18, 3) := by decide +kernel
theorem dX7_part_72 : decode cX7_part 72 = .ok (.iload_n 2, 1) := by decide +kernel
theorem dX7_part_73 : decode cX7_part 73 = .ok (.bipush 6, 2) := by decide +kernel
theorem dX7_part_75 : decode cX7_part 75 = .ok (.if_icmp .ne 11, 3) := by decide +kernel
theorem dX7_part_78 : decode cX7_part 78 = .ok (.aload_n 0, 1) := by decide +kernel
theorem dX7_part_79 : decode cX7_part 79 = .ok (.iload_n 1, 1) := by decide +kernel
theorem dX7_part_80 : decode cX7_part 80 = .ok (.invokevirtual 71, 3) := by decide +kernel
theorem dX7_part_83 : decode cX7_part 83 = .ok (.goto 4, 3) := by decide +kernel
theorem dX7_part_86 : decode cX7_part 86 = .ok (.iconst 1, 1) := by decide +kernel
theorem dX7_part_87 : decode cX7_part 87 = .ok (.istore 4, 2) := by decide +kernel
theorem dX7_part_89 : decode cX7_part 89 = .ok (.aload_n 0, 1) := by decide +kernel
theorem dX7_part_90 : decode cX7_part 90 = .ok (.iconst 0, 1) := by decide +kernel
theorem dX7_part_91 : decode cX7_part 91 = .ok (.iload 4, 2) := by decide +kernel
theorem dX7_part_93 : decode cX7_part 93 = .ok (.iconst 0, 1) := by decide +kernel
theorem dX7_part_94 : decode cX7_part 94 = .ok (.invokevirtual 50, 3) := by decide +kernel
theorem dX7_part_97 : decode cX7_part 97 = .ok (.iload_n 2, 1) := by decide +kernel
theorem dX7_part_98 : decode cX7_part 98 = .ok (.tableswitch 476 0 25 #[118, 136, 136, 155, 173, 206, 214, 222, 275, 283, 283, 352, 476, 476, 476, 476, 476, 476, 476, 476, 476, 476, 352, 387, 419, 436], 118) := by decide +kernel
theorem dX7_part_216 : decode cX7_part 216 = .ok (.aload_n 0, 1) := by decide +kernel
theorem dX7_part_217 : decode cX7_part 217 = .ok (.iconst 1, 1) := by decide +kernel
theorem dX7_part_218 : decode cX7_part 218 = .ok (.aload_n 0, 1) := by decide +kernel
theorem dX7_part_219 : decode cX7_part 219 = .ok (.getfield 15, 3) := by decide +kernel
theorem dX7_part_222 : decode cX7_part 222 = .ok (.getfield 62, 3) := by decide +kernel
theorem dX7_part_225 : decode cX7_part 225 = .ok (.iload_n 1, 1) := by decide +kernel
theorem dX7_part_226 : decode cX7_part 226 = .ok (.iaload, 1) := by decide +kernel
theorem dX7_part_227 : decode cX7_part 227 = .ok (.iconst 0, 1) := by decide +kernel
theorem dX7_part_228 : decode cX7_part 228 = .ok (.invokevirtual 50, 3) := by decide +kernel
theorem dX7_part_231 : decode cX7_part 231 = .ok (.goto 349, 3) := by decide +kernel
theorem dX7_part_234 : decode cX7_part 234 = .ok (.aload_n 0, 1) := by decide +kernel
theorem dX7_part_235 : decode cX7_part 235 = .ok (.iconst 2, 1) := by decide +kernel
theorem dX7_part_236 : decode cX7_part 236 = .ok (.iload_n 2, 1) := by decide +kernel
theorem dX7_part_237 : decode cX7_part 237 = .ok (.iconst 1, 1) := by decide +kernel
theorem dX7_part_238 : decode cX7_part 238 = .ok (.if_icmp .ne 7, 3) := by decide +kernel
theorem dX7_part_241 : decode cX7_part 241 = .ok (.iconst 1, 1) := by decide +kernel
theorem dX7_part_242 : decode cX7_part 242 = .ok (.goto 4, 3) := by decide +kernel
theorem dX7_part_245 : decode cX7_part 245 = .ok (.iconst 2, 1) := by decide +kernel
theorem dX7_part_246 : decode cX7_part 246 = .ok (.iconst 0, 1) := by decide +kernel
theorem dX7_part_247 : decode cX7_part 247 = .ok (.invokevirtual 50, 3) := by decide +kernel
theorem dX7_part_250 : decode cX7_part 250 = .ok (.goto 330, 3) := by decide +kernel
theorem dX7_part_253 : decode cX7_part 253 = .ok (.aload_n 0, 1) := by decide +kernel
theorem dX7_part_254 : decode cX7_part 254 = .ok (.iconst 3, 1) := by decide +kernel
theorem dX7_part_255 : decode cX7_part 255 = .ok (.aload_n 0, 1) := by decide +kernel
theorem dX7_part_256 : decode cX7_part 256 = .ok (.getfield 15, 3) := by decide +kernel
theorem dX7_part_259 : decode cX7_part 259 = .ok (.getfield 62, 3) := by decide +kernel
theorem dX7_part_262 : decode cX7_part 262 = .ok (.iload_n 1, 1) := by decide +kernel
theorem dX7_part_263 : decode cX7_part 263 = .ok (.iaload, 1) := by decide +kernel
theorem dX7_part_264 : decode cX7_part 264 = .ok (.iload_n 3, 1) := by decide +kernel
theorem dX7_part_265 : decode cX7_part 265 = .ok (.invokevirtual 50, 3) := by decide +kernel
theorem dX7_part_268 : decode cX7_part 268 = .ok (.goto 312, 3) := by decide +kernel
theorem dX7_part_271 : decode cX7_part 271 = .ok (.aload_n 0, 1) := by decide +kernel
theorem dX7_part_272 : decode cX7_part 272 = .ok (.aload_n 0, 1) := by decide +kernel
theorem dX7_part_273 : decode cX7_part 273 = .ok (.getfield 15, 3) := by decide +kernel
theorem dX7_part_276 : decode cX7_part 276 = .ok (.getfield 74, 3) := by decide +kernel
theorem dX7_part_279 : decode cX7_part 279 = .ok (.iconst 2, 1) := by decide +kernel
theorem dX7_part_280 : decode cX7_part 280 = .ok (.if_icmp .ne 7, 3) := by decide +kernel
theorem dX7_part_283 : decode cX7_part 283 = .ok (.iconst 5, 1) := by decide +kernel
theorem dX7_part_284 : decode cX7_part 284 = .ok (.goto 4, 3) := by decide +kernel
theorem dX7_part_287 : decode cX7_part 287 = .ok (.iconst 4, 1) := by decide +kernel
theorem dX7_part_288 : decode cX7_part 288 = .ok (.aload_n 0, 1) := by decide +kernel
theorem dX7_part_289 : decode cX7_part 289 = .ok (.getfield 15, 3) := by decide +kernel
theorem dX7_part_292 : decode cX7_part 292 = .ok (.getfield 77, 3) := by decide +kernel
theorem dX7_part_295 : decode cX7_part 295 = .ok (.iload_n 1, 1) := by decide +kernel
theorem dX7_part_296 : decode cX7_part 296 = .ok (.iaload, 1) := by decide +kernel
theorem dX7_part_297 : decode cX7_part 297 = .ok (.iload_n 3, 1) := by decide +kernel
theorem dX7_part_298 : decode cX7_part 298 = .ok (.invokevirtual 50, 3) := by decide +kernel
theorem dX7_part_301 : decode cX7_part 301 = .ok (.goto 279, 3) := by decide +kernel
theorem dX7_part_304 : decode cX7_part 304 = .ok (.aload_n 0, 1) := by decide +kernel
theorem dX7_part_305 : decode cX7_part 305 = .ok (.iload_n 1, 1) := by decide +kernel
theorem dX7_part_306 : decode cX7_part 306 = .ok (.invokevirtual 80, 3) := by decide +kernel
theorem dX7_part_309 : decode cX7_part 309 = .ok (.goto 271, 3) := by decide +kernel
theorem dX7_part_312 : decode cX7_part 312 = .ok (.aload_n 0, 1) := by decide +kernel
theorem dX7_part_313 : decode cX7_part 313 = .ok (.iload_n 1, 1) := by decide +kernel
theorem dX7_part_314 : decode cX7_part 314 = .ok (.invokevirtual 83, 3) := by decide +kernel
theorem dX7_part_317 : decode cX7_part 317 = .ok (.goto 263, 3) := by decide +kernel
theorem dX7_part_320 : decode cX7_part 320 = .ok (.aload_n 0, 1) := by decide +kernel
theorem dX7_part_321 : decode cX7_part 321 = .ok (.getfield 15, 3) := by decide +kernel
theorem dX7_part_324 : decode cX7_part 324 = .ok (.getfield 86, 3) := by decide +kernel
theorem dX7_part_327 : decode cX7_part 327 = .ok (.iload_n 1, 1) := by decide +kernel
theorem dX7_part_328 : decode cX7_part 328 = .ok (.iaload, 1) := by decide +kernel
theorem dX7_part_329 : decode cX7_part 329 = .ok (.istore 5, 2) := by decide +kernel
theorem dX7_part_331 : decode cX7_part 331 = .ok (.iload 5, 2) := by decide +kernel
theorem dX7_part_333 : decode cX7_part 333 = .ok (.iconst (-1), 1) := by decide +kernel
theorem dX7_part_334 : decode cX7_part 334 = .ok (.if_icmp .eq 28, 3) := by decide +kernel
theorem dX7_part_337 : decode cX7_part 337 = .ok (.aload_n 0, 1) := by decide +kernel
theorem dX7_part_338 : decode cX7_part 338 = .ok (.iload 5, 2) := by decide +kernel
theorem dX7_part_340 : decode cX7_part 340 = .ok (.iload_n 3, 1) := by decide +kernel
theorem dX7_part_341 : decode cX7_part 341 = .ok (.invokestatic 88, 3) := by decide +kernel
theorem dX7_part_344 : decode cX7_part 344 = .ok (.invokevirtual 91, 3) := by decide +kernel
theorem dX7_part_347 : decode cX7_part 347 = .ok (.aload_n 0, 1) := by decide +kernel
theorem dX7_part_348 : decode cX7_part 348 = .ok (.getfield 15, 3) := by decide +kernel
theorem dX7_part_351 : decode cX7_part 351 = .ok (.getfield 93, 3) := by decide +kernel
theorem dX7_part_354 : decode cX7_part 354 = .ok (.iload 5, 2) := by decide +kernel
theorem dX7_part_356 : decode cX7_part 356 = .ok (.iaload, 1) := by decide +kernel
theorem dX7_part_357 : decode cX7_part 357 = .ok (.istore 5, 2) := by decide +kernel
theorem dX7_part_359 : decode cX7_part 359 = .ok (.goto (-28), 3) := by decide +kernel
theorem dX7_part_362 : decode cX7_part 362 = .ok (.aload_n 0, 1) := by decide +kernel
theorem dX7_part_363 : decode cX7_part 363 = .ok (.bipush 27, 2) := by decide +kernel
theorem dX7_part_365 : decode cX7_part 365 = .ok (.iload_n 3, 1) := by decide +kernel
theorem dX7_part_366 : decode cX7_part 366 = .ok (.iconst 0, 1) := by decide +kernel
theorem dX7_part_367 : decode cX7_part 367 = .ok (.invokevirtual 50, 3) := by decide +kernel
theorem dX7_part_370 : decode cX7_part 370 = .ok (.goto 210, 3) := by decide +kernel
theorem dX7_part_373 : decode cX7_part 373 = .ok (.aload_n 0, 1) := by decide +kernel
theorem dX7_part_374 : decode cX7_part 374 = .ok (.iload_n 1, 1) := by decide +kernel
theorem dX7_part_375 : decode cX7_part 375 = .ok (.invokevirtual 96, 3) := by decide +kernel
theorem dX7_part_378 : decode cX7_part 378 = .ok (.goto 202, 3) := by decide +kernel
theorem dX7_part_381 : decode cX7_part 381 = .ok (.aload_n 0, 1) := by decide +kernel
theorem dX7_part_382 : decode cX7_part 382 = .ok (.aload_n 0, 1) := by decide +kernel
theorem dX7_part_383 : decode cX7_part 383 = .ok (.getfield 15, 3) := by decide +kernel
theorem dX7_part_386 : decode cX7_part 386 = .ok (.getfield 86, 3) := by decide +kernel
theorem dX7_part_389 : decode cX7_part 389 = .ok (.iload_n 1, 1) := by decide +kernel
theorem dX7_part_390 : decode cX7_part 390 = .ok (.iaload, 1) := by decide +kernel
theorem dX7_part_391 : decode cX7_part 391 = .ok (.invokevirtual 34, 3) := by decide +kernel
theorem dX7_part_394 : decode cX7_part 394 = .ok (.aload_n 0, 1) := by decide +kernel
theorem dX7_part_395 : decode cX7_part 395 = .ok (.getfield 19, 3) := by decide +kernel
theorem dX7_part_398 : decode cX7_part 398 = .ok (.iload_n 2, 1) := by decide +kernel
theorem dX7_part_399 : decode cX7_part 399 = .ok (.bipush 9, 2) := by decide +kernel
theorem dX7_part_401 : decode cX7_part 401 = .ok (.if_icmp .ne 8, 3) := by decide +kernel
theorem dX7_part_404 : decode cX7_part 404 = .ok (.bipush 12, 2) := by decide +kernel
theorem dX7_part_406 : decode cX7_part 406 = .ok (.goto 5, 3) := by decide +kernel
theorem dX7_part_409 : decode cX7_part 409 = .ok (.bipush 13, 2) := by decide +kernel
theorem dX7_part_411 : decode cX7_part 411 = .ok (.iconst 0, 1) := by decide +kernel
theorem dX7_part_412 : decode cX7_part 412 = .ok (.iconst 0, 1) := by decide +kernel
theorem dX7_part_413 : decode cX7_part 413 = .ok (.invokevirtual 46, 3) := by decide +kernel
theorem dX7_part_416 : decode cX7_part 416 = .ok (.istore 5, 2) := by decide +kernel
theorem dX7_part_418 : decode cX7_part 418 = .ok (.aload_n 0, 1) := by decide +kernel
theorem dX7_part_419 : decode cX7_part 419 = .ok (.aload_n 0, 1) := by decide +kernel
theorem dX7_part_420 : decode cX7_part 420 = .ok (.getfield 15, 3) := by decide +kernel
theorem dX7_part_423 : decode cX7_part 423 = .ok (.iload_n 1, 1) := by decide +kernel
theorem dX7_part_424 : decode cX7_part 424 = .ok (.invokevirtual 99, 3) := by decide +kernel
theorem dX7_part_427 : decode cX7_part 427 = .ok (.invokevirtual 34, 3) := by decide +kernel
theorem dX7_part_430 : decode cX7_part 430 = .ok (.aload_n 0, 1) := by decide +kernel
theorem dX7_part_431 : decode cX7_part 431 = .ok (.getfield 19, 3) := by decide +kernel
theorem dX7_part_434 : decode cX7_part 434 = .ok (.getfield 102, 3) := by decide +kernel
theorem dX7_part_437 : decode cX7_part 437 = .ok (.iload 5, 2) := by decide +kernel
theorem dX7_part_439 : decode cX7_part 439 = .ok (.aload_n 0, 1) := by decide +kernel
theorem dX7_part_440 : decode cX7_part 440 = .ok (.getfield 19, 3) := by decide +kernel
theorem dX7_part_443 : decode cX7_part 443 = .ok (.getfield 23, 3) := by decide +kernel
theorem dX7_part_446 : decode cX7_part 446 = .ok (.iastore, 1) := by decide +kernel
theorem dX7_part_447 : decode cX7_part 447 = .ok (.goto 133, 3) := by decide +kernel
theorem dX7_part_450 : decode cX7_part 450 = .ok (.aload_n 0, 1) := by decide +kernel
theorem dX7_part_451 : decode cX7_part 451 = .ok (.aload_n 0, 1) := by decide +kernel
theorem dX7_part_452 : decode cX7_part 452 = .ok (.getfield 15, 3) := by decide +kernel
theorem dX7_part_455 : decode cX7_part 455 = .ok (.getfield 86, 3) := by decide +kernel
theorem dX7_part_458 : decode cX7_part 458 = .ok (.iload_n 1, 1) := by decide +kernel
theorem dX7_part_459 : decode cX7_part 459 = .ok (.iaload, 1) := by decide +kernel
theorem dX7_part_460 : decode cX7_part 460 = .ok (.invokevirtual 34, 3) := by decide +kernel
theorem dX7_part_463 : decode cX7_part 463 = .ok (.aload_n 0, 1) := by decide +kernel
theorem dX7_part_464 : decode cX7_part 464 = .ok (.iload_n 2, 1) := by decide +kernel
theorem dX7_part_465 : decode cX7_part 465 = .ok (.bipush 11, 2) := by decide +kernel
theorem dX7_part_467 : decode cX7_part 467 = .ok (.if_icmp .ne 8, 3) := by decide +kernel
theorem dX7_part_470 : decode cX7_part 470 = .ok (.bipush 14, 2) := by decide +kernel
theorem dX7_part_472 : decode cX7_part 472 = .ok (.goto 5, 3) := by decide +kernel
theorem dX7_part_475 : decode cX7_part 475 = .ok (.bipush 25, 2) := by decide +kernel
theorem dX7_part_477 : decode cX7_part 477 = .ok (.iload_n 3, 1) := by decide +kernel
theorem dX7_part_478 : decode cX7_part 478 = .ok (.iconst 0, 1) := by decide +kernel
theorem dX7_part_479 : decode cX7_part 479 = .ok (.invokevirtual 50, 3) := by decide +kernel
theorem dX7_part_482 : decode cX7_part 482 = .ok (.goto 98, 3) := by decide +kernel
theorem dX7_part_485 : decode cX7_part 485 = .ok (.aload_n 0, 1) := by decide +kernel
theorem dX7_part_486 : decode cX7_part 486 = .ok (.aload_n 0, 1) := by decide +kernel
theorem dX7_part_487 : decode cX7_part 487 = .ok (.getfield 15, 3) := by decide +kernel
theorem dX7_part_490 : decode cX7_part 490 = .ok (.getfield 86, 3) := by decide +kernel
theorem dX7_part_493 : decode cX7_part 493 = .ok (.iload_n 1, 1) := by decide +kernel
theorem dX7_part_494 : decode cX7_part 494 = .ok (.iaload, 1) := by decide +kernel
theorem dX7_part_495 : decode cX7_part 495 = .ok (.invokevirtual 34, 3) := by decide +kernel
theorem dX7_part_498 : decode cX7_part 498 = .ok (.aload_n 0, 1) := by decide +kernel
theorem dX7_part_499 : decode cX7_part 499 = .ok (.bipush 26, 2) := by decide +kernel
theorem dX7_part_501 : decode cX7_part 501 = .ok (.iload_n 3, 1) := by decide +kernel
theorem dX7_part_502 : decode cX7_part 502 = .ok (.aload_n 0, 1) := by decide +kernel
theorem dX7_part_503 : decode cX7_part 503 = .ok (.getfield 15, 3) := by decide +kernel
theorem dX7_part_506 : decode cX7_part 506 = .ok (.getfield 62, 3) := by decide +kernel
theorem dX7_part_509 : decode cX7_part 509 = .ok (.iload_n 1, 1) := by decide +kernel
theorem dX7_part_510 : decode cX7_part 510 = .ok (.iaload, 1) := by decide +kernel
theorem dX7_part_511 : decode cX7_part 511 = .ok (.invokevirtual 50, 3) := by decide +kernel
theorem dX7_part_514 : decode cX7_part 514 = .ok (.goto 66, 3) := by decide +kernel
theorem dX7_part_517 : decode cX7_part 517 = .ok (.aload_n 0, 1) := by decide +kernel
theorem dX7_part_518 : decode cX7_part 518 = .ok (.aload_n 0, 1) := by decide +kernel
theorem dX7_part_519 : decode cX7_part 519 = .ok (.getfield 15, 3) := by decide +kernel
theorem dX7_part_522 : decode cX7_part 522 = .ok (.getfield 86, 3) := by decide +kernel
theorem dX7_part_525 : decode cX7_part 525 = .ok (.iload_n 1, 1) := by decide +kernel
theorem dX7_part_526 : decode cX7_part 526 = .ok (.iaload, 1) := by decide +kernel
theorem dX7_part_527 : decode cX7_part 527 = .ok (.iload_n 3, 1) := by decide +kernel
theorem dX7_part_528 : decode cX7_part 528 = .ok (.invokevirtual 91, 3) := by decide +kernel
theorem dX7_part_531 : decode cX7_part 531 = .ok (.goto 49, 3) := by decide +kernel
theorem dX7_part_534 : decode cX7_part 534 = .ok (.aload_n 0, 1) := by decide +kernel
theorem dX7_part_535 : decode cX7_part 535 = .ok (.aload_n 0, 1) := by decide +kernel
theorem dX7_part_536 : decode cX7_part 536 = .ok (.getfield 15, 3) := by decide +kernel
theorem dX7_part_539 : decode cX7_part 539 = .ok (.getfield 86, 3) := by decide +kernel
theorem dX7_part_542 : decode cX7_part 542 = .ok (.iload_n 1, 1) := by decide +kernel
theorem dX7_part_543 : decode cX7_part 543 = .ok (.iaload, 1) := by decide +kernel
theorem dX7_part_544 : decode cX7_part 544 = .ok (.invokevirtual 34, 3) := by decide +kernel
theorem dX7_part_547 : decode cX7_part 547 = .ok (.aload_n 0, 1) := by decide +kernel
theorem dX7_part_548 : decode cX7_part 548 = .ok (.bipush 7, 2) := by decide +kernel
theorem dX7_part_550 : decode cX7_part 550 = .ok (.aload_n 0, 1) := by decide +kernel
theorem dX7_part_551 : decode cX7_part 551 = .ok (.getfield 15, 3) := by decide +kernel
theorem dX7_part_554 : decode cX7_part 554 = .ok (.getfield 38, 3) := by decide +kernel
theorem dX7_part_557 : decode cX7_part 557 = .ok (.aload_n 0, 1) := by decide +kernel
theorem dX7_part_558 : decode cX7_part 558 = .ok (.getfield 15, 3) := by decide +kernel
theorem dX7_part_561 : decode cX7_part 561 = .ok (.getfield 86, 3) := by decide +kernel
theorem dX7_part_564 : decode cX7_part 564 = .ok (.iload_n 1, 1) := by decide +kernel
theorem dX7_part_565 : decode cX7_part 565 = .ok (.iaload, 1) := by decide +kernel
theorem dX7_part_566 : decode cX7_part 566 = .ok (.iaload, 1) := by decide +kernel
theorem dX7_part_567 : decode cX7_part 567 = .ok (.iload_n 3, 1) := by decide +kernel
theorem dX7_part_568 : decode cX7_part 568 = .ok (.invokevirtual 50, 3) := by decide +kernel
theorem dX7_part_571 : decode cX7_part 571 = .ok (.goto 9, 3) := by decide +kernel
theorem dX7_part_574 : decode cX7_part 574 = .ok (.aload_n 0, 1) := by decide +kernel
theorem dX7_part_575 : decode cX7_part 575 = .ok (.iload_n 1, 1) := by decide +kernel
theorem dX7_part_576 : decode cX7_part 576 = .ok (.iload_n 2, 1) := by decide +kernel
theorem dX7_part_577 : decode cX7_part 577 = .ok (.invokevirtual 105, 3) := by decide +kernel
theorem dX7_part_580 : decode cX7_part 580 = .ok (.return_, 1) := by decide +kernel
/-! AlgebraHouse$Coder.part(I)V -/
def P_X7_part_234 (rec : Nat → List Int → MM → (Int → MM → Prop) → (MM → Prop) → Prop) (Q : Int → MM → Prop) (T : MM → Prop) (x2 : Int) (m : MM) : Prop := ((RI x2)) ∧ P_X7_add 2 (if x2 = 1 then 1 else 2 : Int) 0 m (fun r1 m1 => Q 0 m1)
def P_X7_part_362 (rec : Nat → List Int → MM → (Int → MM → Prop) → (MM → Prop) → Prop) (Q : Int → MM → Prop) (T : MM → Prop) (x3 : Int) (m : MM) : Prop := P_X7_add 27 x3 0 m (fun r1 m1 => Q 0 m1)
def P_X7_part_331 (rec : Nat → List Int → MM → (Int → MM → Prop) → (MM → Prop) → Prop) (Q : Int → MM → Prop) (T : MM → Prop) : Nat → Int → Int → MM → Prop
  | 0, _, _, _ => False
  | n + 1, x3, x5, m => (RI x5) ∧ (if x5 = (-1) then P_X7_part_362 rec Q T x3 m else P_X11_plain x3 m (fun r1 m1 => rec 4 [x5, r1] m1 (fun r2 m2 => (isTx (m2 377 0)) ∧ (0 ≤ x5 ∧ x5 < 160) ∧ P_X7_part_331 rec Q T n x3 (m2 ((m2 377 0) + 3) x5) m2) T))
def P_X7_part_381 (rec : Nat → List Int → MM → (Int → MM → Prop) → (MM → Prop) → Prop) (Q : Int → MM → Prop) (T : MM → Prop) (x1 : Int) (x2 : Int) (m : MM) : Prop := (isTx (m 377 0)) ∧ (0 ≤ x1 ∧ x1 < 160) ∧ rec 3 [(m ((m 377 0) + 2) x1)] m (fun r1 m1 => ((RI x2)) ∧ (isCd (m1 377 1)) ∧ P_X9_add (m1 377 1) (if x2 = 9 then 12 else 13 : Int) 0 0 m1 (fun r2 m2 => (isTx (m2 377 0)) ∧ P_X2_second (m2 377 0) x1 m2 (fun r3 m3 => rec 3 [r3] m3 (fun r4 m4 => (isCd (m4 377 1)) ∧ (0 ≤ r2 ∧ r2 < 1200) ∧ ∀ m5 : MM, m5 = up m4 ((m4 377 1) + 2) r2 (m4 (m4 377 1) 3) → Q 0 m5) T))) T
def P_X7_part_450 (rec : Nat → List Int → MM → (Int → MM → Prop) → (MM → Prop) → Prop) (Q : Int → MM → Prop) (T : MM → Prop) (x1 : Int) (x2 : Int) (x3 : Int) (m : MM) : Prop := (isTx (m 377 0)) ∧ (0 ≤ x1 ∧ x1 < 160) ∧ rec 3 [(m ((m 377 0) + 2) x1)] m (fun r1 m1 => ((RI x2)) ∧ P_X7_add (if x2 = 11 then 14 else 25 : Int) x3 0 m1 (fun r2 m2 => Q 0 m2)) T
def P_X7_part_574 (rec : Nat → List Int → MM → (Int → MM → Prop) → (MM → Prop) → Prop) (Q : Int → MM → Prop) (T : MM → Prop) (x1 : Int) (x2 : Int) (m : MM) : Prop := rec 5 [x1, x2] m (fun r1 m1 => Q 0 m1) T
def P_X7_part_87 (rec : Nat → List Int → MM → (Int → MM → Prop) → (MM → Prop) → Prop) (Q : Int → MM → Prop) (T : MM → Prop) (x1 : Int) (x2 : Int) (x3 : Int) (s0 : Int) (m : MM) : Prop := P_X7_add 0 s0 0 m (fun r1 m1 => (RI x2) ∧ (if x2 = 0 then (isTx (m1 377 0)) ∧ (0 ≤ x1 ∧ x1 < 160) ∧ P_X7_add 1 (m1 ((m1 377 0) + 4) x1) 0 m1 (fun r2 m2 => Q 0 m2) else (if x2 = 1 then P_X7_part_234 rec Q T x2 m1 else (if x2 = 2 then P_X7_part_234 rec Q T x2 m1 else (if x2 = 3 then (isTx (m1 377 0)) ∧ (0 ≤ x1 ∧ x1 < 160) ∧ P_X7_add 3 (m1 ((m1 377 0) + 4) x1) x3 m1 (fun r3 m3 => Q 0 m3) else (if x2 = 4 then (isTx (m1 377 0)) ∧ ((RI (m1 (m1 377 0) 1))) ∧ (0 ≤ x1 ∧ x1 < 160) ∧ P_X7_add (if (m1 (m1 377 0) 1) = 2 then 5 else 4 : Int) (m1 ((m1 377 0) + 7) x1) x3 m1 (fun r4 m4 => Q 0 m4) else (if x2 = 5 then rec 0 [x1] m1 (fun r5 m5 => Q 0 m5) T else (if x2 = 6 then rec 2 [x1] m1 (fun r6 m6 => Q 0 m6) T else (if x2 = 7 then (isTx (m1 377 0)) ∧ (0 ≤ x1 ∧ x1 < 160) ∧ ∃ nn, P_X7_part_331 rec Q T nn x3 (m1 ((m1 377 0) + 2) x1) m1 else (if x2 = 8 then rec 1 [x1] m1 (fun r7 m7 => Q 0 m7) T else (if x2 = 9 then P_X7_part_381 rec Q T x1 x2 m1 else (if x2 = 10 then P_X7_part_381 rec Q T x1 x2 m1 else (if x2 = 11 then P_X7_part_450 rec Q T x1 x2 x3 m1 else (if x2 = 22 then P_X7_part_450 rec Q T x1 x2 x3 m1 else (if x2 = 23 then (isTx (m1 377 0)) ∧ (0 ≤ x1 ∧ x1 < 160) ∧ rec 3 [(m1 ((m1 377 0) + 2) x1)] m1 (fun r8 m8 => (isTx (m8 377 0)) ∧ P_X7_add 26 x3 (m8 ((m8 377 0) + 4) x1) m8 (fun r9 m9 => Q 0 m9)) T else (if x2 = 24 then (isTx (m1 377 0)) ∧ (0 ≤ x1 ∧ x1 < 160) ∧ rec 4 [(m1 ((m1 377 0) + 2) x1), x3] m1 (fun r10 m10 => Q 0 m10) T else (if x2 = 25 then (isTx (m1 377 0)) ∧ (0 ≤ x1 ∧ x1 < 160) ∧ rec 3 [(m1 ((m1 377 0) + 2) x1)] m1 (fun r11 m11 => (isTx (m11 377 0)) ∧ (0 ≤ (m11 ((m11 377 0) + 2) x1) ∧ (m11 ((m11 377 0) + 2) x1) < 160) ∧ P_X7_add 7 (m11 ((m11 377 0) + 6) (m11 ((m11 377 0) + 2) x1)) x3 m11 (fun r12 m12 => Q 0 m12)) T else P_X7_part_574 rec Q T x1 x2 m1)))))))))))))))))
def P_X7_part_38 (rec : Nat → List Int → MM → (Int → MM → Prop) → (MM → Prop) → Prop) (Q : Int → MM → Prop) (T : MM → Prop) (x1 : Int) (x2 : Int) (x3 : Int) (m : MM) : Prop := P_X11_weight x3 m (fun r1 m1 => P_X7_part_87 rec Q T x1 x2 x3 r1 m1)
def W_X7_part (rec : Nat → List Int → MM → (Int → MM → Prop) → (MM → Prop) → Prop) (x1 : Int) (m : MM) (Q : Int → MM → Prop) (T : MM → Prop) : Prop := (isTx (m 377 0)) ∧ (0 ≤ x1 ∧ x1 < 160) ∧ (RI (m ((m 377 0) + 1) x1)) ∧ (if (m ((m 377 0) + 1) x1) = 18 then P_X7_part_38 rec Q T x1 (m ((m 377 0) + 1) x1) (m ((m 377 0) + 6) x1) m else (if (m ((m 377 0) + 1) x1) = 20 then P_X7_part_38 rec Q T x1 (m ((m 377 0) + 1) x1) (m ((m 377 0) + 6) x1) m else (if (m ((m 377 0) + 1) x1) = 21 then P_X7_part_38 rec Q T x1 (m ((m 377 0) + 1) x1) (m ((m 377 0) + 6) x1) m else (if (m ((m 377 0) + 1) x1) = 23 then P_X11_weight (m ((m 377 0) + 6) x1) m (fun r2 m2 => (isTx (m2 377 0)) ∧ P_J4_max 1 (m2 ((m2 377 0) + 4) x1) m2 (fun r3 m3 => P_X7_part_87 rec Q T x1 (m ((m 377 0) + 1) x1) (m ((m 377 0) + 6) x1) (r2 * r3) m3)) else (if (m ((m 377 0) + 1) x1) = 6 then P_X7_heavy x1 m (fun r1 m1 => P_X7_part_87 rec Q T x1 (m ((m 377 0) + 1) x1) (m ((m 377 0) + 6) x1) r1 m1) else P_X7_part_87 rec Q T x1 (m ((m 377 0) + 1) x1) (m ((m 377 0) + 6) x1) 1 m)))))
theorem dX7_part_2_0 : decode cX7_part_2 0 = .ok (.aload_n 0, 1) := by decide +kernel
theorem dX7_part_2_1 : decode cX7_part_2 1 = .ok (.iload_n 1, 1) := by decide +kernel
theorem dX7_part_2_2 : decode cX7_part_2 2 = .ok (.invokevirtual 34, 3) := by decide +kernel
theorem dX7_part_2_5 : decode cX7_part_2 5 = .ok (.aload_n 0, 1) := by decide +kernel
theorem dX7_part_2_6 : decode cX7_part_2 6 = .ok (.aload_n 0, 1) := by decide +kernel
theorem dX7_part_2_7 : decode cX7_part_2 7 = .ok (.getfield 15, 3) := by decide +kernel
theorem dX7_part_2_10 : decode cX7_part_2 10 = .ok (.getfield 38, 3) := by decide +kernel
theorem dX7_part_2_13 : decode cX7_part_2 13 = .ok (.iload_n 1, 1) := by decide +kernel
theorem dX7_part_2_14 : decode cX7_part_2 14 = .ok (.iaload, 1) := by decide +kernel
theorem dX7_part_2_15 : decode cX7_part_2 15 = .ok (.iload_n 2, 1) := by decide +kernel
theorem dX7_part_2_16 : decode cX7_part_2 16 = .ok (.invokevirtual 42, 3) := by decide +kernel
theorem dX7_part_2_19 : decode cX7_part_2 19 = .ok (.return_, 1) := by decide +kernel
/-! AlgebraHouse$Coder.part(II)V -/
def W_X7_part_2 (rec : Nat → List Int → MM → (Int → MM → Prop) → (MM → Prop) → Prop) (x1 : Int) (x2 : Int) (m : MM) (Q : Int → MM → Prop) (T : MM → Prop) : Prop := rec 3 [x1] m (fun r1 m1 => (isTx (m1 377 0)) ∧ (0 ≤ x1 ∧ x1 < 160) ∧ P_X7_turn (m1 ((m1 377 0) + 6) x1) x2 m1 (fun r2 m2 => Q 0 m2)) T
theorem dX7_two_0 : decode cX7_two 0 = .ok (.aload_n 0, 1) := by decide +kernel
theorem dX7_two_1 : decode cX7_two 1 = .ok (.getfield 15, 3) := by decide +kernel
theorem dX7_two_4 : decode cX7_two 4 = .ok (.getfield 38, 3) := by decide +kernel
theorem dX7_two_7 : decode cX7_two 7 = .ok (.aload_n 0, 1) := by decide +kernel
theorem dX7_two_8 : decode cX7_two 8 = .ok (.getfield 15, 3) := by decide +kernel
theorem dX7_two_11 : decode cX7_two 11 = .ok (.getfield 86, 3) := by decide +kernel
theorem dX7_two_14 : decode cX7_two 14 = .ok (.iload_n 1, 1) := by decide +kernel
theorem dX7_two_15 : decode cX7_two 15 = .ok (.iaload, 1) := by decide +kernel
theorem dX7_two_16 : decode cX7_two 16 = .ok (.iaload, 1) := by decide +kernel
theorem dX7_two_17 : decode cX7_two 17 = .ok (.istore_n 3, 1) := by decide +kernel
theorem dX7_two_18 : decode cX7_two 18 = .ok (.aload_n 0, 1) := by decide +kernel
theorem dX7_two_19 : decode cX7_two 19 = .ok (.getfield 15, 3) := by decide +kernel
theorem dX7_two_22 : decode cX7_two 22 = .ok (.getfield 38, 3) := by decide +kernel
theorem dX7_two_25 : decode cX7_two 25 = .ok (.aload_n 0, 1) := by decide +kernel
theorem dX7_two_26 : decode cX7_two 26 = .ok (.getfield 15, 3) := by decide +kernel
theorem dX7_two_29 : decode cX7_two 29 = .ok (.iload_n 1, 1) := by decide +kernel
theorem dX7_two_30 : decode cX7_two 30 = .ok (.invokevirtual 99, 3) := by decide +kernel
theorem dX7_two_33 : decode cX7_two 33 = .ok (.iaload, 1) := by decide +kernel
theorem dX7_two_34 : decode cX7_two 34 = .ok (.istore 4, 2) := by decide +kernel
theorem dX7_two_36 : decode cX7_two 36 = .ok (.iload_n 2, 1) := by decide +kernel
theorem dX7_two_37 : decode cX7_two 37 = .ok (.bipush 19, 2) := by decide +kernel
theorem dX7_two_39 : decode cX7_two 39 = .ok (.if_icmp .ne 15, 3) := by decide +kernel
theorem dX7_two_42 : decode cX7_two 42 = .ok (.aload_n 0, 1) := by decide +kernel
theorem dX7_two_43 : decode cX7_two 43 = .ok (.getfield 15, 3) := by decide +kernel
theorem dX7_two_46 : decode cX7_two 46 = .ok (.getfield 38, 3) := by decide +kernel
theorem dX7_two_49 : decode cX7_two 49 = .ok (.iload_n 1, 1) := by decide +kernel
theorem dX7_two_50 : decode cX7_two 50 = .ok (.iaload, 1) := by decide +kernel
theorem dX7_two_51 : decode cX7_two 51 = .ok (.goto 9, 3) := by decide +kernel
theorem dX7_two_54 : decode cX7_two 54 = .ok (.iload_n 3, 1) := by decide +kernel
theorem dX7_two_55 : decode cX7_two 55 = .ok (.iload 4, 2) := by decide +kernel
theorem dX7_two_57 : decode cX7_two 57 = .ok (.invokestatic 108, 3) := by decide +kernel
theorem dX7_two_60 : decode cX7_two 60 = .ok (.istore 5, 2) := by decide +kernel
theorem dX7_two_62 : decode cX7_two 62 = .ok (.aload_n 0, 1) := by decide +kernel
theorem dX7_two_63 : decode cX7_two 63 = .ok (.aload_n 0, 1) := by decide +kernel
theorem dX7_two_64 : decode cX7_two 64 = .ok (.getfield 15, 3) := by decide +kernel
theorem dX7_two_67 : decode cX7_two 67 = .ok (.getfield 86, 3) := by decide +kernel
theorem dX7_two_70 : decode cX7_two 70 = .ok (.iload_n 1, 1) := by decide +kernel
theorem dX7_two_71 : decode cX7_two 71 = .ok (.iaload, 1) := by decide +kernel
theorem dX7_two_72 : decode cX7_two 72 = .ok (.iload 5, 2) := by decide +kernel
theorem dX7_two_74 : decode cX7_two 74 = .ok (.invokevirtual 91, 3) := by decide +kernel
theorem dX7_two_77 : decode cX7_two 77 = .ok (.aload_n 0, 1) := by decide +kernel
theorem dX7_two_78 : decode cX7_two 78 = .ok (.aload_n 0, 1) := by decide +kernel
theorem dX7_two_79 : decode cX7_two 79 = .ok (.getfield 15, 3) := by decide +kernel
theorem dX7_two_82 : decode cX7_two 82 = .ok (.iload_n 1, 1) := by decide +kernel
theorem dX7_two_83 : decode cX7_two 83 = .ok (.invokevirtual 99, 3) := by decide +kernel
theorem dX7_two_86 : decode cX7_two 86 = .ok (.iload_n 2, 1) := by decide +kernel
theorem dX7_two_87 : decode cX7_two 87 = .ok (.bipush 19, 2) := by decide +kernel
theorem dX7_two_89 : decode cX7_two 89 = .ok (.if_icmp .ne 11, 3) := by decide +kernel
theorem dX7_two_92 : decode cX7_two 92 = .ok (.iload 5, 2) := by decide +kernel
theorem dX7_two_94 : decode cX7_two 94 = .ok (.bipush (-16), 2) := by decide +kernel
theorem dX7_two_96 : decode cX7_two 96 = .ok (.iand, 1) := by decide +kernel
theorem dX7_two_97 : decode cX7_two 97 = .ok (.goto 5, 3) := by decide +kernel
theorem dX7_two_100 : decode cX7_two 100 = .ok (.iload 5, 2) := by decide +kernel
theorem dX7_two_102 : decode cX7_two 102 = .ok (.invokevirtual 91, 3) := by decide +kernel
theorem dX7_two_105 : decode cX7_two 105 = .ok (.aload_n 0, 1) := by decide +kernel
theorem dX7_two_106 : decode cX7_two 106 = .ok (.iload_n 2, 1) := by decide +kernel
theorem dX7_two_107 : decode cX7_two 107 = .ok (.bipush 12, 2) := by decide +kernel
theorem dX7_two_109 : decode cX7_two 109 = .ok (.if_icmp .ne 8, 3) := by decide +kernel
theorem dX7_two_112 : decode cX7_two 112 = .ok (.bipush 15, 2) := by decide +kernel
theorem dX7_two_114 : decode cX7_two 114 = .ok (.goto 43, 3) := by decide +kernel
theorem dX7_two_117 : decode cX7_two 117 = .ok (.iload_n 2, 1) := by decide +kernel
theorem dX7_two_118 : decode cX7_two 118 = .ok (.bipush 13, 2) := by decide +kernel
theorem dX7_two_120 : decode cX7_two 120 = .ok (.if_icmp .ne 8, 3) := by decide +kernel
theorem dX7_two_123 : decode cX7_two 123 = .ok (.bipush 16, 2) := by decide +kernel
theorem dX7_two_125 : decode cX7_two 125 = .ok (.goto 32, 3) := by decide +kernel
theorem dX7_two_128 : decode cX7_two 128 = .ok (.iload_n 2, 1) := by decide +kernel
theorem dX7_two_129 : decode cX7_two 129 = .ok (.bipush 14, 2) := by decide +kernel
theorem dX7_two_131 : decode cX7_two 131 = .ok (.if_icmp .ne 8, 3) := by decide +kernel
theorem dX7_two_134 : decode cX7_two 134 = .ok (.bipush 17, 2) := by decide +kernel
theorem dX7_two_136 : decode cX7_two 136 = .ok (.goto 21, 3) := by decide +kernel
theorem dX7_two_139 : decode cX7_two 139 = .ok (.iload_n 2, 1) := by decide +kernel
theorem dX7_two_140 : decode cX7_two 140 = .ok (.bipush 15, 2) := by decide +kernel
theorem dX7_two_142 : decode cX7_two 142 = .ok (.if_icmp .ne 8, 3) := by decide +kernel
theorem dX7_two_145 : decode cX7_two 145 = .ok (.bipush 18, 2) := by decide +kernel
theorem dX7_two_147 : decode cX7_two 147 = .ok (.goto 10, 3) := by decide +kernel
theorem dX7_two_150 : decode cX7_two 150 = .ok (.bipush 19, 2) := by decide +kernel
theorem dX7_two_152 : decode cX7_two 152 = .ok (.iload_n 2, 1) := by decide +kernel
theorem dX7_two_153 : decode cX7_two 153 = .ok (.iadd, 1) := by decide +kernel
theorem dX7_two_154 : decode cX7_two 154 = .ok (.bipush 16, 2) := by decide +kernel
theorem dX7_two_156 : decode cX7_two 156 = .ok (.isub, 1) := by decide +kernel
theorem dX7_two_157 : decode cX7_two 157 = .ok (.iload 5, 2) := by decide +kernel
theorem dX7_two_159 : decode cX7_two 159 = .ok (.iconst 0, 1) := by decide +kernel
theorem dX7_two_160 : decode cX7_two 160 = .ok (.invokevirtual 50, 3) := by decide +kernel
theorem dX7_two_163 : decode cX7_two 163 = .ok (.return_, 1) := by decide +kernel
/-! AlgebraHouse$Coder.two(II)V -/
def P_X7_two_60 (rec : Nat → List Int → MM → (Int → MM → Prop) → (MM → Prop) → Prop) (Q : Int → MM → Prop) (T : MM → Prop) (x1 : Int) (x2 : Int) (s0 : Int) (m : MM) : Prop := (isTx (m 377 0)) ∧ (0 ≤ x1 ∧ x1 < 160) ∧ rec 4 [(m ((m 377 0) + 2) x1), s0] m (fun r1 m1 => (isTx (m1 377 0)) ∧ P_X2_second (m1 377 0) x1 m1 (fun r2 m2 => ((RI x2)) ∧ rec 4 [r2, (if x2 = 19 then (iAnd s0 (-16)) else s0 : Int)] m2 (fun r3 m3 => ((RI x2)) ∧ P_X7_add (if x2 = 12 then 15 else (if x2 = 13 then 16 else (if x2 = 14 then 17 else (if x2 = 15 then 18 else ((19 + x2) - 16) : Int) : Int) : Int) : Int) s0 0 m3 (fun r4 m4 => Q 0 m4)) T)) T
def W_X7_two (rec : Nat → List Int → MM → (Int → MM → Prop) → (MM → Prop) → Prop) (x1 : Int) (x2 : Int) (m : MM) (Q : Int → MM → Prop) (T : MM → Prop) : Prop := (isTx (m 377 0)) ∧ (0 ≤ x1 ∧ x1 < 160) ∧ (0 ≤ (m ((m 377 0) + 2) x1) ∧ (m ((m 377 0) + 2) x1) < 160) ∧ P_X2_second (m 377 0) x1 m (fun r1 m1 => (0 ≤ r1 ∧ r1 < 160) ∧ (RI x2) ∧ (if x2 = 19 then (isTx (m1 377 0)) ∧ P_X7_two_60 rec Q T x1 x2 (m1 ((m1 377 0) + 6) x1) m1 else P_X11_join (m ((m 377 0) + 6) (m ((m 377 0) + 2) x1)) (m1 ((m 377 0) + 6) r1) m1 (fun r2 m2 => P_X7_two_60 rec Q T x1 x2 r2 m2)))
def HR_X7_part (rec : Nat → List Int → MM → (Int → MM → Prop) → (MM → Prop) → Prop) (fr : Nat) : Prop := (∀ (x1 : Int) (m : MM) (Q : Int → MM → Prop) (T : MM → Prop), rec 0 [x1] m Q T → CC fr M_X7_call [vR 377, vI x1] m Q T) ∧ (∀ (x1 : Int) (m : MM) (Q : Int → MM → Prop) (T : MM → Prop), rec 1 [x1] m Q T → CC fr M_X7_choice [vR 377, vI x1] m Q T) ∧ (∀ (x1 : Int) (m : MM) (Q : Int → MM → Prop) (T : MM → Prop), rec 2 [x1] m Q T → CC fr M_X7_function [vR 377, vI x1] m Q T) ∧ (∀ (x1 : Int) (m : MM) (Q : Int → MM → Prop) (T : MM → Prop), rec 3 [x1] m Q T → CC fr M_X7_part [vR 377, vI x1] m Q T) ∧ (∀ (x1 : Int) (x2 : Int) (m : MM) (Q : Int → MM → Prop) (T : MM → Prop), rec 4 [x1, x2] m Q T → CC fr M_X7_part_2 [vR 377, vI x1, vI x2] m Q T) ∧ (∀ (x1 : Int) (x2 : Int) (m : MM) (Q : Int → MM → Prop) (T : MM → Prop), rec 5 [x1, x2] m Q T → CC fr M_X7_two [vR 377, vI x1, vI x2] m Q T) ∧ True
theorem pl_X7_call_79 {f : Nat} {Q : Int → MM → Prop} {T : MM → Prop} {rec : Nat → List Int → MM → (Int → MM → Prop) → (MM → Prop) → Prop} {fr : Nat} (hrec : HR_X7_part rec fr) (hf : 5 ≤ f ∧ fr + 1 ≤ f) : ∀ (x1 : Int) (x4 : Int) (m : MM), P_X7_call_79 rec Q T x1 x4 m → B f M_X7_call 79 [vR 377, vI x1, vU, vU, vI x4, vU] [] m Q T := by
  intro x1 x4 m h
  have h : (isTx (m 377 0)) ∧ (0 ≤ x1 ∧ x1 < 160) ∧ P_X7_add 8 (m ((m 377 0) + 7) x1) x4 m (fun r1 m1 => Q 0 m1) := h
  refine b_aload_n dX7_call_79 rfl ?_
  refine b_bipush dX7_call_80 (by decide) ?_
  refine b_aload_n dX7_call_82 rfl ?_
  refine b_getM dX7_call_83 fk_X7_15 ly_377 ?_
  obtain ⟨g1, h⟩ := h
  refine b_getR dX7_call_86 fk_X7_77 (tx_ly0 g1) (tx_gg13 g1) ?_
  refine b_iload_n dX7_call_89 rfl ?_
  obtain ⟨g2, h⟩ := h
  refine b_iald dX7_call_90 (tx_ly7 g1) g2 ?_
  refine b_iload dX7_call_91 rfl ?_
  refine b_cVv (as := [vI 8, vI (m ((m 377 0) + 7) x1), vI x4]) (st := []) dX7_call_93 mf_X7_add qs56 lk_X7_50 ly_377 rfl (p_X7_add (f := 2) (Nat.le_refl _) _ _ _ _ h) (by omega) rfl rfl (Nat.le_of_ble_eq_true rfl) (by decide) rfl (fun _ => rfl) (fun r1 m1 h => ?_) (fun _ h => h)
  exact b_vret dX7_call_96 rfl h
theorem pl_X7_call_42 {f : Nat} {Q : Int → MM → Prop} {T : MM → Prop} {rec : Nat → List Int → MM → (Int → MM → Prop) → (MM → Prop) → Prop} {fr : Nat} (hrec : HR_X7_part rec fr) (hf : 5 ≤ f ∧ fr + 1 ≤ f) : ∀ (n : Nat) (x1 : Int) (x2 : Int) (x3 : Int) (x4 : Int) (x5 : Int) (m : MM), P_X7_call_42 rec Q T n x1 x2 x3 x4 x5 m → B f M_X7_call 42 [vR 377, vI x1, vR x2, vI x3, vI x4, vI x5] [] m Q T := by
  intro n
  induction n with
  | zero => intro x1 x2 x3 x4 x5 m h; exact h.elim
  | succ n ih =>
    intro x1 x2 x3 x4 x5 m h
    have h : (RI x5) ∧ (if x5 = (-1) then P_X7_call_79 rec Q T x1 x4 m else P_X1_ring x2 x3 x4 m (fun r1 m1 => rec 4 [x5, r1] m1 (fun r2 m2 => (isTx (m2 377 0)) ∧ (0 ≤ x5 ∧ x5 < 160) ∧ P_X7_call_42 rec Q T n x1 x2 (x3 + 1) x4 (m2 ((m2 377 0) + 3) x5) m2) T)) := h
    refine b_iload dX7_call_42 rfl ?_
    refine b_iconst dX7_call_44 ?_
    obtain ⟨g1, h⟩ := h
    refine b_icmp_eq 79 dX7_call_45 g1 (by decide) (by decide) (fun c1 => ?_) (fun c1 => ?_)
    · have h := ifT c1 h
      refine b_fgt [true, true, false, false, true, false] (ls' := [vR 377, vI x1, vU, vU, vI x4, vU]) rfl rfl ?_
      exact pl_X7_call_79 hrec hf _ _ _ h
    · have h := ifF c1 h
      refine b_aload_n dX7_call_48 rfl ?_
      refine b_iload dX7_call_49 rfl ?_
      refine b_aload_n dX7_call_51 rfl ?_
      refine b_iload_n dX7_call_52 rfl ?_
      refine b_iload dX7_call_53 rfl ?_
      refine b_cSi (as := [vR x2, vI x3, vI x4]) (st := [vI x5, vR 377]) dX7_call_55 mf_X1_ring lk_X7_123 (p_X1_ring (f := 2) (Nat.le_refl _) _ _ _ _ h) (by omega) rfl rfl (Nat.le_of_ble_eq_true rfl) (by decide) rfl (fun _ => rfl) (fun r1 m1 h => ?_) (fun _ h => h)
      refine b_cVv (as := [vI x5, vI r1]) (st := []) dX7_call_58 mf_X7_part_2 qs58 lk_X7_91 ly_377 rfl (hrec.2.2.2.2.1 _ _ _ _ _ h) (by omega) rfl rfl (Nat.le_of_ble_eq_true rfl) (by decide) rfl (fun _ => rfl) (fun r2 m2 h => ?_) (fun _ h => h)
      refine b_iinc (ls' := [vR 377, vI x1, vR x2, vI (x3 + 1), vI x4, vI x5]) dX7_call_61 rfl rfl ?_
      refine b_aload_n dX7_call_64 rfl ?_
      refine b_getM dX7_call_65 fk_X7_15 ly_377 ?_
      obtain ⟨g2, h⟩ := h
      refine b_getR dX7_call_68 fk_X7_93 (tx_ly0 g2) (tx_gg9 g2) ?_
      refine b_iload dX7_call_71 rfl ?_
      obtain ⟨g3, h⟩ := h
      refine b_iald dX7_call_73 (tx_ly3 g2) g3 ?_
      refine b_istore (ls' := [vR 377, vI x1, vR x2, vI (x3 + 1), vI x4, vI (m2 ((m2 377 0) + 3) x5)]) dX7_call_74 (Nat.le_of_ble_eq_true rfl) rfl ?_
      refine b_goto 42 dX7_call_76 (by decide) ?_
      exact ih _ _ _ _ _ _ h
theorem w_X7_call {f : Nat} {Q : Int → MM → Prop} {T : MM → Prop} {rec : Nat → List Int → MM → (Int → MM → Prop) → (MM → Prop) → Prop} {fr : Nat} (hrec : HR_X7_part rec fr) (hf : 5 ≤ f ∧ fr + 1 ≤ f) (x1 : Int) (m : MM) (h : W_X7_call rec x1 m Q T) : CC f M_X7_call [vR 377, vI x1] m Q T := by
  refine CC.of (plainFor_of_name (by decide)) (Nat.le_of_ble_eq_true rfl) (ls := [vR 377, vI x1, vU, vU, vU, vU]) rfl ?_
  have h : (m 377 2 = 3) ∧ (isTx (m 377 0)) ∧ (0 ≤ x1 ∧ x1 < 160) ∧ (0 ≤ (m ((m 377 0) + 7) x1) ∧ (m ((m 377 0) + 7) x1) < 21) ∧ ∃ nn, P_X7_call_42 rec Q T nn x1 (8 + 17 * (m ((m 377 0) + 7) x1)) 1 (m ((m 377 0) + 8) x1) (m ((m 377 0) + 2) x1) m := h
  refine b_aload_n dX7_call_0 rfl ?_
  obtain ⟨g1, h⟩ := h
  refine b_getMe dX7_call_1 fk_X7_9 ly_377 g1 ?_
  refine b_getR dX7_call_4 fk_X7_114 ly_3 gg_3_0 ?_
  refine b_aload_n dX7_call_7 rfl ?_
  refine b_getM dX7_call_8 fk_X7_15 ly_377 ?_
  obtain ⟨g2, h⟩ := h
  refine b_getR dX7_call_11 fk_X7_77 (tx_ly0 g2) (tx_gg13 g2) ?_
  refine b_iload_n dX7_call_14 rfl ?_
  obtain ⟨g3, h⟩ := h
  refine b_iald dX7_call_15 (tx_ly7 g2) g3 ?_
  obtain ⟨g4, h⟩ := h
  refine b_aald dX7_call_16 ly_4 (Or.inl rfl) g4 (gg_told _) ?_
  refine b_astore_n (ls' := [vR 377, vI x1, vR (8 + 17 * (m ((m 377 0) + 7) x1)), vU, vU, vU]) dX7_call_17 (Nat.le_of_ble_eq_true rfl) rfl ?_
  refine b_iconst dX7_call_18 ?_
  refine b_istore_n (ls' := [vR 377, vI x1, vR (8 + 17 * (m ((m 377 0) + 7) x1)), vI 1, vU, vU]) dX7_call_19 (Nat.le_of_ble_eq_true rfl) rfl ?_
  refine b_aload_n dX7_call_20 rfl ?_
  refine b_getM dX7_call_21 fk_X7_15 ly_377 ?_
  refine b_getR dX7_call_24 fk_X7_120 (tx_ly0 g2) (tx_gg14 g2) ?_
  refine b_iload_n dX7_call_27 rfl ?_
  refine b_iald dX7_call_28 (tx_ly8 g2) g3 ?_
  refine b_istore (ls' := [vR 377, vI x1, vR (8 + 17 * (m ((m 377 0) + 7) x1)), vI 1, vI (m ((m 377 0) + 8) x1), vU]) dX7_call_29 (Nat.le_of_ble_eq_true rfl) rfl ?_
  refine b_aload_n dX7_call_31 rfl ?_
  refine b_getM dX7_call_32 fk_X7_15 ly_377 ?_
  refine b_getR dX7_call_35 fk_X7_86 (tx_ly0 g2) (tx_gg8 g2) ?_
  refine b_iload_n dX7_call_38 rfl ?_
  refine b_iald dX7_call_39 (tx_ly2 g2) g3 ?_
  refine b_istore (ls' := [vR 377, vI x1, vR (8 + 17 * (m ((m 377 0) + 7) x1)), vI 1, vI (m ((m 377 0) + 8) x1), vI (m ((m 377 0) + 2) x1)]) dX7_call_40 (Nat.le_of_ble_eq_true rfl) rfl ?_
  obtain ⟨nn, h⟩ := h
  exact pl_X7_call_42 hrec hf nn _ _ _ _ _ _ h
theorem w_X7_choice {f : Nat} {Q : Int → MM → Prop} {T : MM → Prop} {rec : Nat → List Int → MM → (Int → MM → Prop) → (MM → Prop) → Prop} {fr : Nat} (hrec : HR_X7_part rec fr) (hf : 5 ≤ f ∧ fr + 1 ≤ f) (x1 : Int) (m : MM) (h : W_X7_choice rec x1 m Q T) : CC f M_X7_choice [vR 377, vI x1] m Q T := by
  refine CC.of (plainFor_of_name (by decide)) (Nat.le_of_ble_eq_true rfl) (ls := [vR 377, vI x1, vU, vU]) rfl ?_
  have h : (isTx (m 377 0)) ∧ (0 ≤ x1 ∧ x1 < 160) ∧ rec 3 [(m ((m 377 0) + 2) x1)] m (fun r1 m1 => (isCd (m1 377 1)) ∧ P_X9_add (m1 377 1) 11 0 0 m1 (fun r2 m2 => (isTx (m2 377 0)) ∧ P_X2_second (m2 377 0) x1 m2 (fun r3 m3 => (isTx (m3 377 0)) ∧ rec 4 [r3, (m3 ((m3 377 0) + 6) x1)] m3 (fun r4 m4 => (isCd (m4 377 1)) ∧ P_X9_add (m4 377 1) 10 0 0 m4 (fun r5 m5 => (isCd (m5 377 1)) ∧ (0 ≤ r2 ∧ r2 < 1200) ∧ ∀ m6 : MM, m6 = up m5 ((m5 377 1) + 2) r2 (m5 (m5 377 1) 3) → (isTx (m6 377 0)) ∧ P_X2_third (m6 377 0) x1 m6 (fun r6 m7 => (isTx (m7 377 0)) ∧ rec 4 [r6, (m7 ((m7 377 0) + 6) x1)] m7 (fun r7 m8 => (isCd (m8 377 1)) ∧ (0 ≤ r5 ∧ r5 < 1200) ∧ ∀ m9 : MM, m9 = up m8 ((m8 377 1) + 2) r5 (m8 (m8 377 1) 3) → Q 0 m9) T))) T))) T := h
  refine b_aload_n dX7_choice_0 rfl ?_
  refine b_aload_n dX7_choice_1 rfl ?_
  refine b_getM dX7_choice_2 fk_X7_15 ly_377 ?_
  obtain ⟨g1, h⟩ := h
  refine b_getR dX7_choice_5 fk_X7_86 (tx_ly0 g1) (tx_gg8 g1) ?_
  refine b_iload_n dX7_choice_8 rfl ?_
  obtain ⟨g2, h⟩ := h
  refine b_iald dX7_choice_9 (tx_ly2 g1) g2 ?_
  refine b_cVv (as := [vI (m ((m 377 0) + 2) x1)]) (st := []) dX7_choice_10 mf_X7_part qs54 lk_X7_34 ly_377 rfl (hrec.2.2.2.1 _ _ _ _ h) (by omega) rfl rfl (Nat.le_of_ble_eq_true rfl) (by decide) rfl (fun _ => rfl) (fun r1 m1 h => ?_) (fun _ h => h)
  refine b_aload_n dX7_choice_13 rfl ?_
  refine b_getM dX7_choice_14 fk_X7_19 ly_377 ?_
  refine b_bipush dX7_choice_17 (by decide) ?_
  refine b_iconst dX7_choice_19 ?_
  refine b_iconst dX7_choice_20 ?_
  obtain ⟨g3, h⟩ := h
  refine b_cVi (as := [vI 11, vI 0, vI 0]) (st := []) dX7_choice_21 mf_X9_add q1259 lk_X7_46 (cd_ly0 g3) rfl (p_X9_add (f := 1) (Nat.le_refl _) _ _ _ _ _ h) (by omega) rfl rfl (Nat.le_of_ble_eq_true rfl) (by decide) rfl (fun _ => rfl) (fun r2 m2 h => ?_) (fun _ h => h)
  refine b_istore_n (ls' := [vR 377, vI x1, vI r2, vU]) dX7_choice_24 (Nat.le_of_ble_eq_true rfl) rfl ?_
  refine b_aload_n dX7_choice_25 rfl ?_
  refine b_aload_n dX7_choice_26 rfl ?_
  refine b_getM dX7_choice_27 fk_X7_15 ly_377 ?_
  refine b_iload_n dX7_choice_30 rfl ?_
  obtain ⟨g4, h⟩ := h
  refine b_cVi (as := [vI x1]) (st := [vR 377]) dX7_choice_31 mf_X2_second q1172 lk_X7_99 (tx_ly0 g4) rfl (p_X2_second (f := 1) (Nat.le_refl _) _ _ _ h) (by omega) rfl rfl (Nat.le_of_ble_eq_true rfl) (by decide) rfl (fun _ => rfl) (fun r3 m3 h => ?_) (fun _ h => h)
  refine b_aload_n dX7_choice_34 rfl ?_
  refine b_getM dX7_choice_35 fk_X7_15 ly_377 ?_
  obtain ⟨g5, h⟩ := h
  refine b_getR dX7_choice_38 fk_X7_38 (tx_ly0 g5) (tx_gg12 g5) ?_
  refine b_iload_n dX7_choice_41 rfl ?_
  refine b_iald dX7_choice_42 (tx_ly6 g5) g2 ?_
  refine b_cVv (as := [vI r3, vI (m3 ((m3 377 0) + 6) x1)]) (st := []) dX7_choice_43 mf_X7_part_2 qs58 lk_X7_91 ly_377 rfl (hrec.2.2.2.2.1 _ _ _ _ _ h) (by omega) rfl rfl (Nat.le_of_ble_eq_true rfl) (by decide) rfl (fun _ => rfl) (fun r4 m4 h => ?_) (fun _ h => h)
  refine b_aload_n dX7_choice_46 rfl ?_
  refine b_getM dX7_choice_47 fk_X7_19 ly_377 ?_
  refine b_bipush dX7_choice_50 (by decide) ?_
  refine b_iconst dX7_choice_52 ?_
  refine b_iconst dX7_choice_53 ?_
  obtain ⟨g6, h⟩ := h
  refine b_cVi (as := [vI 10, vI 0, vI 0]) (st := []) dX7_choice_54 mf_X9_add q1259 lk_X7_46 (cd_ly0 g6) rfl (p_X9_add (f := 1) (Nat.le_refl _) _ _ _ _ _ h) (by omega) rfl rfl (Nat.le_of_ble_eq_true rfl) (by decide) rfl (fun _ => rfl) (fun r5 m5 h => ?_) (fun _ h => h)
  refine b_istore_n (ls' := [vR 377, vI x1, vI r2, vI r5]) dX7_choice_57 (Nat.le_of_ble_eq_true rfl) rfl ?_
  refine b_aload_n dX7_choice_58 rfl ?_
  refine b_getM dX7_choice_59 fk_X7_19 ly_377 ?_
  obtain ⟨g7, h⟩ := h
  refine b_getR dX7_choice_62 fk_X7_102 (cd_ly0 g7) (cd_gg1 g7) ?_
  refine b_iload_n dX7_choice_65 rfl ?_
  refine b_aload_n dX7_choice_66 rfl ?_
  refine b_getM dX7_choice_67 fk_X7_19 ly_377 ?_
  refine b_getI dX7_choice_70 fk_X7_23 (cd_ly0 g7) ?_
  obtain ⟨g8, h⟩ := h
  refine b_iast dX7_choice_73 (cd_ly2 g7) g8 (fun m6 em6 => ?_)
  have h := h m6 em6
  refine b_aload_n dX7_choice_74 rfl ?_
  refine b_aload_n dX7_choice_75 rfl ?_
  refine b_getM dX7_choice_76 fk_X7_15 ly_377 ?_
  refine b_iload_n dX7_choice_79 rfl ?_
  obtain ⟨g9, h⟩ := h
  refine b_cVi (as := [vI x1]) (st := [vR 377]) dX7_choice_80 mf_X2_third q1207 lk_X7_111 (tx_ly0 g9) rfl (p_X2_third (f := 1) (Nat.le_refl _) _ _ _ h) (by omega) rfl rfl (Nat.le_of_ble_eq_true rfl) (by decide) rfl (fun _ => rfl) (fun r6 m7 h => ?_) (fun _ h => h)
  refine b_aload_n dX7_choice_83 rfl ?_
  refine b_getM dX7_choice_84 fk_X7_15 ly_377 ?_
  obtain ⟨g10, h⟩ := h
  refine b_getR dX7_choice_87 fk_X7_38 (tx_ly0 g10) (tx_gg12 g10) ?_
  refine b_iload_n dX7_choice_90 rfl ?_
  refine b_iald dX7_choice_91 (tx_ly6 g10) g2 ?_
  refine b_cVv (as := [vI r6, vI (m7 ((m7 377 0) + 6) x1)]) (st := []) dX7_choice_92 mf_X7_part_2 qs58 lk_X7_91 ly_377 rfl (hrec.2.2.2.2.1 _ _ _ _ _ h) (by omega) rfl rfl (Nat.le_of_ble_eq_true rfl) (by decide) rfl (fun _ => rfl) (fun r7 m8 h => ?_) (fun _ h => h)
  refine b_aload_n dX7_choice_95 rfl ?_
  refine b_getM dX7_choice_96 fk_X7_19 ly_377 ?_
  obtain ⟨g11, h⟩ := h
  refine b_getR dX7_choice_99 fk_X7_102 (cd_ly0 g11) (cd_gg1 g11) ?_
  refine b_iload_n dX7_choice_102 rfl ?_
  refine b_aload_n dX7_choice_103 rfl ?_
  refine b_getM dX7_choice_104 fk_X7_19 ly_377 ?_
  refine b_getI dX7_choice_107 fk_X7_23 (cd_ly0 g11) ?_
  obtain ⟨g12, h⟩ := h
  refine b_iast dX7_choice_110 (cd_ly2 g11) g12 (fun m9 em9 => ?_)
  have h := h m9 em9
  exact b_vret dX7_choice_111 rfl h
theorem pl_X7_function_151 {f : Nat} {Q : Int → MM → Prop} {T : MM → Prop} {rec : Nat → List Int → MM → (Int → MM → Prop) → (MM → Prop) → Prop} {fr : Nat} (hrec : HR_X7_part rec fr) (hf : 5 ≤ f ∧ fr + 1 ≤ f) : ∀ (x2 : Int) (x4 : Int) (x5 : Int) (m : MM), P_X7_function_151 rec Q T x2 x4 x5 m → B f M_X7_function 151 [vR 377, vU, vI x2, vU, vI x4, vI x5] [] m Q T := by
  intro x2 x4 x5 m h
  have h : P_X7_add (28 + x2) x4 x5 m (fun r1 m1 => Q 0 m1) := h
  refine b_aload_n dX7_function_151 rfl ?_
  refine b_bipush dX7_function_152 (by decide) ?_
  refine b_iload_n dX7_function_154 rfl ?_
  refine b_iadd dX7_function_155 ?_
  refine b_iload dX7_function_156 rfl ?_
  refine b_iload dX7_function_158 rfl ?_
  refine b_cVv (as := [vI (28 + x2), vI x4, vI x5]) (st := []) dX7_function_160 mf_X7_add qs56 lk_X7_50 ly_377 rfl (p_X7_add (f := 2) (Nat.le_refl _) _ _ _ _ h) (by omega) rfl rfl (Nat.le_of_ble_eq_true rfl) (by decide) rfl (fun _ => rfl) (fun r1 m1 h => ?_) (fun _ h => h)
  exact b_vret dX7_function_163 rfl h
theorem pl_X7_function_111 {f : Nat} {Q : Int → MM → Prop} {T : MM → Prop} {rec : Nat → List Int → MM → (Int → MM → Prop) → (MM → Prop) → Prop} {fr : Nat} (hrec : HR_X7_part rec fr) (hf : 5 ≤ f ∧ fr + 1 ≤ f) : ∀ (x2 : Int) (x3 : Int) (x4 : Int) (x5 : Int) (m : MM), P_X7_function_111 rec Q T x2 x3 x4 x5 m → B f M_X7_function 111 [vR 377, vU, vI x2, vI x3, vI x4, vI x5] [] m Q T := by
  intro x2 x3 x4 x5 m h
  have h : P_X11_fraction x4 m (fun r1 m1 => rec 4 [x3, r1] m1 (fun r2 m2 => P_X7_function_151 rec Q T x2 r1 x5 m2) T) := h
  refine b_iload dX7_function_111 rfl ?_
  refine b_cSi (as := [vI x4]) (st := []) dX7_function_113 mf_X11_fraction lk_X7_126 (p_X11_fraction (f := 2) (Nat.le_refl _) _ _ h) (by omega) rfl rfl (Nat.le_of_ble_eq_true rfl) (by decide) rfl (fun _ => rfl) (fun r1 m1 h => ?_) (fun _ h => h)
  refine b_istore (ls' := [vR 377, vU, vI x2, vI x3, vI r1, vI x5]) dX7_function_116 (Nat.le_of_ble_eq_true rfl) rfl ?_
  refine b_aload_n dX7_function_118 rfl ?_
  refine b_iload_n dX7_function_119 rfl ?_
  refine b_iload dX7_function_120 rfl ?_
  refine b_cVv (as := [vI x3, vI r1]) (st := []) dX7_function_122 mf_X7_part_2 qs58 lk_X7_91 ly_377 rfl (hrec.2.2.2.2.1 _ _ _ _ _ h) (by omega) rfl rfl (Nat.le_of_ble_eq_true rfl) (by decide) rfl (fun _ => rfl) (fun r2 m2 h => ?_) (fun _ h => h)
  refine b_goto 151 dX7_function_125 (by decide) ?_
  refine b_fgt [true, false, true, false, true, true] (ls' := [vR 377, vU, vI x2, vU, vI r1, vI x5]) rfl rfl ?_
  exact pl_X7_function_151 hrec hf _ _ _ _ h
theorem w_X7_function {f : Nat} {Q : Int → MM → Prop} {T : MM → Prop} {rec : Nat → List Int → MM → (Int → MM → Prop) → (MM → Prop) → Prop} {fr : Nat} (hrec : HR_X7_part rec fr) (hf : 5 ≤ f ∧ fr + 1 ≤ f) (x1 : Int) (m : MM) (h : W_X7_function rec x1 m Q T) : CC f M_X7_function [vR 377, vI x1] m Q T := by
  refine CC.of (plainFor_of_name (by decide)) (Nat.le_of_ble_eq_true rfl) (ls := [vR 377, vI x1, vU, vU, vU, vU]) rfl ?_
  have h : (isTx (m 377 0)) ∧ (0 ≤ x1 ∧ x1 < 160) ∧ (0 ≤ (m ((m 377 0) + 2) x1) ∧ (m ((m 377 0) + 2) x1) < 160) ∧ (RI (m ((m 377 0) + 4) x1)) ∧ (if (m ((m 377 0) + 4) x1) = 0 then rec 4 [(m ((m 377 0) + 2) x1), (m ((m 377 0) + 6) x1)] m (fun r5 m5 => (isTx (m5 377 0)) ∧ rec 4 [(m5 ((m5 377 0) + 3) (m ((m 377 0) + 2) x1)), (m ((m 377 0) + 6) x1)] m5 (fun r6 m6 => P_X7_function_151 rec Q T (m ((m 377 0) + 4) x1) (m ((m 377 0) + 6) (m ((m 377 0) + 2) x1)) (m ((m 377 0) + 6) x1) m6) T) T else (if (m ((m 377 0) + 4) x1) = 3 then rec 3 [(m ((m 377 0) + 2) x1)] m (fun r3 m3 => (isTx (m3 377 0)) ∧ rec 4 [(m3 ((m3 377 0) + 3) (m ((m 377 0) + 2) x1)), (m ((m 377 0) + 6) x1)] m3 (fun r4 m4 => P_X7_function_151 rec Q T (m ((m 377 0) + 4) x1) (m ((m 377 0) + 6) (m ((m 377 0) + 2) x1)) (m ((m 377 0) + 6) x1) m4) T) T else (if (m ((m 377 0) + 4) x1) = 9 then P_X7_function_111 rec Q T (m ((m 377 0) + 4) x1) (m ((m 377 0) + 2) x1) (m ((m 377 0) + 6) (m ((m 377 0) + 2) x1)) (m ((m 377 0) + 6) x1) m else (if (m ((m 377 0) + 4) x1) ≤ 11 then rec 3 [(m ((m 377 0) + 2) x1)] m (fun r1 m1 => (if (m ((m 377 0) + 4) x1) = 2 then (isTx (m1 377 0)) ∧ rec 3 [(m1 ((m1 377 0) + 3) (m ((m 377 0) + 2) x1))] m1 (fun r2 m2 => P_X7_function_151 rec Q T (m ((m 377 0) + 4) x1) (m ((m 377 0) + 6) (m ((m 377 0) + 2) x1)) (m ((m 377 0) + 6) x1) m2) T else P_X7_function_151 rec Q T (m ((m 377 0) + 4) x1) (m ((m 377 0) + 6) (m ((m 377 0) + 2) x1)) (m ((m 377 0) + 6) x1) m1)) T else P_X7_function_111 rec Q T (m ((m 377 0) + 4) x1) (m ((m 377 0) + 2) x1) (m ((m 377 0) + 6) (m ((m 377 0) + 2) x1)) (m ((m 377 0) + 6) x1) m)))) := h
  refine b_aload_n dX7_function_0 rfl ?_
  refine b_getM dX7_function_1 fk_X7_15 ly_377 ?_
  obtain ⟨g1, h⟩ := h
  refine b_getR dX7_function_4 fk_X7_62 (tx_ly0 g1) (tx_gg10 g1) ?_
  refine b_iload_n dX7_function_7 rfl ?_
  obtain ⟨g2, h⟩ := h
  refine b_iald dX7_function_8 (tx_ly4 g1) g2 ?_
  refine b_istore_n (ls' := [vR 377, vI x1, vI (m ((m 377 0) + 4) x1), vU, vU, vU]) dX7_function_9 (Nat.le_of_ble_eq_true rfl) rfl ?_
  refine b_aload_n dX7_function_10 rfl ?_
  refine b_getM dX7_function_11 fk_X7_15 ly_377 ?_
  refine b_getR dX7_function_14 fk_X7_86 (tx_ly0 g1) (tx_gg8 g1) ?_
  refine b_iload_n dX7_function_17 rfl ?_
  refine b_iald dX7_function_18 (tx_ly2 g1) g2 ?_
  refine b_istore_n (ls' := [vR 377, vI x1, vI (m ((m 377 0) + 4) x1), vI (m ((m 377 0) + 2) x1), vU, vU]) dX7_function_19 (Nat.le_of_ble_eq_true rfl) rfl ?_
  refine b_aload_n dX7_function_20 rfl ?_
  refine b_getM dX7_function_21 fk_X7_15 ly_377 ?_
  refine b_getR dX7_function_24 fk_X7_38 (tx_ly0 g1) (tx_gg12 g1) ?_
  refine b_iload_n dX7_function_27 rfl ?_
  obtain ⟨g3, h⟩ := h
  refine b_iald dX7_function_28 (tx_ly6 g1) g3 ?_
  refine b_istore (ls' := [vR 377, vI x1, vI (m ((m 377 0) + 4) x1), vI (m ((m 377 0) + 2) x1), vI (m ((m 377 0) + 6) (m ((m 377 0) + 2) x1)), vU]) dX7_function_29 (Nat.le_of_ble_eq_true rfl) rfl ?_
  refine b_aload_n dX7_function_31 rfl ?_
  refine b_getM dX7_function_32 fk_X7_15 ly_377 ?_
  refine b_getR dX7_function_35 fk_X7_38 (tx_ly0 g1) (tx_gg12 g1) ?_
  refine b_iload_n dX7_function_38 rfl ?_
  refine b_iald dX7_function_39 (tx_ly6 g1) g2 ?_
  refine b_istore (ls' := [vR 377, vI x1, vI (m ((m 377 0) + 4) x1), vI (m ((m 377 0) + 2) x1), vI (m ((m 377 0) + 6) (m ((m 377 0) + 2) x1)), vI (m ((m 377 0) + 6) x1)]) dX7_function_40 (Nat.le_of_ble_eq_true rfl) rfl ?_
  refine b_iload_n dX7_function_42 rfl ?_
  obtain ⟨g4, h⟩ := h
  refine b_if_ne 71 dX7_function_43 g4 (by decide) (fun c1 => ?_) (fun c1 => ?_)
  · have h := ifF c1 h
    refine b_iload_n dX7_function_71 rfl ?_
    refine b_iconst dX7_function_72 ?_
    refine b_icmp_ne 99 dX7_function_73 g4 (by decide) (by decide) (fun c2 => ?_) (fun c2 => ?_)
    · have h := ifF c2 h
      refine b_iload_n dX7_function_99 rfl ?_
      refine b_bipush dX7_function_100 (by decide) ?_
      refine b_icmp_eq 111 dX7_function_102 g4 (by decide) (by decide) (fun c3 => ?_) (fun c3 => ?_)
      · have h := ifT c3 h
        refine b_fgt [true, false, true, true, true, true] (ls' := [vR 377, vU, vI (m ((m 377 0) + 4) x1), vI (m ((m 377 0) + 2) x1), vI (m ((m 377 0) + 6) (m ((m 377 0) + 2) x1)), vI (m ((m 377 0) + 6) x1)]) rfl rfl ?_
        exact pl_X7_function_111 hrec hf _ _ _ _ _ h
      · have h := ifF c3 h
        refine b_iload_n dX7_function_105 rfl ?_
        refine b_bipush dX7_function_106 (by decide) ?_
        refine b_icmp_le 128 dX7_function_108 g4 (by decide) (by decide) (fun c4 => ?_) (fun c4 => ?_)
        · have h := ifT c4 h
          refine b_aload_n dX7_function_128 rfl ?_
          refine b_iload_n dX7_function_129 rfl ?_
          refine b_cVv (as := [vI (m ((m 377 0) + 2) x1)]) (st := []) dX7_function_130 mf_X7_part qs54 lk_X7_34 ly_377 rfl (hrec.2.2.2.1 _ _ _ _ h) (by omega) rfl rfl (Nat.le_of_ble_eq_true rfl) (by decide) rfl (fun _ => rfl) (fun r1 m1 h => ?_) (fun _ h => h)
          refine b_iload_n dX7_function_133 rfl ?_
          refine b_iconst dX7_function_134 ?_
          refine b_icmp_ne 151 dX7_function_135 g4 (by decide) (by decide) (fun c5 => ?_) (fun c5 => ?_)
          · have h := ifF c5 h
            refine b_fgt [true, false, true, false, true, true] (ls' := [vR 377, vU, vI (m ((m 377 0) + 4) x1), vU, vI (m ((m 377 0) + 6) (m ((m 377 0) + 2) x1)), vI (m ((m 377 0) + 6) x1)]) rfl rfl ?_
            exact pl_X7_function_151 hrec hf _ _ _ _ h
          · have h := ifT (Decidable.of_not_not c5) h
            refine b_aload_n dX7_function_138 rfl ?_
            refine b_aload_n dX7_function_139 rfl ?_
            refine b_getM dX7_function_140 fk_X7_15 ly_377 ?_
            obtain ⟨g5, h⟩ := h
            refine b_getR dX7_function_143 fk_X7_93 (tx_ly0 g5) (tx_gg9 g5) ?_
            refine b_iload_n dX7_function_146 rfl ?_
            refine b_iald dX7_function_147 (tx_ly3 g5) g3 ?_
            refine b_cVv (as := [vI (m1 ((m1 377 0) + 3) (m ((m 377 0) + 2) x1))]) (st := []) dX7_function_148 mf_X7_part qs54 lk_X7_34 ly_377 rfl (hrec.2.2.2.1 _ _ _ _ h) (by omega) rfl rfl (Nat.le_of_ble_eq_true rfl) (by decide) rfl (fun _ => rfl) (fun r2 m2 h => ?_) (fun _ h => h)
            refine b_fgt [true, false, true, false, true, true] (ls' := [vR 377, vU, vI (m ((m 377 0) + 4) x1), vU, vI (m ((m 377 0) + 6) (m ((m 377 0) + 2) x1)), vI (m ((m 377 0) + 6) x1)]) rfl rfl ?_
            exact pl_X7_function_151 hrec hf _ _ _ _ h
        · have h := ifF c4 h
          refine b_fgt [true, false, true, true, true, true] (ls' := [vR 377, vU, vI (m ((m 377 0) + 4) x1), vI (m ((m 377 0) + 2) x1), vI (m ((m 377 0) + 6) (m ((m 377 0) + 2) x1)), vI (m ((m 377 0) + 6) x1)]) rfl rfl ?_
          exact pl_X7_function_111 hrec hf _ _ _ _ _ h
    · have h := ifT (Decidable.of_not_not c2) h
      refine b_aload_n dX7_function_76 rfl ?_
      refine b_iload_n dX7_function_77 rfl ?_
      refine b_cVv (as := [vI (m ((m 377 0) + 2) x1)]) (st := []) dX7_function_78 mf_X7_part qs54 lk_X7_34 ly_377 rfl (hrec.2.2.2.1 _ _ _ _ h) (by omega) rfl rfl (Nat.le_of_ble_eq_true rfl) (by decide) rfl (fun _ => rfl) (fun r3 m3 h => ?_) (fun _ h => h)
      refine b_aload_n dX7_function_81 rfl ?_
      refine b_aload_n dX7_function_82 rfl ?_
      refine b_getM dX7_function_83 fk_X7_15 ly_377 ?_
      obtain ⟨g6, h⟩ := h
      refine b_getR dX7_function_86 fk_X7_93 (tx_ly0 g6) (tx_gg9 g6) ?_
      refine b_iload_n dX7_function_89 rfl ?_
      refine b_iald dX7_function_90 (tx_ly3 g6) g3 ?_
      refine b_iload dX7_function_91 rfl ?_
      refine b_cVv (as := [vI (m3 ((m3 377 0) + 3) (m ((m 377 0) + 2) x1)), vI (m ((m 377 0) + 6) x1)]) (st := []) dX7_function_93 mf_X7_part_2 qs58 lk_X7_91 ly_377 rfl (hrec.2.2.2.2.1 _ _ _ _ _ h) (by omega) rfl rfl (Nat.le_of_ble_eq_true rfl) (by decide) rfl (fun _ => rfl) (fun r4 m4 h => ?_) (fun _ h => h)
      refine b_goto 151 dX7_function_96 (by decide) ?_
      refine b_fgt [true, false, true, false, true, true] (ls' := [vR 377, vU, vI (m ((m 377 0) + 4) x1), vU, vI (m ((m 377 0) + 6) (m ((m 377 0) + 2) x1)), vI (m ((m 377 0) + 6) x1)]) rfl rfl ?_
      exact pl_X7_function_151 hrec hf _ _ _ _ h
  · have h := ifT (Decidable.of_not_not c1) h
    refine b_aload_n dX7_function_46 rfl ?_
    refine b_iload_n dX7_function_47 rfl ?_
    refine b_iload dX7_function_48 rfl ?_
    refine b_cVv (as := [vI (m ((m 377 0) + 2) x1), vI (m ((m 377 0) + 6) x1)]) (st := []) dX7_function_50 mf_X7_part_2 qs58 lk_X7_91 ly_377 rfl (hrec.2.2.2.2.1 _ _ _ _ _ h) (by omega) rfl rfl (Nat.le_of_ble_eq_true rfl) (by decide) rfl (fun _ => rfl) (fun r5 m5 h => ?_) (fun _ h => h)
    refine b_aload_n dX7_function_53 rfl ?_
    refine b_aload_n dX7_function_54 rfl ?_
    refine b_getM dX7_function_55 fk_X7_15 ly_377 ?_
    obtain ⟨g7, h⟩ := h
    refine b_getR dX7_function_58 fk_X7_93 (tx_ly0 g7) (tx_gg9 g7) ?_
    refine b_iload_n dX7_function_61 rfl ?_
    refine b_iald dX7_function_62 (tx_ly3 g7) g3 ?_
    refine b_iload dX7_function_63 rfl ?_
    refine b_cVv (as := [vI (m5 ((m5 377 0) + 3) (m ((m 377 0) + 2) x1)), vI (m ((m 377 0) + 6) x1)]) (st := []) dX7_function_65 mf_X7_part_2 qs58 lk_X7_91 ly_377 rfl (hrec.2.2.2.2.1 _ _ _ _ _ h) (by omega) rfl rfl (Nat.le_of_ble_eq_true rfl) (by decide) rfl (fun _ => rfl) (fun r6 m6 h => ?_) (fun _ h => h)
    refine b_goto 151 dX7_function_68 (by decide) ?_
    refine b_fgt [true, false, true, false, true, true] (ls' := [vR 377, vU, vI (m ((m 377 0) + 4) x1), vU, vI (m ((m 377 0) + 6) (m ((m 377 0) + 2) x1)), vI (m ((m 377 0) + 6) x1)]) rfl rfl ?_
    exact pl_X7_function_151 hrec hf _ _ _ _ h
theorem pl_X7_part_234 {f : Nat} {Q : Int → MM → Prop} {T : MM → Prop} {rec : Nat → List Int → MM → (Int → MM → Prop) → (MM → Prop) → Prop} {fr : Nat} (hrec : HR_X7_part rec fr) (hf : 5 ≤ f ∧ fr + 1 ≤ f) : ∀ (x2 : Int) (m : MM), P_X7_part_234 rec Q T x2 m → B f M_X7_part 234 [vR 377, vU, vI x2, vU, vU, vU] [] m Q T := by
  intro x2 m h
  have h : ((RI x2)) ∧ P_X7_add 2 (if x2 = 1 then 1 else 2 : Int) 0 m (fun r1 m1 => Q 0 m1) := h
  refine b_aload_n dX7_part_234 rfl ?_
  refine b_iconst dX7_part_235 ?_
  refine b_iload_n dX7_part_236 rfl ?_
  refine b_iconst dX7_part_237 ?_
  obtain ⟨hs, h⟩ := h
  have K : B f M_X7_part 246 [vR 377, vU, vI x2, vU, vU, vU] [vI (if x2 = 1 then 1 else 2 : Int), vI 2, vR 377] m Q T := by
    clear hs
    refine b_iconst dX7_part_246 ?_
    refine b_cVv (as := [vI 2, vI (if x2 = 1 then 1 else 2 : Int), vI 0]) (st := []) dX7_part_247 mf_X7_add qs56 lk_X7_50 ly_377 rfl (p_X7_add (f := 2) (Nat.le_refl _) _ _ _ _ h) (by omega) rfl rfl (Nat.le_of_ble_eq_true rfl) (by decide) rfl (fun _ => rfl) (fun r1 m1 h => ?_) (fun _ h => h)
    refine b_goto 580 dX7_part_250 (by decide) ?_
    exact b_vret dX7_part_580 rfl h
  have g1 := hs
  refine b_icmp_ne 245 dX7_part_238 g1 (by decide) (by decide) (fun c1 => ?_) (fun c1 => ?_)
  ·
    refine b_iconst dX7_part_245 ?_
    rw [if_neg c1] at K
    exact K
  ·
    have c1 := Decidable.of_not_not c1
    refine b_iconst dX7_part_241 ?_
    refine b_goto 246 dX7_part_242 (by decide) ?_
    rw [if_pos c1] at K
    exact K
theorem pl_X7_part_362 {f : Nat} {Q : Int → MM → Prop} {T : MM → Prop} {rec : Nat → List Int → MM → (Int → MM → Prop) → (MM → Prop) → Prop} {fr : Nat} (hrec : HR_X7_part rec fr) (hf : 5 ≤ f ∧ fr + 1 ≤ f) : ∀ (x3 : Int) (m : MM), P_X7_part_362 rec Q T x3 m → B f M_X7_part 362 [vR 377, vU, vU, vI x3, vU, vU] [] m Q T := by
  intro x3 m h
  have h : P_X7_add 27 x3 0 m (fun r1 m1 => Q 0 m1) := h
  refine b_aload_n dX7_part_362 rfl ?_
  refine b_bipush dX7_part_363 (by decide) ?_
  refine b_iload_n dX7_part_365 rfl ?_
  refine b_iconst dX7_part_366 ?_
  refine b_cVv (as := [vI 27, vI x3, vI 0]) (st := []) dX7_part_367 mf_X7_add qs56 lk_X7_50 ly_377 rfl (p_X7_add (f := 2) (Nat.le_refl _) _ _ _ _ h) (by omega) rfl rfl (Nat.le_of_ble_eq_true rfl) (by decide) rfl (fun _ => rfl) (fun r1 m1 h => ?_) (fun _ h => h)
  refine b_goto 580 dX7_part_370 (by decide) ?_
  exact b_vret dX7_part_580 rfl h
theorem pl_X7_part_331 {f : Nat} {Q : Int → MM → Prop} {T : MM → Prop} {rec : Nat → List Int → MM → (Int → MM → Prop) → (MM → Prop) → Prop} {fr : Nat} (hrec : HR_X7_part rec fr) (hf : 5 ≤ f ∧ fr + 1 ≤ f) : ∀ (n : Nat) (x3 : Int) (x5 : Int) (m : MM), P_X7_part_331 rec Q T n x3 x5 m → B f M_X7_part 331 [vR 377, vU, vU, vI x3, vU, vI x5] [] m Q T := by
  intro n
  induction n with
  | zero => intro x3 x5 m h; exact h.elim
  | succ n ih =>
    intro x3 x5 m h
    have h : (RI x5) ∧ (if x5 = (-1) then P_X7_part_362 rec Q T x3 m else P_X11_plain x3 m (fun r1 m1 => rec 4 [x5, r1] m1 (fun r2 m2 => (isTx (m2 377 0)) ∧ (0 ≤ x5 ∧ x5 < 160) ∧ P_X7_part_331 rec Q T n x3 (m2 ((m2 377 0) + 3) x5) m2) T)) := h
    refine b_iload dX7_part_331 rfl ?_
    refine b_iconst dX7_part_333 ?_
    obtain ⟨g1, h⟩ := h
    refine b_icmp_eq 362 dX7_part_334 g1 (by decide) (by decide) (fun c1 => ?_) (fun c1 => ?_)
    · have h := ifT c1 h
      refine b_fgt [true, false, false, true, false, false] (ls' := [vR 377, vU, vU, vI x3, vU, vU]) rfl rfl ?_
      exact pl_X7_part_362 hrec hf _ _ h
    · have h := ifF c1 h
      refine b_aload_n dX7_part_337 rfl ?_
      refine b_iload dX7_part_338 rfl ?_
      refine b_iload_n dX7_part_340 rfl ?_
      refine b_cSi (as := [vI x3]) (st := [vI x5, vR 377]) dX7_part_341 mf_X11_plain lk_X7_88 (p_X11_plain (f := 1) (Nat.le_refl _) _ _ h) (by omega) rfl rfl (Nat.le_of_ble_eq_true rfl) (by decide) rfl (fun _ => rfl) (fun r1 m1 h => ?_) (fun _ h => h)
      refine b_cVv (as := [vI x5, vI r1]) (st := []) dX7_part_344 mf_X7_part_2 qs58 lk_X7_91 ly_377 rfl (hrec.2.2.2.2.1 _ _ _ _ _ h) (by omega) rfl rfl (Nat.le_of_ble_eq_true rfl) (by decide) rfl (fun _ => rfl) (fun r2 m2 h => ?_) (fun _ h => h)
      refine b_aload_n dX7_part_347 rfl ?_
      refine b_getM dX7_part_348 fk_X7_15 ly_377 ?_
      obtain ⟨g2, h⟩ := h
      refine b_getR dX7_part_351 fk_X7_93 (tx_ly0 g2) (tx_gg9 g2) ?_
      refine b_iload dX7_part_354 rfl ?_
      obtain ⟨g3, h⟩ := h
      refine b_iald dX7_part_356 (tx_ly3 g2) g3 ?_
      refine b_istore (ls' := [vR 377, vU, vU, vI x3, vU, vI (m2 ((m2 377 0) + 3) x5)]) dX7_part_357 (Nat.le_of_ble_eq_true rfl) rfl ?_
      refine b_goto 331 dX7_part_359 (by decide) ?_
      exact ih _ _ _ h
theorem pl_X7_part_381 {f : Nat} {Q : Int → MM → Prop} {T : MM → Prop} {rec : Nat → List Int → MM → (Int → MM → Prop) → (MM → Prop) → Prop} {fr : Nat} (hrec : HR_X7_part rec fr) (hf : 5 ≤ f ∧ fr + 1 ≤ f) : ∀ (x1 : Int) (x2 : Int) (m : MM), P_X7_part_381 rec Q T x1 x2 m → B f M_X7_part 381 [vR 377, vI x1, vI x2, vU, vU, vU] [] m Q T := by
  intro x1 x2 m h
  have h : (isTx (m 377 0)) ∧ (0 ≤ x1 ∧ x1 < 160) ∧ rec 3 [(m ((m 377 0) + 2) x1)] m (fun r1 m1 => ((RI x2)) ∧ (isCd (m1 377 1)) ∧ P_X9_add (m1 377 1) (if x2 = 9 then 12 else 13 : Int) 0 0 m1 (fun r2 m2 => (isTx (m2 377 0)) ∧ P_X2_second (m2 377 0) x1 m2 (fun r3 m3 => rec 3 [r3] m3 (fun r4 m4 => (isCd (m4 377 1)) ∧ (0 ≤ r2 ∧ r2 < 1200) ∧ ∀ m5 : MM, m5 = up m4 ((m4 377 1) + 2) r2 (m4 (m4 377 1) 3) → Q 0 m5) T))) T := h
  refine b_aload_n dX7_part_381 rfl ?_
  refine b_aload_n dX7_part_382 rfl ?_
  refine b_getM dX7_part_383 fk_X7_15 ly_377 ?_
  obtain ⟨g1, h⟩ := h
  refine b_getR dX7_part_386 fk_X7_86 (tx_ly0 g1) (tx_gg8 g1) ?_
  refine b_iload_n dX7_part_389 rfl ?_
  obtain ⟨g2, h⟩ := h
  refine b_iald dX7_part_390 (tx_ly2 g1) g2 ?_
  refine b_cVv (as := [vI (m ((m 377 0) + 2) x1)]) (st := []) dX7_part_391 mf_X7_part qs54 lk_X7_34 ly_377 rfl (hrec.2.2.2.1 _ _ _ _ h) (by omega) rfl rfl (Nat.le_of_ble_eq_true rfl) (by decide) rfl (fun _ => rfl) (fun r1 m1 h => ?_) (fun _ h => h)
  refine b_aload_n dX7_part_394 rfl ?_
  refine b_getM dX7_part_395 fk_X7_19 ly_377 ?_
  refine b_iload_n dX7_part_398 rfl ?_
  refine b_bipush dX7_part_399 (by decide) ?_
  obtain ⟨hs, h⟩ := h
  have K : B f M_X7_part 411 [vR 377, vI x1, vI x2, vU, vU, vU] [vI (if x2 = 9 then 12 else 13 : Int), vR (m1 377 1)] m1 Q T := by
    clear hs
    refine b_iconst dX7_part_411 ?_
    refine b_iconst dX7_part_412 ?_
    obtain ⟨g4, h⟩ := h
    refine b_cVi (as := [vI (if x2 = 9 then 12 else 13 : Int), vI 0, vI 0]) (st := []) dX7_part_413 mf_X9_add q1259 lk_X7_46 (cd_ly0 g4) rfl (p_X9_add (f := 1) (Nat.le_refl _) _ _ _ _ _ h) (by omega) rfl rfl (Nat.le_of_ble_eq_true rfl) (by decide) rfl (fun _ => rfl) (fun r2 m2 h => ?_) (fun _ h => h)
    refine b_istore (ls' := [vR 377, vI x1, vI x2, vU, vU, vI r2]) dX7_part_416 (Nat.le_of_ble_eq_true rfl) rfl ?_
    refine b_aload_n dX7_part_418 rfl ?_
    refine b_aload_n dX7_part_419 rfl ?_
    refine b_getM dX7_part_420 fk_X7_15 ly_377 ?_
    refine b_iload_n dX7_part_423 rfl ?_
    obtain ⟨g5, h⟩ := h
    refine b_cVi (as := [vI x1]) (st := [vR 377]) dX7_part_424 mf_X2_second q1172 lk_X7_99 (tx_ly0 g5) rfl (p_X2_second (f := 1) (Nat.le_refl _) _ _ _ h) (by omega) rfl rfl (Nat.le_of_ble_eq_true rfl) (by decide) rfl (fun _ => rfl) (fun r3 m3 h => ?_) (fun _ h => h)
    refine b_cVv (as := [vI r3]) (st := []) dX7_part_427 mf_X7_part qs54 lk_X7_34 ly_377 rfl (hrec.2.2.2.1 _ _ _ _ h) (by omega) rfl rfl (Nat.le_of_ble_eq_true rfl) (by decide) rfl (fun _ => rfl) (fun r4 m4 h => ?_) (fun _ h => h)
    refine b_aload_n dX7_part_430 rfl ?_
    refine b_getM dX7_part_431 fk_X7_19 ly_377 ?_
    obtain ⟨g6, h⟩ := h
    refine b_getR dX7_part_434 fk_X7_102 (cd_ly0 g6) (cd_gg1 g6) ?_
    refine b_iload dX7_part_437 rfl ?_
    refine b_aload_n dX7_part_439 rfl ?_
    refine b_getM dX7_part_440 fk_X7_19 ly_377 ?_
    refine b_getI dX7_part_443 fk_X7_23 (cd_ly0 g6) ?_
    obtain ⟨g7, h⟩ := h
    refine b_iast dX7_part_446 (cd_ly2 g6) g7 (fun m5 em5 => ?_)
    have h := h m5 em5
    refine b_goto 580 dX7_part_447 (by decide) ?_
    exact b_vret dX7_part_580 rfl h
  have g3 := hs
  refine b_icmp_ne 409 dX7_part_401 g3 (by decide) (by decide) (fun c1 => ?_) (fun c1 => ?_)
  ·
    refine b_bipush dX7_part_409 (by decide) ?_
    rw [if_neg c1] at K
    exact K
  ·
    have c1 := Decidable.of_not_not c1
    refine b_bipush dX7_part_404 (by decide) ?_
    refine b_goto 411 dX7_part_406 (by decide) ?_
    rw [if_pos c1] at K
    exact K
theorem pl_X7_part_450 {f : Nat} {Q : Int → MM → Prop} {T : MM → Prop} {rec : Nat → List Int → MM → (Int → MM → Prop) → (MM → Prop) → Prop} {fr : Nat} (hrec : HR_X7_part rec fr) (hf : 5 ≤ f ∧ fr + 1 ≤ f) : ∀ (x1 : Int) (x2 : Int) (x3 : Int) (m : MM), P_X7_part_450 rec Q T x1 x2 x3 m → B f M_X7_part 450 [vR 377, vI x1, vI x2, vI x3, vU, vU] [] m Q T := by
  intro x1 x2 x3 m h
  have h : (isTx (m 377 0)) ∧ (0 ≤ x1 ∧ x1 < 160) ∧ rec 3 [(m ((m 377 0) + 2) x1)] m (fun r1 m1 => ((RI x2)) ∧ P_X7_add (if x2 = 11 then 14 else 25 : Int) x3 0 m1 (fun r2 m2 => Q 0 m2)) T := h
  refine b_aload_n dX7_part_450 rfl ?_
  refine b_aload_n dX7_part_451 rfl ?_
  refine b_getM dX7_part_452 fk_X7_15 ly_377 ?_
  obtain ⟨g1, h⟩ := h
  refine b_getR dX7_part_455 fk_X7_86 (tx_ly0 g1) (tx_gg8 g1) ?_
  refine b_iload_n dX7_part_458 rfl ?_
  obtain ⟨g2, h⟩ := h
  refine b_iald dX7_part_459 (tx_ly2 g1) g2 ?_
  refine b_cVv (as := [vI (m ((m 377 0) + 2) x1)]) (st := []) dX7_part_460 mf_X7_part qs54 lk_X7_34 ly_377 rfl (hrec.2.2.2.1 _ _ _ _ h) (by omega) rfl rfl (Nat.le_of_ble_eq_true rfl) (by decide) rfl (fun _ => rfl) (fun r1 m1 h => ?_) (fun _ h => h)
  refine b_aload_n dX7_part_463 rfl ?_
  refine b_iload_n dX7_part_464 rfl ?_
  refine b_bipush dX7_part_465 (by decide) ?_
  obtain ⟨hs, h⟩ := h
  have K : B f M_X7_part 477 [vR 377, vI x1, vI x2, vI x3, vU, vU] [vI (if x2 = 11 then 14 else 25 : Int), vR 377] m1 Q T := by
    clear hs
    refine b_iload_n dX7_part_477 rfl ?_
    refine b_iconst dX7_part_478 ?_
    refine b_cVv (as := [vI (if x2 = 11 then 14 else 25 : Int), vI x3, vI 0]) (st := []) dX7_part_479 mf_X7_add qs56 lk_X7_50 ly_377 rfl (p_X7_add (f := 2) (Nat.le_refl _) _ _ _ _ h) (by omega) rfl rfl (Nat.le_of_ble_eq_true rfl) (by decide) rfl (fun _ => rfl) (fun r2 m2 h => ?_) (fun _ h => h)
    refine b_goto 580 dX7_part_482 (by decide) ?_
    exact b_vret dX7_part_580 rfl h
  have g3 := hs
  refine b_icmp_ne 475 dX7_part_467 g3 (by decide) (by decide) (fun c1 => ?_) (fun c1 => ?_)
  ·
    refine b_bipush dX7_part_475 (by decide) ?_
    rw [if_neg c1] at K
    exact K
  ·
    have c1 := Decidable.of_not_not c1
    refine b_bipush dX7_part_470 (by decide) ?_
    refine b_goto 477 dX7_part_472 (by decide) ?_
    rw [if_pos c1] at K
    exact K
theorem pl_X7_part_574 {f : Nat} {Q : Int → MM → Prop} {T : MM → Prop} {rec : Nat → List Int → MM → (Int → MM → Prop) → (MM → Prop) → Prop} {fr : Nat} (hrec : HR_X7_part rec fr) (hf : 5 ≤ f ∧ fr + 1 ≤ f) : ∀ (x1 : Int) (x2 : Int) (m : MM), P_X7_part_574 rec Q T x1 x2 m → B f M_X7_part 574 [vR 377, vI x1, vI x2, vU, vU, vU] [] m Q T := by
  intro x1 x2 m h
  have h : rec 5 [x1, x2] m (fun r1 m1 => Q 0 m1) T := h
  refine b_aload_n dX7_part_574 rfl ?_
  refine b_iload_n dX7_part_575 rfl ?_
  refine b_iload_n dX7_part_576 rfl ?_
  refine b_cVv (as := [vI x1, vI x2]) (st := []) dX7_part_577 mf_X7_two qs62 lk_X7_105 ly_377 rfl (hrec.2.2.2.2.2.1 _ _ _ _ _ h) (by omega) rfl rfl (Nat.le_of_ble_eq_true rfl) (by decide) rfl (fun _ => rfl) (fun r1 m1 h => ?_) (fun _ h => h)
  exact b_vret dX7_part_580 rfl h
theorem pl_X7_part_87 {f : Nat} {Q : Int → MM → Prop} {T : MM → Prop} {rec : Nat → List Int → MM → (Int → MM → Prop) → (MM → Prop) → Prop} {fr : Nat} (hrec : HR_X7_part rec fr) (hf : 5 ≤ f ∧ fr + 1 ≤ f) : ∀ (x1 : Int) (x2 : Int) (x3 : Int) (s0 : Int) (m : MM), P_X7_part_87 rec Q T x1 x2 x3 s0 m → B f M_X7_part 87 [vR 377, vI x1, vI x2, vI x3, vU, vU] [vI s0] m Q T := by
  intro x1 x2 x3 s0 m h
  have h : P_X7_add 0 s0 0 m (fun r1 m1 => (RI x2) ∧ (if x2 = 0 then (isTx (m1 377 0)) ∧ (0 ≤ x1 ∧ x1 < 160) ∧ P_X7_add 1 (m1 ((m1 377 0) + 4) x1) 0 m1 (fun r2 m2 => Q 0 m2) else (if x2 = 1 then P_X7_part_234 rec Q T x2 m1 else (if x2 = 2 then P_X7_part_234 rec Q T x2 m1 else (if x2 = 3 then (isTx (m1 377 0)) ∧ (0 ≤ x1 ∧ x1 < 160) ∧ P_X7_add 3 (m1 ((m1 377 0) + 4) x1) x3 m1 (fun r3 m3 => Q 0 m3) else (if x2 = 4 then (isTx (m1 377 0)) ∧ ((RI (m1 (m1 377 0) 1))) ∧ (0 ≤ x1 ∧ x1 < 160) ∧ P_X7_add (if (m1 (m1 377 0) 1) = 2 then 5 else 4 : Int) (m1 ((m1 377 0) + 7) x1) x3 m1 (fun r4 m4 => Q 0 m4) else (if x2 = 5 then rec 0 [x1] m1 (fun r5 m5 => Q 0 m5) T else (if x2 = 6 then rec 2 [x1] m1 (fun r6 m6 => Q 0 m6) T else (if x2 = 7 then (isTx (m1 377 0)) ∧ (0 ≤ x1 ∧ x1 < 160) ∧ ∃ nn, P_X7_part_331 rec Q T nn x3 (m1 ((m1 377 0) + 2) x1) m1 else (if x2 = 8 then rec 1 [x1] m1 (fun r7 m7 => Q 0 m7) T else (if x2 = 9 then P_X7_part_381 rec Q T x1 x2 m1 else (if x2 = 10 then P_X7_part_381 rec Q T x1 x2 m1 else (if x2 = 11 then P_X7_part_450 rec Q T x1 x2 x3 m1 else (if x2 = 22 then P_X7_part_450 rec Q T x1 x2 x3 m1 else (if x2 = 23 then (isTx (m1 377 0)) ∧ (0 ≤ x1 ∧ x1 < 160) ∧ rec 3 [(m1 ((m1 377 0) + 2) x1)] m1 (fun r8 m8 => (isTx (m8 377 0)) ∧ P_X7_add 26 x3 (m8 ((m8 377 0) + 4) x1) m8 (fun r9 m9 => Q 0 m9)) T else (if x2 = 24 then (isTx (m1 377 0)) ∧ (0 ≤ x1 ∧ x1 < 160) ∧ rec 4 [(m1 ((m1 377 0) + 2) x1), x3] m1 (fun r10 m10 => Q 0 m10) T else (if x2 = 25 then (isTx (m1 377 0)) ∧ (0 ≤ x1 ∧ x1 < 160) ∧ rec 3 [(m1 ((m1 377 0) + 2) x1)] m1 (fun r11 m11 => (isTx (m11 377 0)) ∧ (0 ≤ (m11 ((m11 377 0) + 2) x1) ∧ (m11 ((m11 377 0) + 2) x1) < 160) ∧ P_X7_add 7 (m11 ((m11 377 0) + 6) (m11 ((m11 377 0) + 2) x1)) x3 m11 (fun r12 m12 => Q 0 m12)) T else P_X7_part_574 rec Q T x1 x2 m1))))))))))))))))) := h
  refine b_istore (ls' := [vR 377, vI x1, vI x2, vI x3, vI s0, vU]) dX7_part_87 (Nat.le_of_ble_eq_true rfl) rfl ?_
  refine b_aload_n dX7_part_89 rfl ?_
  refine b_iconst dX7_part_90 ?_
  refine b_iload dX7_part_91 rfl ?_
  refine b_iconst dX7_part_93 ?_
  refine b_cVv (as := [vI 0, vI s0, vI 0]) (st := []) dX7_part_94 mf_X7_add qs56 lk_X7_50 ly_377 rfl (p_X7_add (f := 2) (Nat.le_refl _) _ _ _ _ h) (by omega) rfl rfl (Nat.le_of_ble_eq_true rfl) (by decide) rfl (fun _ => rfl) (fun r1 m1 h => ?_) (fun _ h => h)
  refine b_iload_n dX7_part_97 rfl ?_
  obtain ⟨g1, h⟩ := h
  by_cases c1 : x2 = 0
  · have h := ifT c1 h
    refine b_tswIn 216 dX7_part_98 g1 (by omega) (by omega) (by rw [c1]; rfl) (by decide) ?_
    refine b_aload_n dX7_part_216 rfl ?_
    refine b_iconst dX7_part_217 ?_
    refine b_aload_n dX7_part_218 rfl ?_
    refine b_getM dX7_part_219 fk_X7_15 ly_377 ?_
    obtain ⟨g2, h⟩ := h
    refine b_getR dX7_part_222 fk_X7_62 (tx_ly0 g2) (tx_gg10 g2) ?_
    refine b_iload_n dX7_part_225 rfl ?_
    obtain ⟨g3, h⟩ := h
    refine b_iald dX7_part_226 (tx_ly4 g2) g3 ?_
    refine b_iconst dX7_part_227 ?_
    refine b_cVv (as := [vI 1, vI (m1 ((m1 377 0) + 4) x1), vI 0]) (st := []) dX7_part_228 mf_X7_add qs56 lk_X7_50 ly_377 rfl (p_X7_add (f := 2) (Nat.le_refl _) _ _ _ _ h) (by omega) rfl rfl (Nat.le_of_ble_eq_true rfl) (by decide) rfl (fun _ => rfl) (fun r2 m2 h => ?_) (fun _ h => h)
    refine b_goto 580 dX7_part_231 (by decide) ?_
    exact b_vret dX7_part_580 rfl h
  have h := ifF c1 h
  by_cases c2 : x2 = 1
  · have h := ifT c2 h
    refine b_tswIn 234 dX7_part_98 g1 (by omega) (by omega) (by rw [c2]; rfl) (by decide) ?_
    refine b_fgt [true, false, true, false, false, false] (ls' := [vR 377, vU, vI x2, vU, vU, vU]) rfl rfl ?_
    exact pl_X7_part_234 hrec hf _ _ h
  have h := ifF c2 h
  by_cases c3 : x2 = 2
  · have h := ifT c3 h
    refine b_tswIn 234 dX7_part_98 g1 (by omega) (by omega) (by rw [c3]; rfl) (by decide) ?_
    refine b_fgt [true, false, true, false, false, false] (ls' := [vR 377, vU, vI x2, vU, vU, vU]) rfl rfl ?_
    exact pl_X7_part_234 hrec hf _ _ h
  have h := ifF c3 h
  by_cases c4 : x2 = 3
  · have h := ifT c4 h
    refine b_tswIn 253 dX7_part_98 g1 (by omega) (by omega) (by rw [c4]; rfl) (by decide) ?_
    refine b_aload_n dX7_part_253 rfl ?_
    refine b_iconst dX7_part_254 ?_
    refine b_aload_n dX7_part_255 rfl ?_
    refine b_getM dX7_part_256 fk_X7_15 ly_377 ?_
    obtain ⟨g4, h⟩ := h
    refine b_getR dX7_part_259 fk_X7_62 (tx_ly0 g4) (tx_gg10 g4) ?_
    refine b_iload_n dX7_part_262 rfl ?_
    obtain ⟨g5, h⟩ := h
    refine b_iald dX7_part_263 (tx_ly4 g4) g5 ?_
    refine b_iload_n dX7_part_264 rfl ?_
    refine b_cVv (as := [vI 3, vI (m1 ((m1 377 0) + 4) x1), vI x3]) (st := []) dX7_part_265 mf_X7_add qs56 lk_X7_50 ly_377 rfl (p_X7_add (f := 2) (Nat.le_refl _) _ _ _ _ h) (by omega) rfl rfl (Nat.le_of_ble_eq_true rfl) (by decide) rfl (fun _ => rfl) (fun r3 m3 h => ?_) (fun _ h => h)
    refine b_goto 580 dX7_part_268 (by decide) ?_
    exact b_vret dX7_part_580 rfl h
  have h := ifF c4 h
  by_cases c5 : x2 = 4
  · have h := ifT c5 h
    refine b_tswIn 271 dX7_part_98 g1 (by omega) (by omega) (by rw [c5]; rfl) (by decide) ?_
    refine b_aload_n dX7_part_271 rfl ?_
    refine b_aload_n dX7_part_272 rfl ?_
    refine b_getM dX7_part_273 fk_X7_15 ly_377 ?_
    obtain ⟨g6, h⟩ := h
    refine b_getI dX7_part_276 fk_X7_74 (tx_ly0 g6) ?_
    refine b_iconst dX7_part_279 ?_
    obtain ⟨hs, h⟩ := h
    have K : B f M_X7_part 288 [vR 377, vI x1, vI x2, vI x3, vI s0, vU] [vI (if (m1 (m1 377 0) 1) = 2 then 5 else 4 : Int), vR 377] m1 Q T := by
      clear hs
      refine b_aload_n dX7_part_288 rfl ?_
      refine b_getM dX7_part_289 fk_X7_15 ly_377 ?_
      refine b_getR dX7_part_292 fk_X7_77 (tx_ly0 g6) (tx_gg13 g6) ?_
      refine b_iload_n dX7_part_295 rfl ?_
      obtain ⟨g8, h⟩ := h
      refine b_iald dX7_part_296 (tx_ly7 g6) g8 ?_
      refine b_iload_n dX7_part_297 rfl ?_
      refine b_cVv (as := [vI (if (m1 (m1 377 0) 1) = 2 then 5 else 4 : Int), vI (m1 ((m1 377 0) + 7) x1), vI x3]) (st := []) dX7_part_298 mf_X7_add qs56 lk_X7_50 ly_377 rfl (p_X7_add (f := 2) (Nat.le_refl _) _ _ _ _ h) (by omega) rfl rfl (Nat.le_of_ble_eq_true rfl) (by decide) rfl (fun _ => rfl) (fun r4 m4 h => ?_) (fun _ h => h)
      refine b_goto 580 dX7_part_301 (by decide) ?_
      exact b_vret dX7_part_580 rfl h
    have g7 := hs
    refine b_icmp_ne 287 dX7_part_280 g7 (by decide) (by decide) (fun c6 => ?_) (fun c6 => ?_)
    ·
      refine b_iconst dX7_part_287 ?_
      rw [if_neg c6] at K
      exact K
    ·
      have c6 := Decidable.of_not_not c6
      refine b_iconst dX7_part_283 ?_
      refine b_goto 288 dX7_part_284 (by decide) ?_
      rw [if_pos c6] at K
      exact K
  have h := ifF c5 h
  by_cases c7 : x2 = 5
  · have h := ifT c7 h
    refine b_tswIn 304 dX7_part_98 g1 (by omega) (by omega) (by rw [c7]; rfl) (by decide) ?_
    refine b_aload_n dX7_part_304 rfl ?_
    refine b_iload_n dX7_part_305 rfl ?_
    refine b_cVv (as := [vI x1]) (st := []) dX7_part_306 mf_X7_call qs57 lk_X7_80 ly_377 rfl (hrec.1 _ _ _ _ h) (by omega) rfl rfl (Nat.le_of_ble_eq_true rfl) (by decide) rfl (fun _ => rfl) (fun r5 m5 h => ?_) (fun _ h => h)
    refine b_goto 580 dX7_part_309 (by decide) ?_
    exact b_vret dX7_part_580 rfl h
  have h := ifF c7 h
  by_cases c8 : x2 = 6
  · have h := ifT c8 h
    refine b_tswIn 312 dX7_part_98 g1 (by omega) (by omega) (by rw [c8]; rfl) (by decide) ?_
    refine b_aload_n dX7_part_312 rfl ?_
    refine b_iload_n dX7_part_313 rfl ?_
    refine b_cVv (as := [vI x1]) (st := []) dX7_part_314 mf_X7_function qs60 lk_X7_83 ly_377 rfl (hrec.2.2.1 _ _ _ _ h) (by omega) rfl rfl (Nat.le_of_ble_eq_true rfl) (by decide) rfl (fun _ => rfl) (fun r6 m6 h => ?_) (fun _ h => h)
    refine b_goto 580 dX7_part_317 (by decide) ?_
    exact b_vret dX7_part_580 rfl h
  have h := ifF c8 h
  by_cases c9 : x2 = 7
  · have h := ifT c9 h
    refine b_tswIn 320 dX7_part_98 g1 (by omega) (by omega) (by rw [c9]; rfl) (by decide) ?_
    refine b_aload_n dX7_part_320 rfl ?_
    refine b_getM dX7_part_321 fk_X7_15 ly_377 ?_
    obtain ⟨g9, h⟩ := h
    refine b_getR dX7_part_324 fk_X7_86 (tx_ly0 g9) (tx_gg8 g9) ?_
    refine b_iload_n dX7_part_327 rfl ?_
    obtain ⟨g10, h⟩ := h
    refine b_iald dX7_part_328 (tx_ly2 g9) g10 ?_
    refine b_istore (ls' := [vR 377, vI x1, vI x2, vI x3, vI s0, vI (m1 ((m1 377 0) + 2) x1)]) dX7_part_329 (Nat.le_of_ble_eq_true rfl) rfl ?_
    refine b_fgt [true, false, false, true, false, true] (ls' := [vR 377, vU, vU, vI x3, vU, vI (m1 ((m1 377 0) + 2) x1)]) rfl rfl ?_
    obtain ⟨nn, h⟩ := h
    exact pl_X7_part_331 hrec hf nn _ _ _ h
  have h := ifF c9 h
  by_cases c10 : x2 = 8
  · have h := ifT c10 h
    refine b_tswIn 373 dX7_part_98 g1 (by omega) (by omega) (by rw [c10]; rfl) (by decide) ?_
    refine b_aload_n dX7_part_373 rfl ?_
    refine b_iload_n dX7_part_374 rfl ?_
    refine b_cVv (as := [vI x1]) (st := []) dX7_part_375 mf_X7_choice qs61 lk_X7_96 ly_377 rfl (hrec.2.1 _ _ _ _ h) (by omega) rfl rfl (Nat.le_of_ble_eq_true rfl) (by decide) rfl (fun _ => rfl) (fun r7 m7 h => ?_) (fun _ h => h)
    refine b_goto 580 dX7_part_378 (by decide) ?_
    exact b_vret dX7_part_580 rfl h
  have h := ifF c10 h
  by_cases c11 : x2 = 9
  · have h := ifT c11 h
    refine b_tswIn 381 dX7_part_98 g1 (by omega) (by omega) (by rw [c11]; rfl) (by decide) ?_
    refine b_fgt [true, true, true, false, false, false] (ls' := [vR 377, vI x1, vI x2, vU, vU, vU]) rfl rfl ?_
    exact pl_X7_part_381 hrec hf _ _ _ h
  have h := ifF c11 h
  by_cases c12 : x2 = 10
  · have h := ifT c12 h
    refine b_tswIn 381 dX7_part_98 g1 (by omega) (by omega) (by rw [c12]; rfl) (by decide) ?_
    refine b_fgt [true, true, true, false, false, false] (ls' := [vR 377, vI x1, vI x2, vU, vU, vU]) rfl rfl ?_
    exact pl_X7_part_381 hrec hf _ _ _ h
  have h := ifF c12 h
  by_cases c13 : x2 = 11
  · have h := ifT c13 h
    refine b_tswIn 450 dX7_part_98 g1 (by omega) (by omega) (by rw [c13]; rfl) (by decide) ?_
    refine b_fgt [true, true, true, true, false, false] (ls' := [vR 377, vI x1, vI x2, vI x3, vU, vU]) rfl rfl ?_
    exact pl_X7_part_450 hrec hf _ _ _ _ h
  have h := ifF c13 h
  by_cases c14 : x2 = 22
  · have h := ifT c14 h
    refine b_tswIn 450 dX7_part_98 g1 (by omega) (by omega) (by rw [c14]; rfl) (by decide) ?_
    refine b_fgt [true, true, true, true, false, false] (ls' := [vR 377, vI x1, vI x2, vI x3, vU, vU]) rfl rfl ?_
    exact pl_X7_part_450 hrec hf _ _ _ _ h
  have h := ifF c14 h
  by_cases c15 : x2 = 23
  · have h := ifT c15 h
    refine b_tswIn 485 dX7_part_98 g1 (by omega) (by omega) (by rw [c15]; rfl) (by decide) ?_
    refine b_aload_n dX7_part_485 rfl ?_
    refine b_aload_n dX7_part_486 rfl ?_
    refine b_getM dX7_part_487 fk_X7_15 ly_377 ?_
    obtain ⟨g11, h⟩ := h
    refine b_getR dX7_part_490 fk_X7_86 (tx_ly0 g11) (tx_gg8 g11) ?_
    refine b_iload_n dX7_part_493 rfl ?_
    obtain ⟨g12, h⟩ := h
    refine b_iald dX7_part_494 (tx_ly2 g11) g12 ?_
    refine b_cVv (as := [vI (m1 ((m1 377 0) + 2) x1)]) (st := []) dX7_part_495 mf_X7_part qs54 lk_X7_34 ly_377 rfl (hrec.2.2.2.1 _ _ _ _ h) (by omega) rfl rfl (Nat.le_of_ble_eq_true rfl) (by decide) rfl (fun _ => rfl) (fun r8 m8 h => ?_) (fun _ h => h)
    refine b_aload_n dX7_part_498 rfl ?_
    refine b_bipush dX7_part_499 (by decide) ?_
    refine b_iload_n dX7_part_501 rfl ?_
    refine b_aload_n dX7_part_502 rfl ?_
    refine b_getM dX7_part_503 fk_X7_15 ly_377 ?_
    obtain ⟨g13, h⟩ := h
    refine b_getR dX7_part_506 fk_X7_62 (tx_ly0 g13) (tx_gg10 g13) ?_
    refine b_iload_n dX7_part_509 rfl ?_
    refine b_iald dX7_part_510 (tx_ly4 g13) g12 ?_
    refine b_cVv (as := [vI 26, vI x3, vI (m8 ((m8 377 0) + 4) x1)]) (st := []) dX7_part_511 mf_X7_add qs56 lk_X7_50 ly_377 rfl (p_X7_add (f := 2) (Nat.le_refl _) _ _ _ _ h) (by omega) rfl rfl (Nat.le_of_ble_eq_true rfl) (by decide) rfl (fun _ => rfl) (fun r9 m9 h => ?_) (fun _ h => h)
    refine b_goto 580 dX7_part_514 (by decide) ?_
    exact b_vret dX7_part_580 rfl h
  have h := ifF c15 h
  by_cases c16 : x2 = 24
  · have h := ifT c16 h
    refine b_tswIn 517 dX7_part_98 g1 (by omega) (by omega) (by rw [c16]; rfl) (by decide) ?_
    refine b_aload_n dX7_part_517 rfl ?_
    refine b_aload_n dX7_part_518 rfl ?_
    refine b_getM dX7_part_519 fk_X7_15 ly_377 ?_
    obtain ⟨g14, h⟩ := h
    refine b_getR dX7_part_522 fk_X7_86 (tx_ly0 g14) (tx_gg8 g14) ?_
    refine b_iload_n dX7_part_525 rfl ?_
    obtain ⟨g15, h⟩ := h
    refine b_iald dX7_part_526 (tx_ly2 g14) g15 ?_
    refine b_iload_n dX7_part_527 rfl ?_
    refine b_cVv (as := [vI (m1 ((m1 377 0) + 2) x1), vI x3]) (st := []) dX7_part_528 mf_X7_part_2 qs58 lk_X7_91 ly_377 rfl (hrec.2.2.2.2.1 _ _ _ _ _ h) (by omega) rfl rfl (Nat.le_of_ble_eq_true rfl) (by decide) rfl (fun _ => rfl) (fun r10 m10 h => ?_) (fun _ h => h)
    refine b_goto 580 dX7_part_531 (by decide) ?_
    exact b_vret dX7_part_580 rfl h
  have h := ifF c16 h
  by_cases c17 : x2 = 25
  · have h := ifT c17 h
    refine b_tswIn 534 dX7_part_98 g1 (by omega) (by omega) (by rw [c17]; rfl) (by decide) ?_
    refine b_aload_n dX7_part_534 rfl ?_
    refine b_aload_n dX7_part_535 rfl ?_
    refine b_getM dX7_part_536 fk_X7_15 ly_377 ?_
    obtain ⟨g16, h⟩ := h
    refine b_getR dX7_part_539 fk_X7_86 (tx_ly0 g16) (tx_gg8 g16) ?_
    refine b_iload_n dX7_part_542 rfl ?_
    obtain ⟨g17, h⟩ := h
    refine b_iald dX7_part_543 (tx_ly2 g16) g17 ?_
    refine b_cVv (as := [vI (m1 ((m1 377 0) + 2) x1)]) (st := []) dX7_part_544 mf_X7_part qs54 lk_X7_34 ly_377 rfl (hrec.2.2.2.1 _ _ _ _ h) (by omega) rfl rfl (Nat.le_of_ble_eq_true rfl) (by decide) rfl (fun _ => rfl) (fun r11 m11 h => ?_) (fun _ h => h)
    refine b_aload_n dX7_part_547 rfl ?_
    refine b_bipush dX7_part_548 (by decide) ?_
    refine b_aload_n dX7_part_550 rfl ?_
    refine b_getM dX7_part_551 fk_X7_15 ly_377 ?_
    obtain ⟨g18, h⟩ := h
    refine b_getR dX7_part_554 fk_X7_38 (tx_ly0 g18) (tx_gg12 g18) ?_
    refine b_aload_n dX7_part_557 rfl ?_
    refine b_getM dX7_part_558 fk_X7_15 ly_377 ?_
    refine b_getR dX7_part_561 fk_X7_86 (tx_ly0 g18) (tx_gg8 g18) ?_
    refine b_iload_n dX7_part_564 rfl ?_
    refine b_iald dX7_part_565 (tx_ly2 g18) g17 ?_
    obtain ⟨g19, h⟩ := h
    refine b_iald dX7_part_566 (tx_ly6 g18) g19 ?_
    refine b_iload_n dX7_part_567 rfl ?_
    refine b_cVv (as := [vI 7, vI (m11 ((m11 377 0) + 6) (m11 ((m11 377 0) + 2) x1)), vI x3]) (st := []) dX7_part_568 mf_X7_add qs56 lk_X7_50 ly_377 rfl (p_X7_add (f := 2) (Nat.le_refl _) _ _ _ _ h) (by omega) rfl rfl (Nat.le_of_ble_eq_true rfl) (by decide) rfl (fun _ => rfl) (fun r12 m12 h => ?_) (fun _ h => h)
    refine b_goto 580 dX7_part_571 (by decide) ?_
    exact b_vret dX7_part_580 rfl h
  have h := ifF c17 h
  by_cases c18 : x2 = 12
  · refine b_tswIn 574 dX7_part_98 g1 (by omega) (by omega) (by rw [c18]; rfl) (by decide) ?_
    refine b_fgt [true, true, true, false, false, false] (ls' := [vR 377, vI x1, vI x2, vU, vU, vU]) rfl rfl ?_
    exact pl_X7_part_574 hrec hf _ _ _ h
  by_cases c19 : x2 = 13
  · refine b_tswIn 574 dX7_part_98 g1 (by omega) (by omega) (by rw [c19]; rfl) (by decide) ?_
    refine b_fgt [true, true, true, false, false, false] (ls' := [vR 377, vI x1, vI x2, vU, vU, vU]) rfl rfl ?_
    exact pl_X7_part_574 hrec hf _ _ _ h
  by_cases c20 : x2 = 14
  · refine b_tswIn 574 dX7_part_98 g1 (by omega) (by omega) (by rw [c20]; rfl) (by decide) ?_
    refine b_fgt [true, true, true, false, false, false] (ls' := [vR 377, vI x1, vI x2, vU, vU, vU]) rfl rfl ?_
    exact pl_X7_part_574 hrec hf _ _ _ h
  by_cases c21 : x2 = 15
  · refine b_tswIn 574 dX7_part_98 g1 (by omega) (by omega) (by rw [c21]; rfl) (by decide) ?_
    refine b_fgt [true, true, true, false, false, false] (ls' := [vR 377, vI x1, vI x2, vU, vU, vU]) rfl rfl ?_
    exact pl_X7_part_574 hrec hf _ _ _ h
  by_cases c22 : x2 = 16
  · refine b_tswIn 574 dX7_part_98 g1 (by omega) (by omega) (by rw [c22]; rfl) (by decide) ?_
    refine b_fgt [true, true, true, false, false, false] (ls' := [vR 377, vI x1, vI x2, vU, vU, vU]) rfl rfl ?_
    exact pl_X7_part_574 hrec hf _ _ _ h
  by_cases c23 : x2 = 17
  · refine b_tswIn 574 dX7_part_98 g1 (by omega) (by omega) (by rw [c23]; rfl) (by decide) ?_
    refine b_fgt [true, true, true, false, false, false] (ls' := [vR 377, vI x1, vI x2, vU, vU, vU]) rfl rfl ?_
    exact pl_X7_part_574 hrec hf _ _ _ h
  by_cases c24 : x2 = 18
  · refine b_tswIn 574 dX7_part_98 g1 (by omega) (by omega) (by rw [c24]; rfl) (by decide) ?_
    refine b_fgt [true, true, true, false, false, false] (ls' := [vR 377, vI x1, vI x2, vU, vU, vU]) rfl rfl ?_
    exact pl_X7_part_574 hrec hf _ _ _ h
  by_cases c25 : x2 = 19
  · refine b_tswIn 574 dX7_part_98 g1 (by omega) (by omega) (by rw [c25]; rfl) (by decide) ?_
    refine b_fgt [true, true, true, false, false, false] (ls' := [vR 377, vI x1, vI x2, vU, vU, vU]) rfl rfl ?_
    exact pl_X7_part_574 hrec hf _ _ _ h
  by_cases c26 : x2 = 20
  · refine b_tswIn 574 dX7_part_98 g1 (by omega) (by omega) (by rw [c26]; rfl) (by decide) ?_
    refine b_fgt [true, true, true, false, false, false] (ls' := [vR 377, vI x1, vI x2, vU, vU, vU]) rfl rfl ?_
    exact pl_X7_part_574 hrec hf _ _ _ h
  by_cases c27 : x2 = 21
  · refine b_tswIn 574 dX7_part_98 g1 (by omega) (by omega) (by rw [c27]; rfl) (by decide) ?_
    refine b_fgt [true, true, true, false, false, false] (ls' := [vR 377, vI x1, vI x2, vU, vU, vU]) rfl rfl ?_
    exact pl_X7_part_574 hrec hf _ _ _ h
  refine b_tswOut 574 dX7_part_98 g1 (by omega) (by decide) ?_
  refine b_fgt [true, true, true, false, false, false] (ls' := [vR 377, vI x1, vI x2, vU, vU, vU]) rfl rfl ?_
  exact pl_X7_part_574 hrec hf _ _ _ h
theorem pl_X7_part_38 {f : Nat} {Q : Int → MM → Prop} {T : MM → Prop} {rec : Nat → List Int → MM → (Int → MM → Prop) → (MM → Prop) → Prop} {fr : Nat} (hrec : HR_X7_part rec fr) (hf : 5 ≤ f ∧ fr + 1 ≤ f) : ∀ (x1 : Int) (x2 : Int) (x3 : Int) (m : MM), P_X7_part_38 rec Q T x1 x2 x3 m → B f M_X7_part 38 [vR 377, vI x1, vI x2, vI x3, vU, vU] [] m Q T := by
  intro x1 x2 x3 m h
  have h : P_X11_weight x3 m (fun r1 m1 => P_X7_part_87 rec Q T x1 x2 x3 r1 m1) := h
  refine b_iload_n dX7_part_38 rfl ?_
  refine b_cSi (as := [vI x3]) (st := []) dX7_part_39 mf_X11_weight lk_X7_56 (p_X11_weight (f := 3) (Nat.le_refl _) _ _ h) (by omega) rfl rfl (Nat.le_of_ble_eq_true rfl) (by decide) rfl (fun _ => rfl) (fun r1 m1 h => ?_) (fun _ h => h)
  refine b_goto 87 dX7_part_42 (by decide) ?_
  exact pl_X7_part_87 hrec hf _ _ _ _ _ h
theorem w_X7_part {f : Nat} {Q : Int → MM → Prop} {T : MM → Prop} {rec : Nat → List Int → MM → (Int → MM → Prop) → (MM → Prop) → Prop} {fr : Nat} (hrec : HR_X7_part rec fr) (hf : 5 ≤ f ∧ fr + 1 ≤ f) (x1 : Int) (m : MM) (h : W_X7_part rec x1 m Q T) : CC f M_X7_part [vR 377, vI x1] m Q T := by
  refine CC.of (plainFor_of_name (by decide)) (Nat.le_of_ble_eq_true rfl) (ls := [vR 377, vI x1, vU, vU, vU, vU]) rfl ?_
  have h : (isTx (m 377 0)) ∧ (0 ≤ x1 ∧ x1 < 160) ∧ (RI (m ((m 377 0) + 1) x1)) ∧ (if (m ((m 377 0) + 1) x1) = 18 then P_X7_part_38 rec Q T x1 (m ((m 377 0) + 1) x1) (m ((m 377 0) + 6) x1) m else (if (m ((m 377 0) + 1) x1) = 20 then P_X7_part_38 rec Q T x1 (m ((m 377 0) + 1) x1) (m ((m 377 0) + 6) x1) m else (if (m ((m 377 0) + 1) x1) = 21 then P_X7_part_38 rec Q T x1 (m ((m 377 0) + 1) x1) (m ((m 377 0) + 6) x1) m else (if (m ((m 377 0) + 1) x1) = 23 then P_X11_weight (m ((m 377 0) + 6) x1) m (fun r2 m2 => (isTx (m2 377 0)) ∧ P_J4_max 1 (m2 ((m2 377 0) + 4) x1) m2 (fun r3 m3 => P_X7_part_87 rec Q T x1 (m ((m 377 0) + 1) x1) (m ((m 377 0) + 6) x1) (r2 * r3) m3)) else (if (m ((m 377 0) + 1) x1) = 6 then P_X7_heavy x1 m (fun r1 m1 => P_X7_part_87 rec Q T x1 (m ((m 377 0) + 1) x1) (m ((m 377 0) + 6) x1) r1 m1) else P_X7_part_87 rec Q T x1 (m ((m 377 0) + 1) x1) (m ((m 377 0) + 6) x1) 1 m))))) := h
  refine b_aload_n dX7_part_0 rfl ?_
  refine b_getM dX7_part_1 fk_X7_15 ly_377 ?_
  obtain ⟨g1, h⟩ := h
  refine b_getR dX7_part_4 fk_X7_53 (tx_ly0 g1) (tx_gg7 g1) ?_
  refine b_iload_n dX7_part_7 rfl ?_
  obtain ⟨g2, h⟩ := h
  refine b_iald dX7_part_8 (tx_ly1 g1) g2 ?_
  refine b_istore_n (ls' := [vR 377, vI x1, vI (m ((m 377 0) + 1) x1), vU, vU, vU]) dX7_part_9 (Nat.le_of_ble_eq_true rfl) rfl ?_
  refine b_aload_n dX7_part_10 rfl ?_
  refine b_getM dX7_part_11 fk_X7_15 ly_377 ?_
  refine b_getR dX7_part_14 fk_X7_38 (tx_ly0 g1) (tx_gg12 g1) ?_
  refine b_iload_n dX7_part_17 rfl ?_
  refine b_iald dX7_part_18 (tx_ly6 g1) g2 ?_
  refine b_istore_n (ls' := [vR 377, vI x1, vI (m ((m 377 0) + 1) x1), vI (m ((m 377 0) + 6) x1), vU, vU]) dX7_part_19 (Nat.le_of_ble_eq_true rfl) rfl ?_
  refine b_iload_n dX7_part_20 rfl ?_
  refine b_bipush dX7_part_21 (by decide) ?_
  obtain ⟨g3, h⟩ := h
  refine b_icmp_eq 38 dX7_part_23 g3 (by decide) (by decide) (fun c1 => ?_) (fun c1 => ?_)
  · have h := ifT c1 h
    exact pl_X7_part_38 hrec hf _ _ _ _ h
  · have h := ifF c1 h
    refine b_iload_n dX7_part_26 rfl ?_
    refine b_bipush dX7_part_27 (by decide) ?_
    refine b_icmp_eq 38 dX7_part_29 g3 (by decide) (by decide) (fun c2 => ?_) (fun c2 => ?_)
    · have h := ifT c2 h
      exact pl_X7_part_38 hrec hf _ _ _ _ h
    · have h := ifF c2 h
      refine b_iload_n dX7_part_32 rfl ?_
      refine b_bipush dX7_part_33 (by decide) ?_
      refine b_icmp_ne 45 dX7_part_35 g3 (by decide) (by decide) (fun c3 => ?_) (fun c3 => ?_)
      · have h := ifF c3 h
        refine b_iload_n dX7_part_45 rfl ?_
        refine b_bipush dX7_part_46 (by decide) ?_
        refine b_icmp_ne 72 dX7_part_48 g3 (by decide) (by decide) (fun c4 => ?_) (fun c4 => ?_)
        · have h := ifF c4 h
          refine b_iload_n dX7_part_72 rfl ?_
          refine b_bipush dX7_part_73 (by decide) ?_
          refine b_icmp_ne 86 dX7_part_75 g3 (by decide) (by decide) (fun c5 => ?_) (fun c5 => ?_)
          · have h := ifF c5 h
            refine b_iconst dX7_part_86 ?_
            exact pl_X7_part_87 hrec hf _ _ _ _ _ h
          · have h := ifT (Decidable.of_not_not c5) h
            refine b_aload_n dX7_part_78 rfl ?_
            refine b_iload_n dX7_part_79 rfl ?_
            refine b_cVi (as := [vI x1]) (st := []) dX7_part_80 mf_X7_heavy qs55 lk_X7_71 ly_377 rfl (p_X7_heavy (f := 4) (Nat.le_refl _) _ _ h) (by omega) rfl rfl (Nat.le_of_ble_eq_true rfl) (by decide) rfl (fun _ => rfl) (fun r1 m1 h => ?_) (fun _ h => h)
            refine b_goto 87 dX7_part_83 (by decide) ?_
            exact pl_X7_part_87 hrec hf _ _ _ _ _ h
        · have h := ifT (Decidable.of_not_not c4) h
          refine b_iload_n dX7_part_51 rfl ?_
          refine b_cSi (as := [vI (m ((m 377 0) + 6) x1)]) (st := []) dX7_part_52 mf_X11_weight lk_X7_56 (p_X11_weight (f := 3) (Nat.le_refl _) _ _ h) (by omega) rfl rfl (Nat.le_of_ble_eq_true rfl) (by decide) rfl (fun _ => rfl) (fun r2 m2 h => ?_) (fun _ h => h)
          refine b_iconst dX7_part_55 ?_
          refine b_aload_n dX7_part_56 rfl ?_
          refine b_getM dX7_part_57 fk_X7_15 ly_377 ?_
          obtain ⟨g4, h⟩ := h
          refine b_getR dX7_part_60 fk_X7_62 (tx_ly0 g4) (tx_gg10 g4) ?_
          refine b_iload_n dX7_part_63 rfl ?_
          refine b_iald dX7_part_64 (tx_ly4 g4) g2 ?_
          refine b_cSi (as := [vI 1, vI (m2 ((m2 377 0) + 4) x1)]) (st := [vI r2]) dX7_part_65 mf_J4_max lk_X7_65 (p_J4_max (f := 1) (Nat.le_refl _) _ _ _ h) (by omega) rfl rfl (Nat.le_of_ble_eq_true rfl) (by decide) rfl (fun _ => rfl) (fun r3 m3 h => ?_) (fun _ h => h)
          refine b_imul dX7_part_68 ?_
          refine b_goto 87 dX7_part_69 (by decide) ?_
          exact pl_X7_part_87 hrec hf _ _ _ _ _ h
      · have h := ifT (Decidable.of_not_not c3) h
        exact pl_X7_part_38 hrec hf _ _ _ _ h
theorem w_X7_part_2 {f : Nat} {Q : Int → MM → Prop} {T : MM → Prop} {rec : Nat → List Int → MM → (Int → MM → Prop) → (MM → Prop) → Prop} {fr : Nat} (hrec : HR_X7_part rec fr) (hf : 5 ≤ f ∧ fr + 1 ≤ f) (x1 : Int) (x2 : Int) (m : MM) (h : W_X7_part_2 rec x1 x2 m Q T) : CC f M_X7_part_2 [vR 377, vI x1, vI x2] m Q T := by
  refine CC.of (plainFor_of_name (by decide)) (Nat.le_of_ble_eq_true rfl) (ls := [vR 377, vI x1, vI x2]) rfl ?_
  have h : rec 3 [x1] m (fun r1 m1 => (isTx (m1 377 0)) ∧ (0 ≤ x1 ∧ x1 < 160) ∧ P_X7_turn (m1 ((m1 377 0) + 6) x1) x2 m1 (fun r2 m2 => Q 0 m2)) T := h
  refine b_aload_n dX7_part_2_0 rfl ?_
  refine b_iload_n dX7_part_2_1 rfl ?_
  refine b_cVv (as := [vI x1]) (st := []) dX7_part_2_2 mf_X7_part qs54 lk_X7_34 ly_377 rfl (hrec.2.2.2.1 _ _ _ _ h) (by omega) rfl rfl (Nat.le_of_ble_eq_true rfl) (by decide) rfl (fun _ => rfl) (fun r1 m1 h => ?_) (fun _ h => h)
  refine b_aload_n dX7_part_2_5 rfl ?_
  refine b_aload_n dX7_part_2_6 rfl ?_
  refine b_getM dX7_part_2_7 fk_X7_15 ly_377 ?_
  obtain ⟨g1, h⟩ := h
  refine b_getR dX7_part_2_10 fk_X7_38 (tx_ly0 g1) (tx_gg12 g1) ?_
  refine b_iload_n dX7_part_2_13 rfl ?_
  obtain ⟨g2, h⟩ := h
  refine b_iald dX7_part_2_14 (tx_ly6 g1) g2 ?_
  refine b_iload_n dX7_part_2_15 rfl ?_
  refine b_cVv (as := [vI (m1 ((m1 377 0) + 6) x1), vI x2]) (st := []) dX7_part_2_16 mf_X7_turn qs59 lk_X7_42 ly_377 rfl (p_X7_turn (f := 3) (Nat.le_refl _) _ _ _ h) (by omega) rfl rfl (Nat.le_of_ble_eq_true rfl) (by decide) rfl (fun _ => rfl) (fun r2 m2 h => ?_) (fun _ h => h)
  exact b_vret dX7_part_2_19 rfl h
theorem pl_X7_two_60 {f : Nat} {Q : Int → MM → Prop} {T : MM → Prop} {rec : Nat → List Int → MM → (Int → MM → Prop) → (MM → Prop) → Prop} {fr : Nat} (hrec : HR_X7_part rec fr) (hf : 5 ≤ f ∧ fr + 1 ≤ f) : ∀ (x1 : Int) (x2 : Int) (s0 : Int) (m : MM), P_X7_two_60 rec Q T x1 x2 s0 m → B f M_X7_two 60 [vR 377, vI x1, vI x2, vU, vU, vU] [vI s0] m Q T := by
  intro x1 x2 s0 m h
  have h : (isTx (m 377 0)) ∧ (0 ≤ x1 ∧ x1 < 160) ∧ rec 4 [(m ((m 377 0) + 2) x1), s0] m (fun r1 m1 => (isTx (m1 377 0)) ∧ P_X2_second (m1 377 0) x1 m1 (fun r2 m2 => ((RI x2)) ∧ rec 4 [r2, (if x2 = 19 then (iAnd s0 (-16)) else s0 : Int)] m2 (fun r3 m3 => ((RI x2)) ∧ P_X7_add (if x2 = 12 then 15 else (if x2 = 13 then 16 else (if x2 = 14 then 17 else (if x2 = 15 then 18 else ((19 + x2) - 16) : Int) : Int) : Int) : Int) s0 0 m3 (fun r4 m4 => Q 0 m4)) T)) T := h
  refine b_istore (ls' := [vR 377, vI x1, vI x2, vU, vU, vI s0]) dX7_two_60 (Nat.le_of_ble_eq_true rfl) rfl ?_
  refine b_aload_n dX7_two_62 rfl ?_
  refine b_aload_n dX7_two_63 rfl ?_
  refine b_getM dX7_two_64 fk_X7_15 ly_377 ?_
  obtain ⟨g1, h⟩ := h
  refine b_getR dX7_two_67 fk_X7_86 (tx_ly0 g1) (tx_gg8 g1) ?_
  refine b_iload_n dX7_two_70 rfl ?_
  obtain ⟨g2, h⟩ := h
  refine b_iald dX7_two_71 (tx_ly2 g1) g2 ?_
  refine b_iload dX7_two_72 rfl ?_
  refine b_cVv (as := [vI (m ((m 377 0) + 2) x1), vI s0]) (st := []) dX7_two_74 mf_X7_part_2 qs58 lk_X7_91 ly_377 rfl (hrec.2.2.2.2.1 _ _ _ _ _ h) (by omega) rfl rfl (Nat.le_of_ble_eq_true rfl) (by decide) rfl (fun _ => rfl) (fun r1 m1 h => ?_) (fun _ h => h)
  refine b_aload_n dX7_two_77 rfl ?_
  refine b_aload_n dX7_two_78 rfl ?_
  refine b_getM dX7_two_79 fk_X7_15 ly_377 ?_
  refine b_iload_n dX7_two_82 rfl ?_
  obtain ⟨g3, h⟩ := h
  refine b_cVi (as := [vI x1]) (st := [vR 377]) dX7_two_83 mf_X2_second q1172 lk_X7_99 (tx_ly0 g3) rfl (p_X2_second (f := 1) (Nat.le_refl _) _ _ _ h) (by omega) rfl rfl (Nat.le_of_ble_eq_true rfl) (by decide) rfl (fun _ => rfl) (fun r2 m2 h => ?_) (fun _ h => h)
  refine b_iload_n dX7_two_86 rfl ?_
  refine b_bipush dX7_two_87 (by decide) ?_
  obtain ⟨hs, h⟩ := h
  have K : B f M_X7_two 102 [vR 377, vI x1, vI x2, vU, vU, vI s0] [vI (if x2 = 19 then (iAnd s0 (-16)) else s0 : Int), vI r2, vR 377] m2 Q T := by
    clear hs
    refine b_cVv (as := [vI r2, vI (if x2 = 19 then (iAnd s0 (-16)) else s0 : Int)]) (st := []) dX7_two_102 mf_X7_part_2 qs58 lk_X7_91 ly_377 rfl (hrec.2.2.2.2.1 _ _ _ _ _ h) (by omega) rfl rfl (Nat.le_of_ble_eq_true rfl) (by decide) rfl (fun _ => rfl) (fun r3 m3 h => ?_) (fun _ h => h)
    refine b_aload_n dX7_two_105 rfl ?_
    refine b_iload_n dX7_two_106 rfl ?_
    refine b_bipush dX7_two_107 (by decide) ?_
    obtain ⟨hs, h⟩ := h
    have K : B f M_X7_two 157 [vR 377, vI x1, vI x2, vU, vU, vI s0] [vI (if x2 = 12 then 15 else (if x2 = 13 then 16 else (if x2 = 14 then 17 else (if x2 = 15 then 18 else ((19 + x2) - 16) : Int) : Int) : Int) : Int), vR 377] m3 Q T := by
      clear hs
      refine b_iload dX7_two_157 rfl ?_
      refine b_iconst dX7_two_159 ?_
      refine b_cVv (as := [vI (if x2 = 12 then 15 else (if x2 = 13 then 16 else (if x2 = 14 then 17 else (if x2 = 15 then 18 else ((19 + x2) - 16) : Int) : Int) : Int) : Int), vI s0, vI 0]) (st := []) dX7_two_160 mf_X7_add qs56 lk_X7_50 ly_377 rfl (p_X7_add (f := 2) (Nat.le_refl _) _ _ _ _ h) (by omega) rfl rfl (Nat.le_of_ble_eq_true rfl) (by decide) rfl (fun _ => rfl) (fun r4 m4 h => ?_) (fun _ h => h)
      exact b_vret dX7_two_163 rfl h
    have g5 := hs
    refine b_icmp_ne 117 dX7_two_109 g5 (by decide) (by decide) (fun c1 => ?_) (fun c1 => ?_)
    ·
      refine b_iload_n dX7_two_117 rfl ?_
      refine b_bipush dX7_two_118 (by decide) ?_
      refine b_icmp_ne 128 dX7_two_120 g5 (by decide) (by decide) (fun c2 => ?_) (fun c2 => ?_)
      ·
        refine b_iload_n dX7_two_128 rfl ?_
        refine b_bipush dX7_two_129 (by decide) ?_
        refine b_icmp_ne 139 dX7_two_131 g5 (by decide) (by decide) (fun c3 => ?_) (fun c3 => ?_)
        ·
          refine b_iload_n dX7_two_139 rfl ?_
          refine b_bipush dX7_two_140 (by decide) ?_
          refine b_icmp_ne 150 dX7_two_142 g5 (by decide) (by decide) (fun c4 => ?_) (fun c4 => ?_)
          ·
            refine b_bipush dX7_two_150 (by decide) ?_
            refine b_iload_n dX7_two_152 rfl ?_
            refine b_iadd dX7_two_153 ?_
            refine b_bipush dX7_two_154 (by decide) ?_
            refine b_isub dX7_two_156 ?_
            rw [if_neg c1, if_neg c2, if_neg c3, if_neg c4] at K
            exact K
          ·
            have c4 := Decidable.of_not_not c4
            refine b_bipush dX7_two_145 (by decide) ?_
            refine b_goto 157 dX7_two_147 (by decide) ?_
            rw [if_neg c1, if_neg c2, if_neg c3, if_pos c4] at K
            exact K
        ·
          have c3 := Decidable.of_not_not c3
          refine b_bipush dX7_two_134 (by decide) ?_
          refine b_goto 157 dX7_two_136 (by decide) ?_
          rw [if_neg c1, if_neg c2, if_pos c3] at K
          exact K
      ·
        have c2 := Decidable.of_not_not c2
        refine b_bipush dX7_two_123 (by decide) ?_
        refine b_goto 157 dX7_two_125 (by decide) ?_
        rw [if_neg c1, if_pos c2] at K
        exact K
    ·
      have c1 := Decidable.of_not_not c1
      refine b_bipush dX7_two_112 (by decide) ?_
      refine b_goto 157 dX7_two_114 (by decide) ?_
      rw [if_pos c1] at K
      exact K
  have g4 := hs
  refine b_icmp_ne 100 dX7_two_89 g4 (by decide) (by decide) (fun c5 => ?_) (fun c5 => ?_)
  ·
    refine b_iload dX7_two_100 rfl ?_
    rw [if_neg c5] at K
    exact K
  ·
    have c5 := Decidable.of_not_not c5
    refine b_iload dX7_two_92 rfl ?_
    refine b_bipush dX7_two_94 (by decide) ?_
    refine b_iand dX7_two_96 ?_
    refine b_goto 102 dX7_two_97 (by decide) ?_
    rw [if_pos c5] at K
    exact K
theorem w_X7_two {f : Nat} {Q : Int → MM → Prop} {T : MM → Prop} {rec : Nat → List Int → MM → (Int → MM → Prop) → (MM → Prop) → Prop} {fr : Nat} (hrec : HR_X7_part rec fr) (hf : 5 ≤ f ∧ fr + 1 ≤ f) (x1 : Int) (x2 : Int) (m : MM) (h : W_X7_two rec x1 x2 m Q T) : CC f M_X7_two [vR 377, vI x1, vI x2] m Q T := by
  refine CC.of (plainFor_of_name (by decide)) (Nat.le_of_ble_eq_true rfl) (ls := [vR 377, vI x1, vI x2, vU, vU, vU]) rfl ?_
  have h : (isTx (m 377 0)) ∧ (0 ≤ x1 ∧ x1 < 160) ∧ (0 ≤ (m ((m 377 0) + 2) x1) ∧ (m ((m 377 0) + 2) x1) < 160) ∧ P_X2_second (m 377 0) x1 m (fun r1 m1 => (0 ≤ r1 ∧ r1 < 160) ∧ (RI x2) ∧ (if x2 = 19 then (isTx (m1 377 0)) ∧ P_X7_two_60 rec Q T x1 x2 (m1 ((m1 377 0) + 6) x1) m1 else P_X11_join (m ((m 377 0) + 6) (m ((m 377 0) + 2) x1)) (m1 ((m 377 0) + 6) r1) m1 (fun r2 m2 => P_X7_two_60 rec Q T x1 x2 r2 m2))) := h
  refine b_aload_n dX7_two_0 rfl ?_
  refine b_getM dX7_two_1 fk_X7_15 ly_377 ?_
  obtain ⟨g1, h⟩ := h
  refine b_getR dX7_two_4 fk_X7_38 (tx_ly0 g1) (tx_gg12 g1) ?_
  refine b_aload_n dX7_two_7 rfl ?_
  refine b_getM dX7_two_8 fk_X7_15 ly_377 ?_
  refine b_getR dX7_two_11 fk_X7_86 (tx_ly0 g1) (tx_gg8 g1) ?_
  refine b_iload_n dX7_two_14 rfl ?_
  obtain ⟨g2, h⟩ := h
  refine b_iald dX7_two_15 (tx_ly2 g1) g2 ?_
  obtain ⟨g3, h⟩ := h
  refine b_iald dX7_two_16 (tx_ly6 g1) g3 ?_
  refine b_istore_n (ls' := [vR 377, vI x1, vI x2, vI (m ((m 377 0) + 6) (m ((m 377 0) + 2) x1)), vU, vU]) dX7_two_17 (Nat.le_of_ble_eq_true rfl) rfl ?_
  refine b_aload_n dX7_two_18 rfl ?_
  refine b_getM dX7_two_19 fk_X7_15 ly_377 ?_
  refine b_getR dX7_two_22 fk_X7_38 (tx_ly0 g1) (tx_gg12 g1) ?_
  refine b_aload_n dX7_two_25 rfl ?_
  refine b_getM dX7_two_26 fk_X7_15 ly_377 ?_
  refine b_iload_n dX7_two_29 rfl ?_
  refine b_cVi (as := [vI x1]) (st := [vR ((m 377 0) + 6)]) dX7_two_30 mf_X2_second q1172 lk_X7_99 (tx_ly0 g1) rfl (p_X2_second (f := 1) (Nat.le_refl _) _ _ _ h) (by omega) rfl rfl (Nat.le_of_ble_eq_true rfl) (by decide) rfl (fun _ => rfl) (fun r1 m1 h => ?_) (fun _ h => h)
  obtain ⟨g4, h⟩ := h
  refine b_iald dX7_two_33 (tx_ly6 g1) g4 ?_
  refine b_istore (ls' := [vR 377, vI x1, vI x2, vI (m ((m 377 0) + 6) (m ((m 377 0) + 2) x1)), vI (m1 ((m 377 0) + 6) r1), vU]) dX7_two_34 (Nat.le_of_ble_eq_true rfl) rfl ?_
  refine b_iload_n dX7_two_36 rfl ?_
  refine b_bipush dX7_two_37 (by decide) ?_
  obtain ⟨g5, h⟩ := h
  refine b_icmp_ne 54 dX7_two_39 g5 (by decide) (by decide) (fun c1 => ?_) (fun c1 => ?_)
  · have h := ifF c1 h
    refine b_iload_n dX7_two_54 rfl ?_
    refine b_iload dX7_two_55 rfl ?_
    refine b_cSi (as := [vI (m ((m 377 0) + 6) (m ((m 377 0) + 2) x1)), vI (m1 ((m 377 0) + 6) r1)]) (st := []) dX7_two_57 mf_X11_join lk_X7_108 (p_X11_join (f := 2) (Nat.le_refl _) _ _ _ h) (by omega) rfl rfl (Nat.le_of_ble_eq_true rfl) (by decide) rfl (fun _ => rfl) (fun r2 m2 h => ?_) (fun _ h => h)
    refine b_fgt [true, true, true, false, false, false] (ls' := [vR 377, vI x1, vI x2, vU, vU, vU]) rfl rfl ?_
    exact pl_X7_two_60 hrec hf _ _ _ _ h
  · have h := ifT (Decidable.of_not_not c1) h
    refine b_aload_n dX7_two_42 rfl ?_
    refine b_getM dX7_two_43 fk_X7_15 ly_377 ?_
    obtain ⟨g6, h⟩ := h
    refine b_getR dX7_two_46 fk_X7_38 (tx_ly0 g6) (tx_gg12 g6) ?_
    refine b_iload_n dX7_two_49 rfl ?_
    refine b_iald dX7_two_50 (tx_ly6 g6) g2 ?_
    refine b_goto 60 dX7_two_51 (by decide) ?_
    refine b_fgt [true, true, true, false, false, false] (ls' := [vR 377, vI x1, vI x2, vU, vU, vU]) rfl rfl ?_
    exact pl_X7_two_60 hrec hf _ _ _ _ h
def R_X7_part : Nat → Nat → List Int → MM → (Int → MM → Prop) → (MM → Prop) → Prop
  | 0, _, _, _, _, _ => False
  | d + 1, i, as, m, Q, T => match i, as with
    | 0, [x1] => W_X7_call (R_X7_part d) x1 m Q T
    | 1, [x1] => W_X7_choice (R_X7_part d) x1 m Q T
    | 2, [x1] => W_X7_function (R_X7_part d) x1 m Q T
    | 3, [x1] => W_X7_part (R_X7_part d) x1 m Q T
    | 4, [x1, x2] => W_X7_part_2 (R_X7_part d) x1 x2 m Q T
    | 5, [x1, x2] => W_X7_two (R_X7_part d) x1 x2 m Q T
    | _, _ => False
theorem pr_X7_part : ∀ d f : Nat, 5 + d ≤ f → HR_X7_part (R_X7_part d) f := by
  intro d
  induction d with
  | zero => intro f hf; exact ⟨fun _ _ _ _ h => h.elim, fun _ _ _ _ h => h.elim, fun _ _ _ _ h => h.elim, fun _ _ _ _ h => h.elim, fun _ _ _ _ _ h => h.elim, fun _ _ _ _ _ h => h.elim, trivial⟩
  | succ d ih =>
    intro f hf
    have hr := ih (f - 1) (by omega)
    exact ⟨fun x1 m _ _ h => w_X7_call hr (show 5 ≤ f ∧ f - 1 + 1 ≤ f by omega) x1 m h, fun x1 m _ _ h => w_X7_choice hr (show 5 ≤ f ∧ f - 1 + 1 ≤ f by omega) x1 m h, fun x1 m _ _ h => w_X7_function hr (show 5 ≤ f ∧ f - 1 + 1 ≤ f by omega) x1 m h, fun x1 m _ _ h => w_X7_part hr (show 5 ≤ f ∧ f - 1 + 1 ≤ f by omega) x1 m h, fun x1 x2 m _ _ h => w_X7_part_2 hr (show 5 ≤ f ∧ f - 1 + 1 ≤ f by omega) x1 x2 m h, fun x1 x2 m _ _ h => w_X7_two hr (show 5 ≤ f ∧ f - 1 + 1 ≤ f by omega) x1 x2 m h, trivial⟩
theorem dX7_write_0 : decode cX7_write 0 = .ok (.aload_n 0, 1) := by decide +kernel
theorem dX7_write_1 : decode cX7_write 1 = .ok (.aload_n 1, 1) := by decide +kernel
theorem dX7_write_2 : decode cX7_write 2 = .ok (.putfield 9, 3) := by decide +kernel
theorem dX7_write_5 : decode cX7_write 5 = .ok (.aload_n 0, 1) := by decide +kernel
theorem dX7_write_6 : decode cX7_write 6 = .ok (.aload_n 2, 1) := by decide +kernel
theorem dX7_write_7 : decode cX7_write 7 = .ok (.putfield 15, 3) := by decide +kernel
theorem dX7_write_10 : decode cX7_write 10 = .ok (.aload_n 0, 1) := by decide +kernel
theorem dX7_write_11 : decode cX7_write 11 = .ok (.aload_n 3, 1) := by decide +kernel
theorem dX7_write_12 : decode cX7_write 12 = .ok (.putfield 19, 3) := by decide +kernel
theorem dX7_write_15 : decode cX7_write 15 = .ok (.aload_n 0, 1) := by decide +kernel
theorem dX7_write_16 : decode cX7_write 16 = .ok (.getfield 19, 3) := by decide +kernel
theorem dX7_write_19 : decode cX7_write 19 = .ok (.iconst 0, 1) := by decide +kernel
theorem dX7_write_20 : decode cX7_write 20 = .ok (.putfield 23, 3) := by decide +kernel
theorem dX7_write_23 : decode cX7_write 23 = .ok (.aload_n 0, 1) := by decide +kernel
theorem dX7_write_24 : decode cX7_write 24 = .ok (.aload_n 0, 1) := by decide +kernel
theorem dX7_write_25 : decode cX7_write 25 = .ok (.getfield 15, 3) := by decide +kernel
theorem dX7_write_28 : decode cX7_write 28 = .ok (.getfield 29, 3) := by decide +kernel
theorem dX7_write_31 : decode cX7_write 31 = .ok (.invokevirtual 34, 3) := by decide +kernel
theorem dX7_write_34 : decode cX7_write 34 = .ok (.aload_n 0, 1) := by decide +kernel
theorem dX7_write_35 : decode cX7_write 35 = .ok (.aload_n 0, 1) := by decide +kernel
theorem dX7_write_36 : decode cX7_write 36 = .ok (.getfield 15, 3) := by decide +kernel
theorem dX7_write_39 : decode cX7_write 39 = .ok (.getfield 38, 3) := by decide +kernel
theorem dX7_write_42 : decode cX7_write 42 = .ok (.aload_n 0, 1) := by decide +kernel
theorem dX7_write_43 : decode cX7_write 43 = .ok (.getfield 15, 3) := by decide +kernel
theorem dX7_write_46 : decode cX7_write 46 = .ok (.getfield 29, 3) := by decide +kernel
theorem dX7_write_49 : decode cX7_write 49 = .ok (.iaload, 1) := by decide +kernel
theorem dX7_write_50 : decode cX7_write 50 = .ok (.iload 4, 2) := by decide +kernel
theorem dX7_write_52 : decode cX7_write 52 = .ok (.invokevirtual 42, 3) := by decide +kernel
theorem dX7_write_55 : decode cX7_write 55 = .ok (.aload_n 0, 1) := by decide +kernel
theorem dX7_write_56 : decode cX7_write 56 = .ok (.getfield 19, 3) := by decide +kernel
theorem dX7_write_59 : decode cX7_write 59 = .ok (.bipush 9, 2) := by decide +kernel
theorem dX7_write_61 : decode cX7_write 61 = .ok (.iload 4, 2) := by decide +kernel
theorem dX7_write_63 : decode cX7_write 63 = .ok (.iconst 0, 1) := by decide +kernel
theorem dX7_write_64 : decode cX7_write 64 = .ok (.invokevirtual 46, 3) := by decide +kernel
theorem dX7_write_67 : decode cX7_write 67 = .ok (.istore 5, 2) := by decide +kernel
theorem dX7_write_69 : decode cX7_write 69 = .ok (.return_, 1) := by decide +kernel
/-! AlgebraHouse$Coder.write(LAlgebraHouse$Book;LAlgebraHouse$Text;LAlgebraHouse$Code;I)V -/
def P_X7_write (x2 : Int) (x3 : Int) (x4 : Int) (m : MM) (Q : Int → MM → Prop) : Prop := ∀ m1 : MM, m1 = up m 377 2 3 → ∀ m2 : MM, m2 = up m1 377 0 x2 → ∀ m3 : MM, m3 = up m2 377 1 x3 → (isCd (m3 377 1)) ∧ ∀ m4 : MM, m4 = up m3 (m3 377 1) 3 0 → (isTx (m4 377 0)) ∧ R_X7_part 500 3 [(m4 (m4 377 0) 2)] m4 (fun r1 m5 => (isTx (m5 377 0)) ∧ (0 ≤ (m5 (m5 377 0) 2) ∧ (m5 (m5 377 0) 2) < 160) ∧ P_X7_turn (m5 ((m5 377 0) + 6) (m5 (m5 377 0) 2)) x4 m5 (fun r2 m6 => (isCd (m6 377 1)) ∧ P_X9_add (m6 377 1) 9 x4 0 m6 (fun r3 m7 => Q 0 m7))) (fun _ => False)
theorem p_X7_write {f : Nat} {Q : Int → MM → Prop} {T : MM → Prop} (hf : 506 ≤ f) (x2 : Int) (x3 : Int) (x4 : Int) (m : MM) (h : P_X7_write x2 x3 x4 m Q) : CC f M_X7_write [vR 377, vR 3, vR x2, vR x3, vI x4] m Q T := by
  refine CC.of (plainFor_of_name (by decide)) (Nat.le_of_ble_eq_true rfl) (ls := [vR 377, vR 3, vR x2, vR x3, vI x4, vU]) rfl ?_
  have h : ∀ m1 : MM, m1 = up m 377 2 3 → ∀ m2 : MM, m2 = up m1 377 0 x2 → ∀ m3 : MM, m3 = up m2 377 1 x3 → (isCd (m3 377 1)) ∧ ∀ m4 : MM, m4 = up m3 (m3 377 1) 3 0 → (isTx (m4 377 0)) ∧ R_X7_part 500 3 [(m4 (m4 377 0) 2)] m4 (fun r1 m5 => (isTx (m5 377 0)) ∧ (0 ≤ (m5 (m5 377 0) 2) ∧ (m5 (m5 377 0) 2) < 160) ∧ P_X7_turn (m5 ((m5 377 0) + 6) (m5 (m5 377 0) 2)) x4 m5 (fun r2 m6 => (isCd (m6 377 1)) ∧ P_X9_add (m6 377 1) 9 x4 0 m6 (fun r3 m7 => Q 0 m7))) (fun _ => False) := h
  refine b_aload_n dX7_write_0 rfl ?_
  refine b_aload_n dX7_write_1 rfl ?_
  refine b_putM dX7_write_2 fk_X7_9 (Or.inl ⟨_, rfl⟩) ly_377 (fun m1 em1 => ?_)
  have h := h m1 em1
  refine b_aload_n dX7_write_5 rfl ?_
  refine b_aload_n dX7_write_6 rfl ?_
  refine b_putM dX7_write_7 fk_X7_15 (Or.inl ⟨_, rfl⟩) ly_377 (fun m2 em2 => ?_)
  have h := h m2 em2
  refine b_aload_n dX7_write_10 rfl ?_
  refine b_aload_n dX7_write_11 rfl ?_
  refine b_putM dX7_write_12 fk_X7_19 (Or.inl ⟨_, rfl⟩) ly_377 (fun m3 em3 => ?_)
  have h := h m3 em3
  refine b_aload_n dX7_write_15 rfl ?_
  refine b_getM dX7_write_16 fk_X7_19 ly_377 ?_
  refine b_iconst dX7_write_19 ?_
  obtain ⟨g1, h⟩ := h
  refine b_putI dX7_write_20 fk_X7_23 (cd_ly0 g1) (fun m4 em4 => ?_)
  have h := h m4 em4
  refine b_aload_n dX7_write_23 rfl ?_
  refine b_aload_n dX7_write_24 rfl ?_
  refine b_getM dX7_write_25 fk_X7_15 ly_377 ?_
  obtain ⟨g2, h⟩ := h
  refine b_getI dX7_write_28 fk_X7_29 (tx_ly0 g2) ?_
  refine b_cVv (as := [vI (m4 (m4 377 0) 2)]) (st := []) dX7_write_31 mf_X7_part qs54 lk_X7_34 ly_377 rfl ((pr_X7_part 500 505 (Nat.le_refl _)).2.2.2.1 _ _ _ _ h) (by omega) rfl rfl (Nat.le_of_ble_eq_true rfl) (by decide) rfl (fun _ => rfl) (fun r1 m5 h => ?_) (fun _ h => h.elim)
  refine b_aload_n dX7_write_34 rfl ?_
  refine b_aload_n dX7_write_35 rfl ?_
  refine b_getM dX7_write_36 fk_X7_15 ly_377 ?_
  obtain ⟨g3, h⟩ := h
  refine b_getR dX7_write_39 fk_X7_38 (tx_ly0 g3) (tx_gg12 g3) ?_
  refine b_aload_n dX7_write_42 rfl ?_
  refine b_getM dX7_write_43 fk_X7_15 ly_377 ?_
  refine b_getI dX7_write_46 fk_X7_29 (tx_ly0 g3) ?_
  obtain ⟨g4, h⟩ := h
  refine b_iald dX7_write_49 (tx_ly6 g3) g4 ?_
  refine b_iload dX7_write_50 rfl ?_
  refine b_cVv (as := [vI (m5 ((m5 377 0) + 6) (m5 (m5 377 0) 2)), vI x4]) (st := []) dX7_write_52 mf_X7_turn qs59 lk_X7_42 ly_377 rfl (p_X7_turn (f := 3) (Nat.le_refl _) _ _ _ h) (by omega) rfl rfl (Nat.le_of_ble_eq_true rfl) (by decide) rfl (fun _ => rfl) (fun r2 m6 h => ?_) (fun _ h => h)
  refine b_aload_n dX7_write_55 rfl ?_
  refine b_getM dX7_write_56 fk_X7_19 ly_377 ?_
  refine b_bipush dX7_write_59 (by decide) ?_
  refine b_iload dX7_write_61 rfl ?_
  refine b_iconst dX7_write_63 ?_
  obtain ⟨g5, h⟩ := h
  refine b_cVi (as := [vI 9, vI x4, vI 0]) (st := []) dX7_write_64 mf_X9_add q1259 lk_X7_46 (cd_ly0 g5) rfl (p_X9_add (f := 1) (Nat.le_refl _) _ _ _ _ _ h) (by omega) rfl rfl (Nat.le_of_ble_eq_true rfl) (by decide) rfl (fun _ => rfl) (fun r3 m7 h => ?_) (fun _ h => h)
  refine b_istore (ls' := [vR 377, vR 3, vR x2, vR x3, vI x4, vI r3]) dX7_write_67 (Nat.le_of_ble_eq_true rfl) rfl ?_
  exact b_vret dX7_write_69 rfl h
