set_option maxRecDepth 100000
theorem dX10_fail_0 : decode cX10_fail 0 = .ok (.aload_n 0, 1) := by decide +kernel
theorem dX10_fail_1 : decode cX10_fail 1 = .ok (.getfield 347, 3) := by decide +kernel
theorem dX10_fail_4 : decode cX10_fail 4 = .ok (.ifCond .le 4, 3) := by decide +kernel
theorem dX10_fail_7 : decode cX10_fail 7 = .ok (.return_, 1) := by decide +kernel
theorem dX10_fail_8 : decode cX10_fail 8 = .ok (.aload_n 0, 1) := by decide +kernel
theorem dX10_fail_9 : decode cX10_fail 9 = .ok (.iload_n 1, 1) := by decide +kernel
theorem dX10_fail_10 : decode cX10_fail 10 = .ok (.putfield 347, 3) := by decide +kernel
theorem dX10_fail_13 : decode cX10_fail 13 = .ok (.aload_n 0, 1) := by decide +kernel
theorem dX10_fail_14 : decode cX10_fail 14 = .ok (.aload_n 0, 1) := by decide +kernel
theorem dX10_fail_15 : decode cX10_fail 15 = .ok (.getfield 96, 3) := by decide +kernel
theorem dX10_fail_18 : decode cX10_fail 18 = .ok (.aload_n 0, 1) := by decide +kernel
theorem dX10_fail_19 : decode cX10_fail 19 = .ok (.getfield 324, 3) := by decide +kernel
theorem dX10_fail_22 : decode cX10_fail 22 = .ok (.iaload, 1) := by decide +kernel
theorem dX10_fail_23 : decode cX10_fail 23 = .ok (.putfield 102, 3) := by decide +kernel
theorem dX10_fail_26 : decode cX10_fail 26 = .ok (.return_, 1) := by decide +kernel
/-! AlgebraHouseModel.fail(I)V -/
def P_X10_fail (x1 : Int) (m : MM) (Q : Int → MM → Prop) : Prop := (RI (m 582 10)) ∧ (if (m 582 10) ≤ 0 then ∀ m1 : MM, m1 = up m 582 10 x1 → (0 ≤ (m1 582 9) ∧ (m1 582 9) < 420) ∧ ∀ m2 : MM, m2 = up m1 582 11 (m1 588 (m1 582 9)) → Q 0 m2 else Q 0 m)
theorem p_X10_fail {f : Nat} {Q : Int → MM → Prop} {T : MM → Prop} (hf : 1 ≤ f) (x1 : Int) (m : MM) (h : P_X10_fail x1 m Q) : CC f M_X10_fail [vR 582, vI x1] m Q T := by
  refine CC.of (plainFor_of_name (by decide)) (Nat.le_of_ble_eq_true rfl) (ls := [vR 582, vI x1]) rfl ?_
  have h : (RI (m 582 10)) ∧ (if (m 582 10) ≤ 0 then ∀ m1 : MM, m1 = up m 582 10 x1 → (0 ≤ (m1 582 9) ∧ (m1 582 9) < 420) ∧ ∀ m2 : MM, m2 = up m1 582 11 (m1 588 (m1 582 9)) → Q 0 m2 else Q 0 m) := h
  refine b_aload_n dX10_fail_0 rfl ?_
  refine b_getI dX10_fail_1 fk_X10_347 ly_582 ?_
  obtain ⟨g1, h⟩ := h
  refine b_if_le 8 dX10_fail_4 g1 (by decide) (fun c1 => ?_) (fun c1 => ?_)
  · have h := ifT c1 h
    refine b_aload_n dX10_fail_8 rfl ?_
    refine b_iload_n dX10_fail_9 rfl ?_
    refine b_putI dX10_fail_10 fk_X10_347 ly_582 (fun m1 em1 => ?_)
    have h := h m1 em1
    refine b_aload_n dX10_fail_13 rfl ?_
    refine b_aload_n dX10_fail_14 rfl ?_
    refine b_getR dX10_fail_15 fk_X10_96 ly_582 gg_582_6 ?_
    refine b_aload_n dX10_fail_18 rfl ?_
    refine b_getI dX10_fail_19 fk_X10_324 ly_582 ?_
    obtain ⟨g2, h⟩ := h
    refine b_iald dX10_fail_22 ly_588 g2 ?_
    refine b_putI dX10_fail_23 fk_X10_102 ly_582 (fun m2 em2 => ?_)
    have h := h m2 em2
    exact b_vret dX10_fail_26 rfl h
  · have h := ifF c1 h
    exact b_vret dX10_fail_7 rfl h
theorem dX10_accept_0 : decode cX10_accept 0 = .ok (.aload_n 0, 1) := by decide +kernel
theorem dX10_accept_1 : decode cX10_accept 1 = .ok (.getfield 324, 3) := by decide +kernel
theorem dX10_accept_4 : decode cX10_accept 4 = .ok (.sipush 150, 3) := by decide +kernel
theorem dX10_accept_7 : decode cX10_accept 7 = .ok (.if_icmp .ne 8, 3) := by decide +kernel
theorem dX10_accept_10 : decode cX10_accept 10 = .ok (.aload_n 0, 1) := by decide +kernel
theorem dX10_accept_11 : decode cX10_accept 11 = .ok (.iconst 2, 1) := by decide +kernel
theorem dX10_accept_12 : decode cX10_accept 12 = .ok (.invokevirtual 356, 3) := by decide +kernel
theorem dX10_accept_15 : decode cX10_accept 15 = .ok (.aload_n 0, 1) := by decide +kernel
theorem dX10_accept_16 : decode cX10_accept 16 = .ok (.getfield 347, 3) := by decide +kernel
theorem dX10_accept_19 : decode cX10_accept 19 = .ok (.ifCond .ne 13, 3) := by decide +kernel
theorem dX10_accept_22 : decode cX10_accept 22 = .ok (.aload_n 0, 1) := by decide +kernel
theorem dX10_accept_23 : decode cX10_accept 23 = .ok (.dup, 1) := by decide +kernel
theorem dX10_accept_24 : decode cX10_accept 24 = .ok (.getfield 324, 3) := by decide +kernel
theorem dX10_accept_27 : decode cX10_accept 27 = .ok (.iconst 1, 1) := by decide +kernel
theorem dX10_accept_28 : decode cX10_accept 28 = .ok (.iadd, 1) := by decide +kernel
theorem dX10_accept_29 : decode cX10_accept 29 = .ok (.putfield 324, 3) := by decide +kernel
theorem dX10_accept_32 : decode cX10_accept 32 = .ok (.return_, 1) := by decide +kernel
/-! AlgebraHouseModel.accept()V -/
def P_X10_accept_15 (Q : Int → MM → Prop) (m : MM) : Prop := (RI (m 582 10)) ∧ (if (m 582 10) = 0 then ∀ m1 : MM, m1 = up m 582 9 ((m 582 9) + 1) → Q 0 m1 else Q 0 m)
def P_X10_accept (m : MM) (Q : Int → MM → Prop) : Prop := (RI (m 582 9)) ∧ (if (m 582 9) = 150 then P_X10_fail 2 m (fun r1 m1 => P_X10_accept_15 Q m1) else P_X10_accept_15 Q m)
theorem pl_X10_accept_15 {f : Nat} {Q : Int → MM → Prop} {T : MM → Prop} (hf : 2 ≤ f) : ∀ (m : MM), P_X10_accept_15 Q m → B f M_X10_accept 15 [vR 582] [] m Q T := by
  intro m h
  have h : (RI (m 582 10)) ∧ (if (m 582 10) = 0 then ∀ m1 : MM, m1 = up m 582 9 ((m 582 9) + 1) → Q 0 m1 else Q 0 m) := h
  refine b_aload_n dX10_accept_15 rfl ?_
  refine b_getI dX10_accept_16 fk_X10_347 ly_582 ?_
  obtain ⟨g1, h⟩ := h
  refine b_if_ne 32 dX10_accept_19 g1 (by decide) (fun c1 => ?_) (fun c1 => ?_)
  · have h := ifF c1 h
    exact b_vret dX10_accept_32 rfl h
  · have h := ifT (Decidable.of_not_not c1) h
    refine b_aload_n dX10_accept_22 rfl ?_
    refine b_dup dX10_accept_23 rfl ?_
    refine b_getI dX10_accept_24 fk_X10_324 ly_582 ?_
    refine b_iconst dX10_accept_27 ?_
    refine b_iadd dX10_accept_28 ?_
    refine b_putI dX10_accept_29 fk_X10_324 ly_582 (fun m1 em1 => ?_)
    have h := h m1 em1
    exact b_vret dX10_accept_32 rfl h
theorem p_X10_accept {f : Nat} {Q : Int → MM → Prop} {T : MM → Prop} (hf : 2 ≤ f) (m : MM) (h : P_X10_accept m Q) : CC f M_X10_accept [vR 582] m Q T := by
  refine CC.of (plainFor_of_name (by decide)) (Nat.le_of_ble_eq_true rfl) (ls := [vR 582]) rfl ?_
  have h : (RI (m 582 9)) ∧ (if (m 582 9) = 150 then P_X10_fail 2 m (fun r1 m1 => P_X10_accept_15 Q m1) else P_X10_accept_15 Q m) := h
  refine b_aload_n dX10_accept_0 rfl ?_
  refine b_getI dX10_accept_1 fk_X10_324 ly_582 ?_
  refine b_sipush dX10_accept_4 (by decide) ?_
  obtain ⟨g1, h⟩ := h
  refine b_icmp_ne 15 dX10_accept_7 g1 (by decide) (by decide) (fun c1 => ?_) (fun c1 => ?_)
  · have h := ifF c1 h
    exact pl_X10_accept_15 hf _ h
  · have h := ifT (Decidable.of_not_not c1) h
    refine b_aload_n dX10_accept_10 rfl ?_
    refine b_iconst dX10_accept_11 ?_
    refine b_cVv (as := [vI 2]) (st := []) dX10_accept_12 mf_X10_fail qs101 lk_X10_356 ly_582 rfl (p_X10_fail (f := 1) (Nat.le_refl _) _ _ h) (by omega) rfl rfl (Nat.le_of_ble_eq_true rfl) (by decide) rfl (fun _ => rfl) (fun r1 m1 h => ?_) (fun _ h => h)
    exact pl_X10_accept_15 hf _ h
theorem dX10_common_0 : decode cX10_common 0 = .ok (.lload_n 0, 1) := by decide +kernel
theorem dX10_common_1 : decode cX10_common 1 = .ok (.lconst 0, 1) := by decide +kernel
theorem dX10_common_2 : decode cX10_common 2 = .ok (.lcmp, 1) := by decide +kernel
theorem dX10_common_3 : decode cX10_common 3 = .ok (.ifCond .ge 8, 3) := by decide +kernel
theorem dX10_common_6 : decode cX10_common 6 = .ok (.lload_n 0, 1) := by decide +kernel
theorem dX10_common_7 : decode cX10_common 7 = .ok (.lneg, 1) := by decide +kernel
theorem dX10_common_8 : decode cX10_common 8 = .ok (.goto 4, 3) := by decide +kernel
theorem dX10_common_11 : decode cX10_common 11 = .ok (.lload_n 0, 1) := by decide +kernel
theorem dX10_common_12 : decode cX10_common 12 = .ok (.lstore 4, 2) := by decide +kernel
theorem dX10_common_14 : decode cX10_common 14 = .ok (.lload_n 2, 1) := by decide +kernel
theorem dX10_common_15 : decode cX10_common 15 = .ok (.lconst 0, 1) := by decide +kernel
theorem dX10_common_16 : decode cX10_common 16 = .ok (.lcmp, 1) := by decide +kernel
theorem dX10_common_17 : decode cX10_common 17 = .ok (.ifCond .ge 8, 3) := by decide +kernel
theorem dX10_common_20 : decode cX10_common 20 = .ok (.lload_n 2, 1) := by decide +kernel
theorem dX10_common_21 : decode cX10_common 21 = .ok (.lneg, 1) := by decide +kernel
theorem dX10_common_22 : decode cX10_common 22 = .ok (.goto 4, 3) := by decide +kernel
theorem dX10_common_25 : decode cX10_common 25 = .ok (.lload_n 2, 1) := by decide +kernel
theorem dX10_common_26 : decode cX10_common 26 = .ok (.lstore 6, 2) := by decide +kernel
theorem dX10_common_28 : decode cX10_common 28 = .ok (.lload 6, 2) := by decide +kernel
theorem dX10_common_30 : decode cX10_common 30 = .ok (.lconst 0, 1) := by decide +kernel
theorem dX10_common_31 : decode cX10_common 31 = .ok (.lcmp, 1) := by decide +kernel
theorem dX10_common_32 : decode cX10_common 32 = .ok (.ifCond .eq 21, 3) := by decide +kernel
theorem dX10_common_35 : decode cX10_common 35 = .ok (.lload 4, 2) := by decide +kernel
theorem dX10_common_37 : decode cX10_common 37 = .ok (.lload 6, 2) := by decide +kernel
theorem dX10_common_39 : decode cX10_common 39 = .ok (.lrem, 1) := by decide +kernel
theorem dX10_common_40 : decode cX10_common 40 = .ok (.lstore 8, 2) := by decide +kernel
theorem dX10_common_42 : decode cX10_common 42 = .ok (.lload 6, 2) := by decide +kernel
theorem dX10_common_44 : decode cX10_common 44 = .ok (.lstore 4, 2) := by decide +kernel
theorem dX10_common_46 : decode cX10_common 46 = .ok (.lload 8, 2) := by decide +kernel
theorem dX10_common_48 : decode cX10_common 48 = .ok (.lstore 6, 2) := by decide +kernel
theorem dX10_common_50 : decode cX10_common 50 = .ok (.goto (-22), 3) := by decide +kernel
theorem dX10_common_53 : decode cX10_common 53 = .ok (.lload 4, 2) := by decide +kernel
theorem dX10_common_55 : decode cX10_common 55 = .ok (.lreturn, 1) := by decide +kernel
/-! AlgebraHouseModel.common(JJ)J -/
def P_X10_common_28 (Q : Int → MM → Prop) : Nat → Int → Int → MM → Prop
  | 0, _, _, _ => False
  | n + 1, x4, x6, m => (RL x6) ∧ (if x6 = 0 then Q x4 m else (RL x4) ∧ (x6 ≠ 0) ∧ P_X10_common_28 Q n x6 (Int.tmod x4 x6) m)
def P_X10_common (x0 : Int) (x2 : Int) (m : MM) (Q : Int → MM → Prop) : Prop := ((RL x0)) ∧ (RL x2) ∧ (if 0 ≤ x2 then ∃ nn, P_X10_common_28 Q nn (if 0 ≤ x0 then x0 else (-x0) : Int) x2 m else ∃ nn, P_X10_common_28 Q nn (if 0 ≤ x0 then x0 else (-x0) : Int) (-x2) m)
theorem pl_X10_common_28 {f : Nat} {Q : Int → MM → Prop} {T : MM → Prop} (hf : 1 ≤ f) : ∀ (n : Nat) (x4 : Int) (x6 : Int) (m : MM), P_X10_common_28 Q n x4 x6 m → B f M_X10_common 28 [vU, vU, vU, vU, vL x4, vU, vL x6, vU, vU, vU] [] m Q T := by
  intro n
  induction n with
  | zero => intro x4 x6 m h; exact h.elim
  | succ n ih =>
    intro x4 x6 m h
    have h : (RL x6) ∧ (if x6 = 0 then Q x4 m else (RL x4) ∧ (x6 ≠ 0) ∧ P_X10_common_28 Q n x6 (Int.tmod x4 x6) m) := h
    refine b_lload dX10_common_28 rfl ?_
    refine b_lconst 0 dX10_common_30 (by decide) ?_
    obtain ⟨g1, h⟩ := h
    refine b_lc_eq 53 dX10_common_31 dX10_common_32 g1 (by decide) (by decide) (fun c1 => ?_) (fun c1 => ?_)
    · have h := ifT c1 h
      refine b_lload dX10_common_53 rfl ?_
      exact b_lret dX10_common_55 rfl h
    · have h := ifF c1 h
      refine b_lload dX10_common_35 rfl ?_
      refine b_lload dX10_common_37 rfl ?_
      obtain ⟨g2, h⟩ := h
      obtain ⟨g3, h⟩ := h
      refine b_lrem dX10_common_39 g2 g1 g3 ?_
      refine b_lstore (ls' := [vU, vU, vU, vU, vL x4, vU, vL x6, vU, vL (Int.tmod x4 x6), vU]) dX10_common_40 (Nat.le_of_ble_eq_true rfl) rfl ?_
      refine b_lload dX10_common_42 rfl ?_
      refine b_lstore (ls' := [vU, vU, vU, vU, vL x6, vU, vL x6, vU, vL (Int.tmod x4 x6), vU]) dX10_common_44 (Nat.le_of_ble_eq_true rfl) rfl ?_
      refine b_lload dX10_common_46 rfl ?_
      refine b_lstore (ls' := [vU, vU, vU, vU, vL x6, vU, vL (Int.tmod x4 x6), vU, vL (Int.tmod x4 x6), vU]) dX10_common_48 (Nat.le_of_ble_eq_true rfl) rfl ?_
      refine b_goto 28 dX10_common_50 (by decide) ?_
      refine b_fgt [false, false, false, false, true, false, true, false, false, false] (ls' := [vU, vU, vU, vU, vL x6, vU, vL (Int.tmod x4 x6), vU, vU, vU]) rfl rfl ?_
      exact ih _ _ _ h
theorem p_X10_common {f : Nat} {Q : Int → MM → Prop} {T : MM → Prop} (hf : 1 ≤ f) (x0 : Int) (x2 : Int) (m : MM) (h : P_X10_common x0 x2 m Q) : CC f M_X10_common [vL x0, vL x2] m Q T := by
  refine CC.of (plainFor_of_name (by decide)) (Nat.le_of_ble_eq_true rfl) (ls := [vL x0, vU, vL x2, vU, vU, vU, vU, vU, vU, vU]) rfl ?_
  have h : ((RL x0)) ∧ (RL x2) ∧ (if 0 ≤ x2 then ∃ nn, P_X10_common_28 Q nn (if 0 ≤ x0 then x0 else (-x0) : Int) x2 m else ∃ nn, P_X10_common_28 Q nn (if 0 ≤ x0 then x0 else (-x0) : Int) (-x2) m) := h
  refine b_lload_n dX10_common_0 rfl ?_
  refine b_lconst 0 dX10_common_1 (by decide) ?_
  obtain ⟨hs, h⟩ := h
  have K : B f M_X10_common 12 [vL x0, vU, vL x2, vU, vU, vU, vU, vU, vU, vU] [vL (if 0 ≤ x0 then x0 else (-x0) : Int)] m Q T := by
    clear hs
    refine b_lstore (ls' := [vL x0, vU, vL x2, vU, vL (if 0 ≤ x0 then x0 else (-x0) : Int), vU, vU, vU, vU, vU]) dX10_common_12 (Nat.le_of_ble_eq_true rfl) rfl ?_
    refine b_lload_n dX10_common_14 rfl ?_
    refine b_lconst 0 dX10_common_15 (by decide) ?_
    obtain ⟨g2, h⟩ := h
    refine b_lc_ge 25 dX10_common_16 dX10_common_17 g2 (by decide) (by decide) (fun c1 => ?_) (fun c1 => ?_)
    · have h := ifT c1 h
      refine b_lload_n dX10_common_25 rfl ?_
      refine b_lstore (ls' := [vL x0, vU, vL x2, vU, vL (if 0 ≤ x0 then x0 else (-x0) : Int), vU, vL x2, vU, vU, vU]) dX10_common_26 (Nat.le_of_ble_eq_true rfl) rfl ?_
      refine b_fgt [false, false, false, false, true, false, true, false, false, false] (ls' := [vU, vU, vU, vU, vL (if 0 ≤ x0 then x0 else (-x0) : Int), vU, vL x2, vU, vU, vU]) rfl rfl ?_
      obtain ⟨nn, h⟩ := h
      exact pl_X10_common_28 hf nn _ _ _ h
    · have h := ifF c1 h
      refine b_lload_n dX10_common_20 rfl ?_
      refine b_lneg dX10_common_21 ?_
      refine b_goto 26 dX10_common_22 (by decide) ?_
      refine b_lstore (ls' := [vL x0, vU, vL x2, vU, vL (if 0 ≤ x0 then x0 else (-x0) : Int), vU, vL (-x2), vU, vU, vU]) dX10_common_26 (Nat.le_of_ble_eq_true rfl) rfl ?_
      refine b_fgt [false, false, false, false, true, false, true, false, false, false] (ls' := [vU, vU, vU, vU, vL (if 0 ≤ x0 then x0 else (-x0) : Int), vU, vL (-x2), vU, vU, vU]) rfl rfl ?_
      obtain ⟨nn, h⟩ := h
      exact pl_X10_common_28 hf nn _ _ _ h
  have g1 := hs
  refine b_lc_ge 11 dX10_common_2 dX10_common_3 g1 (by decide) (by decide) (fun c2 => ?_) (fun c2 => ?_)
  ·
    refine b_lload_n dX10_common_11 rfl ?_
    rw [if_pos c2] at K
    exact K
  ·
    refine b_lload_n dX10_common_6 rfl ?_
    refine b_lneg dX10_common_7 ?_
    refine b_goto 12 dX10_common_8 (by decide) ?_
    rw [if_neg c2] at K
    exact K
theorem dX10_modulo_0 : decode cX10_modulo 0 = .ok (.iload_n 1, 1) := by decide +kernel
theorem dX10_modulo_1 : decode cX10_modulo 1 = .ok (.sipush 10007, 3) := by decide +kernel
theorem dX10_modulo_4 : decode cX10_modulo 4 = .ok (.if_icmp .eq 10, 3) := by decide +kernel
theorem dX10_modulo_7 : decode cX10_modulo 7 = .ok (.iload_n 1, 1) := by decide +kernel
theorem dX10_modulo_8 : decode cX10_modulo 8 = .ok (.sipush 10000, 3) := by decide +kernel
theorem dX10_modulo_11 : decode cX10_modulo 11 = .ok (.if_icmp .ne 11, 3) := by decide +kernel
theorem dX10_modulo_14 : decode cX10_modulo 14 = .ok (.aload_n 0, 1) := by decide +kernel
theorem dX10_modulo_15 : decode cX10_modulo 15 = .ok (.getfield 253, 3) := by decide +kernel
theorem dX10_modulo_18 : decode cX10_modulo 18 = .ok (.i2l, 1) := by decide +kernel
theorem dX10_modulo_19 : decode cX10_modulo 19 = .ok (.goto 5, 3) := by decide +kernel
theorem dX10_modulo_22 : decode cX10_modulo 22 = .ok (.iload_n 1, 1) := by decide +kernel
theorem dX10_modulo_23 : decode cX10_modulo 23 = .ok (.i2l, 1) := by decide +kernel
theorem dX10_modulo_24 : decode cX10_modulo 24 = .ok (.lreturn, 1) := by decide +kernel
/-! AlgebraHouseModel.modulo(I)J -/
def P_X10_modulo (x1 : Int) (m : MM) (Q : Int → MM → Prop) : Prop := (RI x1) ∧ (if x1 = 10007 then (RI (m 582 89)) ∧ Q (m 582 89) m else (if x1 = 10000 then (RI (m 582 89)) ∧ Q (m 582 89) m else Q x1 m))
theorem p_X10_modulo {f : Nat} {Q : Int → MM → Prop} {T : MM → Prop} (hf : 1 ≤ f) (x1 : Int) (m : MM) (h : P_X10_modulo x1 m Q) : CC f M_X10_modulo [vR 582, vI x1] m Q T := by
  refine CC.of (plainFor_of_name (by decide)) (Nat.le_of_ble_eq_true rfl) (ls := [vR 582, vI x1]) rfl ?_
  have h : (RI x1) ∧ (if x1 = 10007 then (RI (m 582 89)) ∧ Q (m 582 89) m else (if x1 = 10000 then (RI (m 582 89)) ∧ Q (m 582 89) m else Q x1 m)) := h
  refine b_iload_n dX10_modulo_0 rfl ?_
  refine b_sipush dX10_modulo_1 (by decide) ?_
  obtain ⟨g1, h⟩ := h
  refine b_icmp_eq 14 dX10_modulo_4 g1 (by decide) (by decide) (fun c1 => ?_) (fun c1 => ?_)
  · have h := ifT c1 h
    refine b_aload_n dX10_modulo_14 rfl ?_
    refine b_getI dX10_modulo_15 fk_X10_253 ly_582 ?_
    obtain ⟨g2, h⟩ := h
    refine b_i2l dX10_modulo_18 g2 ?_
    refine b_goto 24 dX10_modulo_19 (by decide) ?_
    exact b_lret dX10_modulo_24 rfl h
  · have h := ifF c1 h
    refine b_iload_n dX10_modulo_7 rfl ?_
    refine b_sipush dX10_modulo_8 (by decide) ?_
    refine b_icmp_ne 22 dX10_modulo_11 g1 (by decide) (by decide) (fun c2 => ?_) (fun c2 => ?_)
    · have h := ifF c2 h
      refine b_iload_n dX10_modulo_22 rfl ?_
      refine b_i2l dX10_modulo_23 g1 ?_
      exact b_lret dX10_modulo_24 rfl h
    · have h := ifT (Decidable.of_not_not c2) h
      refine b_aload_n dX10_modulo_14 rfl ?_
      refine b_getI dX10_modulo_15 fk_X10_253 ly_582 ?_
      obtain ⟨g3, h⟩ := h
      refine b_i2l dX10_modulo_18 g3 ?_
      refine b_goto 24 dX10_modulo_19 (by decide) ?_
      exact b_lret dX10_modulo_24 rfl h
theorem dX10_number_0 : decode cX10_number 0 = .ok (.aload_n 0, 1) := by decide +kernel
theorem dX10_number_1 : decode cX10_number 1 = .ok (.getfield 601, 3) := by decide +kernel
theorem dX10_number_4 : decode cX10_number 4 = .ok (.ifCond .le 4, 3) := by decide +kernel
theorem dX10_number_7 : decode cX10_number 7 = .ok (.return_, 1) := by decide +kernel
theorem dX10_number_8 : decode cX10_number 8 = .ok (.aload_n 0, 1) := by decide +kernel
theorem dX10_number_9 : decode cX10_number 9 = .ok (.lload_n 2, 1) := by decide +kernel
theorem dX10_number_10 : decode cX10_number 10 = .ok (.putfield 604, 3) := by decide +kernel
theorem dX10_number_13 : decode cX10_number 13 = .ok (.aload_n 0, 1) := by decide +kernel
theorem dX10_number_14 : decode cX10_number 14 = .ok (.lload 4, 2) := by decide +kernel
theorem dX10_number_16 : decode cX10_number 16 = .ok (.putfield 608, 3) := by decide +kernel
theorem dX10_number_19 : decode cX10_number 19 = .ok (.iload_n 1, 1) := by decide +kernel
theorem dX10_number_20 : decode cX10_number 20 = .ok (.iconst 1, 1) := by decide +kernel
theorem dX10_number_21 : decode cX10_number 21 = .ok (.if_icmp .le 22, 3) := by decide +kernel
theorem dX10_number_24 : decode cX10_number 24 = .ok (.aload_n 0, 1) := by decide +kernel
theorem dX10_number_25 : decode cX10_number 25 = .ok (.lload_n 2, 1) := by decide +kernel
theorem dX10_number_26 : decode cX10_number 26 = .ok (.aload_n 0, 1) := by decide +kernel
theorem dX10_number_27 : decode cX10_number 27 = .ok (.iload_n 1, 1) := by decide +kernel
theorem dX10_number_28 : decode cX10_number 28 = .ok (.invokevirtual 611, 3) := by decide +kernel
theorem dX10_number_31 : decode cX10_number 31 = .ok (.invokestatic 615, 3) := by decide +kernel
theorem dX10_number_34 : decode cX10_number 34 = .ok (.putfield 604, 3) := by decide +kernel
theorem dX10_number_37 : decode cX10_number 37 = .ok (.aload_n 0, 1) := by decide +kernel
theorem dX10_number_38 : decode cX10_number 38 = .ok (.lconst 1, 1) := by decide +kernel
theorem dX10_number_39 : decode cX10_number 39 = .ok (.putfield 608, 3) := by decide +kernel
theorem dX10_number_42 : decode cX10_number 42 = .ok (.return_, 1) := by decide +kernel
theorem dX10_number_43 : decode cX10_number 43 = .ok (.iload_n 1, 1) := by decide +kernel
theorem dX10_number_44 : decode cX10_number 44 = .ok (.iconst 1, 1) := by decide +kernel
theorem dX10_number_45 : decode cX10_number 45 = .ok (.if_icmp .ne 40, 3) := by decide +kernel
theorem dX10_number_48 : decode cX10_number 48 = .ok (.lload_n 2, 1) := by decide +kernel
theorem dX10_number_49 : decode cX10_number 49 = .ok (.lload 4, 2) := by decide +kernel
theorem dX10_number_51 : decode cX10_number 51 = .ok (.invokestatic 619, 3) := by decide +kernel
theorem dX10_number_54 : decode cX10_number 54 = .ok (.lstore 6, 2) := by decide +kernel
theorem dX10_number_56 : decode cX10_number 56 = .ok (.lload 4, 2) := by decide +kernel
theorem dX10_number_58 : decode cX10_number 58 = .ok (.lconst 0, 1) := by decide +kernel
theorem dX10_number_59 : decode cX10_number 59 = .ok (.lcmp, 1) := by decide +kernel
theorem dX10_number_60 : decode cX10_number 60 = .ok (.ifCond .ge 8, 3) := by decide +kernel
theorem dX10_number_63 : decode cX10_number 63 = .ok (.lload 6, 2) := by decide +kernel
theorem dX10_number_65 : decode cX10_number 65 = .ok (.lneg, 1) := by decide +kernel
theorem dX10_number_66 : decode cX10_number 66 = .ok (.lstore 6, 2) := by decide +kernel
theorem dX10_number_68 : decode cX10_number 68 = .ok (.aload_n 0, 1) := by decide +kernel
theorem dX10_number_69 : decode cX10_number 69 = .ok (.lload_n 2, 1) := by decide +kernel
theorem dX10_number_70 : decode cX10_number 70 = .ok (.lload 6, 2) := by decide +kernel
theorem dX10_number_72 : decode cX10_number 72 = .ok (.ldiv, 1) := by decide +kernel
theorem dX10_number_73 : decode cX10_number 73 = .ok (.putfield 604, 3) := by decide +kernel
theorem dX10_number_76 : decode cX10_number 76 = .ok (.aload_n 0, 1) := by decide +kernel
theorem dX10_number_77 : decode cX10_number 77 = .ok (.lload 4, 2) := by decide +kernel
theorem dX10_number_79 : decode cX10_number 79 = .ok (.lload 6, 2) := by decide +kernel
theorem dX10_number_81 : decode cX10_number 81 = .ok (.ldiv, 1) := by decide +kernel
theorem dX10_number_82 : decode cX10_number 82 = .ok (.putfield 608, 3) := by decide +kernel
theorem dX10_number_85 : decode cX10_number 85 = .ok (.aload_n 0, 1) := by decide +kernel
theorem dX10_number_86 : decode cX10_number 86 = .ok (.getfield 604, 3) := by decide +kernel
theorem dX10_number_89 : decode cX10_number 89 = .ok (.ldc2_w 622, 3) := by decide +kernel
theorem dX10_number_92 : decode cX10_number 92 = .ok (.lcmp, 1) := by decide +kernel
theorem dX10_number_93 : decode cX10_number 93 = .ok (.ifCond .gt 25, 3) := by decide +kernel
theorem dX10_number_96 : decode cX10_number 96 = .ok (.aload_n 0, 1) := by decide +kernel
theorem dX10_number_97 : decode cX10_number 97 = .ok (.getfield 604, 3) := by decide +kernel
theorem dX10_number_100 : decode cX10_number 100 = .ok (.ldc2_w 624, 3) := by decide +kernel
theorem dX10_number_103 : decode cX10_number 103 = .ok (.lcmp, 1) := by decide +kernel
theorem dX10_number_104 : decode cX10_number 104 = .ok (.ifCond .lt 14, 3) := by decide +kernel
theorem dX10_number_107 : decode cX10_number 107 = .ok (.aload_n 0, 1) := by decide +kernel
theorem dX10_number_108 : decode cX10_number 108 = .ok (.getfield 608, 3) := by decide +kernel
theorem dX10_number_111 : decode cX10_number 111 = .ok (.ldc2_w 622, 3) := by decide +kernel
theorem dX10_number_114 : decode cX10_number 114 = .ok (.lcmp, 1) := by decide +kernel
theorem dX10_number_115 : decode cX10_number 115 = .ok (.ifCond .le 8, 3) := by decide +kernel
theorem dX10_number_118 : decode cX10_number 118 = .ok (.aload_n 0, 1) := by decide +kernel
theorem dX10_number_119 : decode cX10_number 119 = .ok (.iconst 1, 1) := by decide +kernel
theorem dX10_number_120 : decode cX10_number 120 = .ok (.putfield 601, 3) := by decide +kernel
theorem dX10_number_123 : decode cX10_number 123 = .ok (.return_, 1) := by decide +kernel
/-! AlgebraHouseModel.number(IJJ)V -/
def P_X10_number_85 (Q : Int → MM → Prop) (m : MM) : Prop := (RL (m 582 87)) ∧ (if 999999999 < (m 582 87) then ∀ m1 : MM, m1 = up m 582 84 1 → Q 0 m1 else (if (m 582 87) < (-999999999) then ∀ m2 : MM, m2 = up m 582 84 1 → Q 0 m2 else (RL (m 582 88)) ∧ (if (m 582 88) ≤ 999999999 then Q 0 m else ∀ m3 : MM, m3 = up m 582 84 1 → Q 0 m3)))
def P_X10_number_68 (Q : Int → MM → Prop) (x2 : Int) (x4 : Int) (x6 : Int) (m : MM) : Prop := (RL x2) ∧ (RL x6) ∧ (x6 ≠ 0) ∧ ∀ m1 : MM, m1 = up m 582 87 (Int.tdiv x2 x6) → (RL x4) ∧ ∀ m2 : MM, m2 = up m1 582 88 (Int.tdiv x4 x6) → P_X10_number_85 Q m2
def P_X10_number (x1 : Int) (x2 : Int) (x4 : Int) (m : MM) (Q : Int → MM → Prop) : Prop := (RI (m 582 84)) ∧ (if (m 582 84) ≤ 0 then ∀ m1 : MM, m1 = up m 582 87 x2 → ∀ m2 : MM, m2 = up m1 582 88 x4 → (RI x1) ∧ (if x1 ≤ 1 then (if x1 = 1 then P_X10_common x2 x4 m2 (fun r1 m3 => (RL x4) ∧ (if 0 ≤ x4 then P_X10_number_68 Q x2 x4 r1 m3 else P_X10_number_68 Q x2 x4 (-r1) m3)) else P_X10_number_85 Q m2) else P_X10_modulo x1 m2 (fun r2 m4 => P_J4_floorMod_2 x2 r2 m4 (fun r3 m5 => ∀ m6 : MM, m6 = up m5 582 87 r3 → ∀ m7 : MM, m7 = up m6 582 88 1 → Q 0 m7))) else Q 0 m)
theorem pl_X10_number_85 {f : Nat} {Q : Int → MM → Prop} {T : MM → Prop} (hf : 2 ≤ f) : ∀ (m : MM), P_X10_number_85 Q m → B f M_X10_number 85 [vR 582, vU, vU, vU, vU, vU, vU, vU] [] m Q T := by
  intro m h
  have h : (RL (m 582 87)) ∧ (if 999999999 < (m 582 87) then ∀ m1 : MM, m1 = up m 582 84 1 → Q 0 m1 else (if (m 582 87) < (-999999999) then ∀ m2 : MM, m2 = up m 582 84 1 → Q 0 m2 else (RL (m 582 88)) ∧ (if (m 582 88) ≤ 999999999 then Q 0 m else ∀ m3 : MM, m3 = up m 582 84 1 → Q 0 m3))) := h
  refine b_aload_n dX10_number_85 rfl ?_
  refine b_getL dX10_number_86 fk_X10_604 ly_582 ?_
  refine b_ldc2 (999999999) dX10_number_89 q2384 (by decide) ?_
  obtain ⟨g1, h⟩ := h
  refine b_lc_gt 118 dX10_number_92 dX10_number_93 g1 (by decide) (by decide) (fun c1 => ?_) (fun c1 => ?_)
  · have h := ifT c1 h
    refine b_aload_n dX10_number_118 rfl ?_
    refine b_iconst dX10_number_119 ?_
    refine b_putI dX10_number_120 fk_X10_601 ly_582 (fun m1 em1 => ?_)
    have h := h m1 em1
    exact b_vret dX10_number_123 rfl h
  · have h := ifF c1 h
    refine b_aload_n dX10_number_96 rfl ?_
    refine b_getL dX10_number_97 fk_X10_604 ly_582 ?_
    refine b_ldc2 (-999999999) dX10_number_100 q2385 (by decide) ?_
    refine b_lc_lt 118 dX10_number_103 dX10_number_104 g1 (by decide) (by decide) (fun c2 => ?_) (fun c2 => ?_)
    · have h := ifT c2 h
      refine b_aload_n dX10_number_118 rfl ?_
      refine b_iconst dX10_number_119 ?_
      refine b_putI dX10_number_120 fk_X10_601 ly_582 (fun m2 em2 => ?_)
      have h := h m2 em2
      exact b_vret dX10_number_123 rfl h
    · have h := ifF c2 h
      refine b_aload_n dX10_number_107 rfl ?_
      refine b_getL dX10_number_108 fk_X10_608 ly_582 ?_
      refine b_ldc2 (999999999) dX10_number_111 q2384 (by decide) ?_
      obtain ⟨g2, h⟩ := h
      refine b_lc_le 123 dX10_number_114 dX10_number_115 g2 (by decide) (by decide) (fun c3 => ?_) (fun c3 => ?_)
      · have h := ifT c3 h
        exact b_vret dX10_number_123 rfl h
      · have h := ifF c3 h
        refine b_aload_n dX10_number_118 rfl ?_
        refine b_iconst dX10_number_119 ?_
        refine b_putI dX10_number_120 fk_X10_601 ly_582 (fun m3 em3 => ?_)
        have h := h m3 em3
        exact b_vret dX10_number_123 rfl h
theorem pl_X10_number_68 {f : Nat} {Q : Int → MM → Prop} {T : MM → Prop} (hf : 2 ≤ f) : ∀ (x2 : Int) (x4 : Int) (x6 : Int) (m : MM), P_X10_number_68 Q x2 x4 x6 m → B f M_X10_number 68 [vR 582, vU, vL x2, vU, vL x4, vU, vL x6, vU] [] m Q T := by
  intro x2 x4 x6 m h
  have h : (RL x2) ∧ (RL x6) ∧ (x6 ≠ 0) ∧ ∀ m1 : MM, m1 = up m 582 87 (Int.tdiv x2 x6) → (RL x4) ∧ ∀ m2 : MM, m2 = up m1 582 88 (Int.tdiv x4 x6) → P_X10_number_85 Q m2 := h
  refine b_aload_n dX10_number_68 rfl ?_
  refine b_lload_n dX10_number_69 rfl ?_
  refine b_lload dX10_number_70 rfl ?_
  obtain ⟨g1, h⟩ := h
  obtain ⟨g2, h⟩ := h
  obtain ⟨g3, h⟩ := h
  refine b_ldiv dX10_number_72 g1 g2 g3 ?_
  refine b_putL dX10_number_73 fk_X10_604 ly_582 (fun m1 em1 => ?_)
  have h := h m1 em1
  refine b_aload_n dX10_number_76 rfl ?_
  refine b_lload dX10_number_77 rfl ?_
  refine b_lload dX10_number_79 rfl ?_
  obtain ⟨g4, h⟩ := h
  refine b_ldiv dX10_number_81 g4 g2 g3 ?_
  refine b_putL dX10_number_82 fk_X10_608 ly_582 (fun m2 em2 => ?_)
  have h := h m2 em2
  refine b_fgt [true, false, false, false, false, false, false, false] (ls' := [vR 582, vU, vU, vU, vU, vU, vU, vU]) rfl rfl ?_
  exact pl_X10_number_85 hf _ h
theorem p_X10_number {f : Nat} {Q : Int → MM → Prop} {T : MM → Prop} (hf : 2 ≤ f) (x1 : Int) (x2 : Int) (x4 : Int) (m : MM) (h : P_X10_number x1 x2 x4 m Q) : CC f M_X10_number [vR 582, vI x1, vL x2, vL x4] m Q T := by
  refine CC.of (plainFor_of_name (by decide)) (Nat.le_of_ble_eq_true rfl) (ls := [vR 582, vI x1, vL x2, vU, vL x4, vU, vU, vU]) rfl ?_
  have h : (RI (m 582 84)) ∧ (if (m 582 84) ≤ 0 then ∀ m1 : MM, m1 = up m 582 87 x2 → ∀ m2 : MM, m2 = up m1 582 88 x4 → (RI x1) ∧ (if x1 ≤ 1 then (if x1 = 1 then P_X10_common x2 x4 m2 (fun r1 m3 => (RL x4) ∧ (if 0 ≤ x4 then P_X10_number_68 Q x2 x4 r1 m3 else P_X10_number_68 Q x2 x4 (-r1) m3)) else P_X10_number_85 Q m2) else P_X10_modulo x1 m2 (fun r2 m4 => P_J4_floorMod_2 x2 r2 m4 (fun r3 m5 => ∀ m6 : MM, m6 = up m5 582 87 r3 → ∀ m7 : MM, m7 = up m6 582 88 1 → Q 0 m7))) else Q 0 m) := h
  refine b_aload_n dX10_number_0 rfl ?_
  refine b_getI dX10_number_1 fk_X10_601 ly_582 ?_
  obtain ⟨g1, h⟩ := h
  refine b_if_le 8 dX10_number_4 g1 (by decide) (fun c1 => ?_) (fun c1 => ?_)
  · have h := ifT c1 h
    refine b_aload_n dX10_number_8 rfl ?_
    refine b_lload_n dX10_number_9 rfl ?_
    refine b_putL dX10_number_10 fk_X10_604 ly_582 (fun m1 em1 => ?_)
    have h := h m1 em1
    refine b_aload_n dX10_number_13 rfl ?_
    refine b_lload dX10_number_14 rfl ?_
    refine b_putL dX10_number_16 fk_X10_608 ly_582 (fun m2 em2 => ?_)
    have h := h m2 em2
    refine b_iload_n dX10_number_19 rfl ?_
    refine b_iconst dX10_number_20 ?_
    obtain ⟨g2, h⟩ := h
    refine b_icmp_le 43 dX10_number_21 g2 (by decide) (by decide) (fun c2 => ?_) (fun c2 => ?_)
    · have h := ifT c2 h
      refine b_iload_n dX10_number_43 rfl ?_
      refine b_iconst dX10_number_44 ?_
      refine b_icmp_ne 85 dX10_number_45 g2 (by decide) (by decide) (fun c3 => ?_) (fun c3 => ?_)
      · have h := ifF c3 h
        refine b_fgt [true, false, false, false, false, false, false, false] (ls' := [vR 582, vU, vU, vU, vU, vU, vU, vU]) rfl rfl ?_
        exact pl_X10_number_85 hf _ h
      · have h := ifT (Decidable.of_not_not c3) h
        refine b_lload_n dX10_number_48 rfl ?_
        refine b_lload dX10_number_49 rfl ?_
        refine b_cSl (as := [vL x2, vL x4]) (st := []) dX10_number_51 mf_X10_common lk_X10_619 (p_X10_common (f := 1) (Nat.le_refl _) _ _ _ h) (by omega) rfl rfl (Nat.le_of_ble_eq_true rfl) (by decide) rfl (fun _ => rfl) (fun r1 m3 h => ?_) (fun _ h => h)
        refine b_lstore (ls' := [vR 582, vI x1, vL x2, vU, vL x4, vU, vL r1, vU]) dX10_number_54 (Nat.le_of_ble_eq_true rfl) rfl ?_
        refine b_lload dX10_number_56 rfl ?_
        refine b_lconst 0 dX10_number_58 (by decide) ?_
        obtain ⟨g3, h⟩ := h
        refine b_lc_ge 68 dX10_number_59 dX10_number_60 g3 (by decide) (by decide) (fun c4 => ?_) (fun c4 => ?_)
        · have h := ifT c4 h
          refine b_fgt [true, false, true, false, true, false, true, false] (ls' := [vR 582, vU, vL x2, vU, vL x4, vU, vL r1, vU]) rfl rfl ?_
          exact pl_X10_number_68 hf _ _ _ _ h
        · have h := ifF c4 h
          refine b_lload dX10_number_63 rfl ?_
          refine b_lneg dX10_number_65 ?_
          refine b_lstore (ls' := [vR 582, vI x1, vL x2, vU, vL x4, vU, vL (-r1), vU]) dX10_number_66 (Nat.le_of_ble_eq_true rfl) rfl ?_
          refine b_fgt [true, false, true, false, true, false, true, false] (ls' := [vR 582, vU, vL x2, vU, vL x4, vU, vL (-r1), vU]) rfl rfl ?_
          exact pl_X10_number_68 hf _ _ _ _ h
    · have h := ifF c2 h
      refine b_aload_n dX10_number_24 rfl ?_
      refine b_lload_n dX10_number_25 rfl ?_
      refine b_aload_n dX10_number_26 rfl ?_
      refine b_iload_n dX10_number_27 rfl ?_
      refine b_cVl (as := [vI x1]) (st := [vL x2, vR 582]) dX10_number_28 mf_X10_modulo qs174 lk_X10_611 ly_582 rfl (p_X10_modulo (f := 1) (Nat.le_refl _) _ _ h) (by omega) rfl rfl (Nat.le_of_ble_eq_true rfl) (by decide) rfl (fun _ => rfl) (fun r2 m4 h => ?_) (fun _ h => h)
      refine b_cSl (as := [vL x2, vL r2]) (st := [vR 582]) dX10_number_31 mf_J4_floorMod_2 lk_X10_615 (p_J4_floorMod_2 (f := 1) (Nat.le_refl _) _ _ _ h) (by omega) rfl rfl (Nat.le_of_ble_eq_true rfl) (by decide) rfl (fun _ => rfl) (fun r3 m5 h => ?_) (fun _ h => h)
      refine b_putL dX10_number_34 fk_X10_604 ly_582 (fun m6 em6 => ?_)
      have h := h m6 em6
      refine b_aload_n dX10_number_37 rfl ?_
      refine b_lconst 1 dX10_number_38 (by decide) ?_
      refine b_putL dX10_number_39 fk_X10_608 ly_582 (fun m7 em7 => ?_)
      have h := h m7 em7
      exact b_vret dX10_number_42 rfl h
  · have h := ifF c1 h
    exact b_vret dX10_number_7 rfl h
theorem dX10_addNumbers_0 : decode cX10_addNumbers 0 = .ok (.iload_n 1, 1) := by decide +kernel
theorem dX10_addNumbers_1 : decode cX10_addNumbers 1 = .ok (.iconst 1, 1) := by decide +kernel
theorem dX10_addNumbers_2 : decode cX10_addNumbers 2 = .ok (.if_icmp .ne 59, 3) := by decide +kernel
theorem dX10_addNumbers_5 : decode cX10_addNumbers 5 = .ok (.aload_n 0, 1) := by decide +kernel
theorem dX10_addNumbers_6 : decode cX10_addNumbers 6 = .ok (.iload_n 1, 1) := by decide +kernel
theorem dX10_addNumbers_7 : decode cX10_addNumbers 7 = .ok (.aload_n 0, 1) := by decide +kernel
theorem dX10_addNumbers_8 : decode cX10_addNumbers 8 = .ok (.getfield 250, 3) := by decide +kernel
theorem dX10_addNumbers_11 : decode cX10_addNumbers 11 = .ok (.iload_n 2, 1) := by decide +kernel
theorem dX10_addNumbers_12 : decode cX10_addNumbers 12 = .ok (.laload, 1) := by decide +kernel
theorem dX10_addNumbers_13 : decode cX10_addNumbers 13 = .ok (.aload_n 0, 1) := by decide +kernel
theorem dX10_addNumbers_14 : decode cX10_addNumbers 14 = .ok (.getfield 250, 3) := by decide +kernel
theorem dX10_addNumbers_17 : decode cX10_addNumbers 17 = .ok (.iload_n 3, 1) := by decide +kernel
theorem dX10_addNumbers_18 : decode cX10_addNumbers 18 = .ok (.iconst 1, 1) := by decide +kernel
theorem dX10_addNumbers_19 : decode cX10_addNumbers 19 = .ok (.iadd, 1) := by decide +kernel
theorem dX10_addNumbers_20 : decode cX10_addNumbers 20 = .ok (.laload, 1) := by decide +kernel
theorem dX10_addNumbers_21 : decode cX10_addNumbers 21 = .ok (.lmul, 1) := by decide +kernel
theorem dX10_addNumbers_22 : decode cX10_addNumbers 22 = .ok (.aload_n 0, 1) := by decide +kernel
theorem dX10_addNumbers_23 : decode cX10_addNumbers 23 = .ok (.getfield 250, 3) := by decide +kernel
theorem dX10_addNumbers_26 : decode cX10_addNumbers 26 = .ok (.iload_n 3, 1) := by decide +kernel
theorem dX10_addNumbers_27 : decode cX10_addNumbers 27 = .ok (.laload, 1) := by decide +kernel
theorem dX10_addNumbers_28 : decode cX10_addNumbers 28 = .ok (.aload_n 0, 1) := by decide +kernel
theorem dX10_addNumbers_29 : decode cX10_addNumbers 29 = .ok (.getfield 250, 3) := by decide +kernel
theorem dX10_addNumbers_32 : decode cX10_addNumbers 32 = .ok (.iload_n 2, 1) := by decide +kernel
theorem dX10_addNumbers_33 : decode cX10_addNumbers 33 = .ok (.iconst 1, 1) := by decide +kernel
theorem dX10_addNumbers_34 : decode cX10_addNumbers 34 = .ok (.iadd, 1) := by decide +kernel
theorem dX10_addNumbers_35 : decode cX10_addNumbers 35 = .ok (.laload, 1) := by decide +kernel
theorem dX10_addNumbers_36 : decode cX10_addNumbers 36 = .ok (.lmul, 1) := by decide +kernel
theorem dX10_addNumbers_37 : decode cX10_addNumbers 37 = .ok (.ladd, 1) := by decide +kernel
theorem dX10_addNumbers_38 : decode cX10_addNumbers 38 = .ok (.aload_n 0, 1) := by decide +kernel
theorem dX10_addNumbers_39 : decode cX10_addNumbers 39 = .ok (.getfield 250, 3) := by decide +kernel
theorem dX10_addNumbers_42 : decode cX10_addNumbers 42 = .ok (.iload_n 2, 1) := by decide +kernel
theorem dX10_addNumbers_43 : decode cX10_addNumbers 43 = .ok (.iconst 1, 1) := by decide +kernel
theorem dX10_addNumbers_44 : decode cX10_addNumbers 44 = .ok (.iadd, 1) := by decide +kernel
theorem dX10_addNumbers_45 : decode cX10_addNumbers 45 = .ok (.laload, 1) := by decide +kernel
theorem dX10_addNumbers_46 : decode cX10_addNumbers 46 = .ok (.aload_n 0, 1) := by decide +kernel
theorem dX10_addNumbers_47 : decode cX10_addNumbers 47 = .ok (.getfield 250, 3) := by decide +kernel
theorem dX10_addNumbers_50 : decode cX10_addNumbers 50 = .ok (.iload_n 3, 1) := by decide +kernel
theorem dX10_addNumbers_51 : decode cX10_addNumbers 51 = .ok (.iconst 1, 1) := by decide +kernel
theorem dX10_addNumbers_52 : decode cX10_addNumbers 52 = .ok (.iadd, 1) := by decide +kernel
theorem dX10_addNumbers_53 : decode cX10_addNumbers 53 = .ok (.laload, 1) := by decide +kernel
theorem dX10_addNumbers_54 : decode cX10_addNumbers 54 = .ok (.lmul, 1) := by decide +kernel
theorem dX10_addNumbers_55 : decode cX10_addNumbers 55 = .ok (.invokevirtual 626, 3) := by decide +kernel
theorem dX10_addNumbers_58 : decode cX10_addNumbers 58 = .ok (.goto 22, 3) := by decide +kernel
theorem dX10_addNumbers_61 : decode cX10_addNumbers 61 = .ok (.aload_n 0, 1) := by decide +kernel
theorem dX10_addNumbers_62 : decode cX10_addNumbers 62 = .ok (.iload_n 1, 1) := by decide +kernel
theorem dX10_addNumbers_63 : decode cX10_addNumbers 63 = .ok (.aload_n 0, 1) := by decide +kernel
theorem dX10_addNumbers_64 : decode cX10_addNumbers 64 = .ok (.getfield 250, 3) := by decide +kernel
theorem dX10_addNumbers_67 : decode cX10_addNumbers 67 = .ok (.iload_n 2, 1) := by decide +kernel
theorem dX10_addNumbers_68 : decode cX10_addNumbers 68 = .ok (.laload, 1) := by decide +kernel
theorem dX10_addNumbers_69 : decode cX10_addNumbers 69 = .ok (.aload_n 0, 1) := by decide +kernel
theorem dX10_addNumbers_70 : decode cX10_addNumbers 70 = .ok (.getfield 250, 3) := by decide +kernel
theorem dX10_addNumbers_73 : decode cX10_addNumbers 73 = .ok (.iload_n 3, 1) := by decide +kernel
theorem dX10_addNumbers_74 : decode cX10_addNumbers 74 = .ok (.laload, 1) := by decide +kernel
theorem dX10_addNumbers_75 : decode cX10_addNumbers 75 = .ok (.ladd, 1) := by decide +kernel
theorem dX10_addNumbers_76 : decode cX10_addNumbers 76 = .ok (.lconst 1, 1) := by decide +kernel
theorem dX10_addNumbers_77 : decode cX10_addNumbers 77 = .ok (.invokevirtual 626, 3) := by decide +kernel
theorem dX10_addNumbers_80 : decode cX10_addNumbers 80 = .ok (.return_, 1) := by decide +kernel
/-! AlgebraHouseModel.addNumbers(III)V -/
def P_X10_addNumbers (x1 : Int) (x2 : Int) (x3 : Int) (m : MM) (Q : Int → MM → Prop) : Prop := (RI x1) ∧ (if x1 = 1 then (0 ≤ x2 ∧ x2 < 1600000) ∧ (0 ≤ (x3 + 1) ∧ (x3 + 1) < 1600000) ∧ (0 ≤ x3 ∧ x3 < 1600000) ∧ (0 ≤ (x2 + 1) ∧ (x2 + 1) < 1600000) ∧ P_X10_number x1 (((m 635 x2) * (m 635 (x3 + 1))) + ((m 635 x3) * (m 635 (x2 + 1)))) ((m 635 (x2 + 1)) * (m 635 (x3 + 1))) m (fun r2 m2 => Q 0 m2) else (0 ≤ x2 ∧ x2 < 1600000) ∧ (0 ≤ x3 ∧ x3 < 1600000) ∧ P_X10_number x1 ((m 635 x2) + (m 635 x3)) 1 m (fun r1 m1 => Q 0 m1))
theorem p_X10_addNumbers {f : Nat} {Q : Int → MM → Prop} {T : MM → Prop} (hf : 3 ≤ f) (x1 : Int) (x2 : Int) (x3 : Int) (m : MM) (h : P_X10_addNumbers x1 x2 x3 m Q) : CC f M_X10_addNumbers [vR 582, vI x1, vI x2, vI x3] m Q T := by
  refine CC.of (plainFor_of_name (by decide)) (Nat.le_of_ble_eq_true rfl) (ls := [vR 582, vI x1, vI x2, vI x3]) rfl ?_
  have h : (RI x1) ∧ (if x1 = 1 then (0 ≤ x2 ∧ x2 < 1600000) ∧ (0 ≤ (x3 + 1) ∧ (x3 + 1) < 1600000) ∧ (0 ≤ x3 ∧ x3 < 1600000) ∧ (0 ≤ (x2 + 1) ∧ (x2 + 1) < 1600000) ∧ P_X10_number x1 (((m 635 x2) * (m 635 (x3 + 1))) + ((m 635 x3) * (m 635 (x2 + 1)))) ((m 635 (x2 + 1)) * (m 635 (x3 + 1))) m (fun r2 m2 => Q 0 m2) else (0 ≤ x2 ∧ x2 < 1600000) ∧ (0 ≤ x3 ∧ x3 < 1600000) ∧ P_X10_number x1 ((m 635 x2) + (m 635 x3)) 1 m (fun r1 m1 => Q 0 m1)) := h
  refine b_iload_n dX10_addNumbers_0 rfl ?_
  refine b_iconst dX10_addNumbers_1 ?_
  obtain ⟨g1, h⟩ := h
  refine b_icmp_ne 61 dX10_addNumbers_2 g1 (by decide) (by decide) (fun c1 => ?_) (fun c1 => ?_)
  · have h := ifF c1 h
    refine b_aload_n dX10_addNumbers_61 rfl ?_
    refine b_iload_n dX10_addNumbers_62 rfl ?_
    refine b_aload_n dX10_addNumbers_63 rfl ?_
    refine b_getR dX10_addNumbers_64 fk_X10_250 ly_582 gg_582_85 ?_
    refine b_iload_n dX10_addNumbers_67 rfl ?_
    obtain ⟨g2, h⟩ := h
    refine b_lald dX10_addNumbers_68 ly_635 g2 ?_
    refine b_aload_n dX10_addNumbers_69 rfl ?_
    refine b_getR dX10_addNumbers_70 fk_X10_250 ly_582 gg_582_85 ?_
    refine b_iload_n dX10_addNumbers_73 rfl ?_
    obtain ⟨g3, h⟩ := h
    refine b_lald dX10_addNumbers_74 ly_635 g3 ?_
    refine b_ladd dX10_addNumbers_75 ?_
    refine b_lconst 1 dX10_addNumbers_76 (by decide) ?_
    refine b_cVv (as := [vI x1, vL ((m 635 x2) + (m 635 x3)), vL 1]) (st := []) dX10_addNumbers_77 mf_X10_number qs173 lk_X10_626 ly_582 rfl (p_X10_number (f := 2) (Nat.le_refl _) _ _ _ _ h) (by omega) rfl rfl (Nat.le_of_ble_eq_true rfl) (by decide) rfl (fun _ => rfl) (fun r1 m1 h => ?_) (fun _ h => h)
    exact b_vret dX10_addNumbers_80 rfl h
  · have h := ifT (Decidable.of_not_not c1) h
    refine b_aload_n dX10_addNumbers_5 rfl ?_
    refine b_iload_n dX10_addNumbers_6 rfl ?_
    refine b_aload_n dX10_addNumbers_7 rfl ?_
    refine b_getR dX10_addNumbers_8 fk_X10_250 ly_582 gg_582_85 ?_
    refine b_iload_n dX10_addNumbers_11 rfl ?_
    obtain ⟨g4, h⟩ := h
    refine b_lald dX10_addNumbers_12 ly_635 g4 ?_
    refine b_aload_n dX10_addNumbers_13 rfl ?_
    refine b_getR dX10_addNumbers_14 fk_X10_250 ly_582 gg_582_85 ?_
    refine b_iload_n dX10_addNumbers_17 rfl ?_
    refine b_iconst dX10_addNumbers_18 ?_
    refine b_iadd dX10_addNumbers_19 ?_
    obtain ⟨g5, h⟩ := h
    refine b_lald dX10_addNumbers_20 ly_635 g5 ?_
    refine b_lmul dX10_addNumbers_21 ?_
    refine b_aload_n dX10_addNumbers_22 rfl ?_
    refine b_getR dX10_addNumbers_23 fk_X10_250 ly_582 gg_582_85 ?_
    refine b_iload_n dX10_addNumbers_26 rfl ?_
    obtain ⟨g6, h⟩ := h
    refine b_lald dX10_addNumbers_27 ly_635 g6 ?_
    refine b_aload_n dX10_addNumbers_28 rfl ?_
    refine b_getR dX10_addNumbers_29 fk_X10_250 ly_582 gg_582_85 ?_
    refine b_iload_n dX10_addNumbers_32 rfl ?_
    refine b_iconst dX10_addNumbers_33 ?_
    refine b_iadd dX10_addNumbers_34 ?_
    obtain ⟨g7, h⟩ := h
    refine b_lald dX10_addNumbers_35 ly_635 g7 ?_
    refine b_lmul dX10_addNumbers_36 ?_
    refine b_ladd dX10_addNumbers_37 ?_
    refine b_aload_n dX10_addNumbers_38 rfl ?_
    refine b_getR dX10_addNumbers_39 fk_X10_250 ly_582 gg_582_85 ?_
    refine b_iload_n dX10_addNumbers_42 rfl ?_
    refine b_iconst dX10_addNumbers_43 ?_
    refine b_iadd dX10_addNumbers_44 ?_
    refine b_lald dX10_addNumbers_45 ly_635 g7 ?_
    refine b_aload_n dX10_addNumbers_46 rfl ?_
    refine b_getR dX10_addNumbers_47 fk_X10_250 ly_582 gg_582_85 ?_
    refine b_iload_n dX10_addNumbers_50 rfl ?_
    refine b_iconst dX10_addNumbers_51 ?_
    refine b_iadd dX10_addNumbers_52 ?_
    refine b_lald dX10_addNumbers_53 ly_635 g5 ?_
    refine b_lmul dX10_addNumbers_54 ?_
    refine b_cVv (as := [vI x1, vL (((m 635 x2) * (m 635 (x3 + 1))) + ((m 635 x3) * (m 635 (x2 + 1)))), vL ((m 635 (x2 + 1)) * (m 635 (x3 + 1)))]) (st := []) dX10_addNumbers_55 mf_X10_number qs173 lk_X10_626 ly_582 rfl (p_X10_number (f := 2) (Nat.le_refl _) _ _ _ _ h) (by omega) rfl rfl (Nat.le_of_ble_eq_true rfl) (by decide) rfl (fun _ => rfl) (fun r2 m2 h => ?_) (fun _ h => h)
    refine b_goto 80 dX10_addNumbers_58 (by decide) ?_
    exact b_vret dX10_addNumbers_80 rfl h
theorem dX10_put_0 : decode cX10_put 0 = .ok (.aload_n 0, 1) := by decide +kernel
theorem dX10_put_1 : decode cX10_put 1 = .ok (.getfield 250, 3) := by decide +kernel
theorem dX10_put_4 : decode cX10_put 4 = .ok (.iload_n 1, 1) := by decide +kernel
theorem dX10_put_5 : decode cX10_put 5 = .ok (.aload_n 0, 1) := by decide +kernel
theorem dX10_put_6 : decode cX10_put 6 = .ok (.getfield 604, 3) := by decide +kernel
theorem dX10_put_9 : decode cX10_put 9 = .ok (.lastore, 1) := by decide +kernel
theorem dX10_put_10 : decode cX10_put 10 = .ok (.aload_n 0, 1) := by decide +kernel
theorem dX10_put_11 : decode cX10_put 11 = .ok (.getfield 250, 3) := by decide +kernel
theorem dX10_put_14 : decode cX10_put 14 = .ok (.iload_n 1, 1) := by decide +kernel
theorem dX10_put_15 : decode cX10_put 15 = .ok (.iconst 1, 1) := by decide +kernel
theorem dX10_put_16 : decode cX10_put 16 = .ok (.iadd, 1) := by decide +kernel
theorem dX10_put_17 : decode cX10_put 17 = .ok (.aload_n 0, 1) := by decide +kernel
theorem dX10_put_18 : decode cX10_put 18 = .ok (.getfield 608, 3) := by decide +kernel
theorem dX10_put_21 : decode cX10_put 21 = .ok (.lastore, 1) := by decide +kernel
theorem dX10_put_22 : decode cX10_put 22 = .ok (.return_, 1) := by decide +kernel
/-! AlgebraHouseModel.put(I)V -/
def P_X10_put (x1 : Int) (m : MM) (Q : Int → MM → Prop) : Prop := (0 ≤ x1 ∧ x1 < 1600000) ∧ ∀ m1 : MM, m1 = up m 635 x1 (m 582 87) → (0 ≤ (x1 + 1) ∧ (x1 + 1) < 1600000) ∧ ∀ m2 : MM, m2 = up m1 635 (x1 + 1) (m1 582 88) → Q 0 m2
theorem p_X10_put {f : Nat} {Q : Int → MM → Prop} {T : MM → Prop} (hf : 1 ≤ f) (x1 : Int) (m : MM) (h : P_X10_put x1 m Q) : CC f M_X10_put [vR 582, vI x1] m Q T := by
  refine CC.of (plainFor_of_name (by decide)) (Nat.le_of_ble_eq_true rfl) (ls := [vR 582, vI x1]) rfl ?_
  have h : (0 ≤ x1 ∧ x1 < 1600000) ∧ ∀ m1 : MM, m1 = up m 635 x1 (m 582 87) → (0 ≤ (x1 + 1) ∧ (x1 + 1) < 1600000) ∧ ∀ m2 : MM, m2 = up m1 635 (x1 + 1) (m1 582 88) → Q 0 m2 := h
  refine b_aload_n dX10_put_0 rfl ?_
  refine b_getR dX10_put_1 fk_X10_250 ly_582 gg_582_85 ?_
  refine b_iload_n dX10_put_4 rfl ?_
  refine b_aload_n dX10_put_5 rfl ?_
  refine b_getL dX10_put_6 fk_X10_604 ly_582 ?_
  obtain ⟨g1, h⟩ := h
  refine b_last dX10_put_9 ly_635 g1 (fun m1 em1 => ?_)
  have h := h m1 em1
  refine b_aload_n dX10_put_10 rfl ?_
  refine b_getR dX10_put_11 fk_X10_250 ly_582 gg_582_85 ?_
  refine b_iload_n dX10_put_14 rfl ?_
  refine b_iconst dX10_put_15 ?_
  refine b_iadd dX10_put_16 ?_
  refine b_aload_n dX10_put_17 rfl ?_
  refine b_getL dX10_put_18 fk_X10_608 ly_582 ?_
  obtain ⟨g2, h⟩ := h
  refine b_last dX10_put_21 ly_635 g2 (fun m2 em2 => ?_)
  have h := h m2 em2
  exact b_vret dX10_put_22 rfl h
theorem dX10_width_0 : decode cX10_width 0 = .ok (.iload_n 0, 1) := by decide +kernel
theorem dX10_width_1 : decode cX10_width 1 = .ok (.ifCond .ne 7, 3) := by decide +kernel
theorem dX10_width_4 : decode cX10_width 4 = .ok (.iconst 2, 1) := by decide +kernel
theorem dX10_width_5 : decode cX10_width 5 = .ok (.goto 15, 3) := by decide +kernel
theorem dX10_width_8 : decode cX10_width 8 = .ok (.iload_n 0, 1) := by decide +kernel
theorem dX10_width_9 : decode cX10_width 9 = .ok (.iconst 1, 1) := by decide +kernel
theorem dX10_width_10 : decode cX10_width 10 = .ok (.if_icmp .ne 8, 3) := by decide +kernel
theorem dX10_width_13 : decode cX10_width 13 = .ok (.bipush 14, 2) := by decide +kernel
theorem dX10_width_15 : decode cX10_width 15 = .ok (.goto 5, 3) := by decide +kernel
theorem dX10_width_18 : decode cX10_width 18 = .ok (.bipush 98, 2) := by decide +kernel
theorem dX10_width_20 : decode cX10_width 20 = .ok (.ireturn, 1) := by decide +kernel
/-! AlgebraHouseModel.width(I)I -/
def P_X10_width (x0 : Int) (m : MM) (Q : Int → MM → Prop) : Prop := (RI x0) ∧ (if x0 = 0 then Q 2 m else (if x0 = 1 then Q 14 m else Q 98 m))
theorem p_X10_width {f : Nat} {Q : Int → MM → Prop} {T : MM → Prop} (hf : 1 ≤ f) (x0 : Int) (m : MM) (h : P_X10_width x0 m Q) : CC f M_X10_width [vI x0] m Q T := by
  refine CC.of (plainFor_of_name (by decide)) (Nat.le_of_ble_eq_true rfl) (ls := [vI x0]) rfl ?_
  have h : (RI x0) ∧ (if x0 = 0 then Q 2 m else (if x0 = 1 then Q 14 m else Q 98 m)) := h
  refine b_iload_n dX10_width_0 rfl ?_
  obtain ⟨g1, h⟩ := h
  refine b_if_ne 8 dX10_width_1 g1 (by decide) (fun c1 => ?_) (fun c1 => ?_)
  · have h := ifF c1 h
    refine b_iload_n dX10_width_8 rfl ?_
    refine b_iconst dX10_width_9 ?_
    refine b_icmp_ne 18 dX10_width_10 g1 (by decide) (by decide) (fun c2 => ?_) (fun c2 => ?_)
    · have h := ifF c2 h
      refine b_bipush dX10_width_18 (by decide) ?_
      exact b_iret dX10_width_20 rfl h
    · have h := ifT (Decidable.of_not_not c2) h
      refine b_bipush dX10_width_13 (by decide) ?_
      refine b_goto 20 dX10_width_15 (by decide) ?_
      exact b_iret dX10_width_20 rfl h
  · have h := ifT (Decidable.of_not_not c1) h
    refine b_iconst dX10_width_4 ?_
    refine b_goto 20 dX10_width_5 (by decide) ?_
    exact b_iret dX10_width_20 rfl h
theorem dX10_addBlocks_0 : decode cX10_addBlocks 0 = .ok (.iconst 0, 1) := by decide +kernel
theorem dX10_addBlocks_1 : decode cX10_addBlocks 1 = .ok (.istore 6, 2) := by decide +kernel
theorem dX10_addBlocks_3 : decode cX10_addBlocks 3 = .ok (.iload 6, 2) := by decide +kernel
theorem dX10_addBlocks_5 : decode cX10_addBlocks 5 = .ok (.iload 5, 2) := by decide +kernel
theorem dX10_addBlocks_7 : decode cX10_addBlocks 7 = .ok (.invokestatic 637, 3) := by decide +kernel
theorem dX10_addBlocks_10 : decode cX10_addBlocks 10 = .ok (.if_icmp .ge 38, 3) := by decide +kernel
theorem dX10_addBlocks_13 : decode cX10_addBlocks 13 = .ok (.aload_n 0, 1) := by decide +kernel
theorem dX10_addBlocks_14 : decode cX10_addBlocks 14 = .ok (.getfield 601, 3) := by decide +kernel
theorem dX10_addBlocks_17 : decode cX10_addBlocks 17 = .ok (.ifCond .ne 31, 3) := by decide +kernel
theorem dX10_addBlocks_20 : decode cX10_addBlocks 20 = .ok (.aload_n 0, 1) := by decide +kernel
theorem dX10_addBlocks_21 : decode cX10_addBlocks 21 = .ok (.iload 4, 2) := by decide +kernel
theorem dX10_addBlocks_23 : decode cX10_addBlocks 23 = .ok (.iload_n 2, 1) := by decide +kernel
theorem dX10_addBlocks_24 : decode cX10_addBlocks 24 = .ok (.iload 6, 2) := by decide +kernel
theorem dX10_addBlocks_26 : decode cX10_addBlocks 26 = .ok (.iadd, 1) := by decide +kernel
theorem dX10_addBlocks_27 : decode cX10_addBlocks 27 = .ok (.iload_n 3, 1) := by decide +kernel
theorem dX10_addBlocks_28 : decode cX10_addBlocks 28 = .ok (.iload 6, 2) := by decide +kernel
theorem dX10_addBlocks_30 : decode cX10_addBlocks 30 = .ok (.iadd, 1) := by decide +kernel
theorem dX10_addBlocks_31 : decode cX10_addBlocks 31 = .ok (.invokevirtual 640, 3) := by decide +kernel
theorem dX10_addBlocks_34 : decode cX10_addBlocks 34 = .ok (.aload_n 0, 1) := by decide +kernel
theorem dX10_addBlocks_35 : decode cX10_addBlocks 35 = .ok (.iload_n 1, 1) := by decide +kernel
theorem dX10_addBlocks_36 : decode cX10_addBlocks 36 = .ok (.iload 6, 2) := by decide +kernel
theorem dX10_addBlocks_38 : decode cX10_addBlocks 38 = .ok (.iadd, 1) := by decide +kernel
theorem dX10_addBlocks_39 : decode cX10_addBlocks 39 = .ok (.invokevirtual 644, 3) := by decide +kernel
theorem dX10_addBlocks_42 : decode cX10_addBlocks 42 = .ok (.iinc 6 2, 3) := by decide +kernel
theorem dX10_addBlocks_45 : decode cX10_addBlocks 45 = .ok (.goto (-42), 3) := by decide +kernel
theorem dX10_addBlocks_48 : decode cX10_addBlocks 48 = .ok (.return_, 1) := by decide +kernel
/-! AlgebraHouseModel.addBlocks(IIIII)V -/
def P_X10_addBlocks_3 (Q : Int → MM → Prop) : Nat → Int → Int → Int → Int → Int → Int → MM → Prop
  | 0, _, _, _, _, _, _, _ => False
  | n + 1, x1, x2, x3, x4, x5, x6, m => P_X10_width x5 m (fun r1 m1 => (RI x6) ∧ (RI r1) ∧ (if r1 ≤ x6 then Q 0 m1 else (RI (m1 582 84)) ∧ (if (m1 582 84) = 0 then P_X10_addNumbers x4 (x2 + x6) (x3 + x6) m1 (fun r2 m2 => P_X10_put (x1 + x6) m2 (fun r3 m3 => P_X10_addBlocks_3 Q n x1 x2 x3 x4 x5 (x6 + 2) m3)) else Q 0 m1)))
def P_X10_addBlocks (x1 : Int) (x2 : Int) (x3 : Int) (x4 : Int) (x5 : Int) (m : MM) (Q : Int → MM → Prop) : Prop := ∃ nn, P_X10_addBlocks_3 Q nn x1 x2 x3 x4 x5 0 m
theorem pl_X10_addBlocks_3 {f : Nat} {Q : Int → MM → Prop} {T : MM → Prop} (hf : 4 ≤ f) : ∀ (n : Nat) (x1 : Int) (x2 : Int) (x3 : Int) (x4 : Int) (x5 : Int) (x6 : Int) (m : MM), P_X10_addBlocks_3 Q n x1 x2 x3 x4 x5 x6 m → B f M_X10_addBlocks 3 [vR 582, vI x1, vI x2, vI x3, vI x4, vI x5, vI x6] [] m Q T := by
  intro n
  induction n with
  | zero => intro x1 x2 x3 x4 x5 x6 m h; exact h.elim
  | succ n ih =>
    intro x1 x2 x3 x4 x5 x6 m h
    have h : P_X10_width x5 m (fun r1 m1 => (RI x6) ∧ (RI r1) ∧ (if r1 ≤ x6 then Q 0 m1 else (RI (m1 582 84)) ∧ (if (m1 582 84) = 0 then P_X10_addNumbers x4 (x2 + x6) (x3 + x6) m1 (fun r2 m2 => P_X10_put (x1 + x6) m2 (fun r3 m3 => P_X10_addBlocks_3 Q n x1 x2 x3 x4 x5 (x6 + 2) m3)) else Q 0 m1))) := h
    refine b_iload dX10_addBlocks_3 rfl ?_
    refine b_iload dX10_addBlocks_5 rfl ?_
    refine b_cSi (as := [vI x5]) (st := [vI x6]) dX10_addBlocks_7 mf_X10_width lk_X10_637 (p_X10_width (f := 1) (Nat.le_refl _) _ _ h) (by omega) rfl rfl (Nat.le_of_ble_eq_true rfl) (by decide) rfl (fun _ => rfl) (fun r1 m1 h => ?_) (fun _ h => h)
    obtain ⟨g1, h⟩ := h
    obtain ⟨g2, h⟩ := h
    refine b_icmp_ge 48 dX10_addBlocks_10 g1 g2 (by decide) (fun c1 => ?_) (fun c1 => ?_)
    · have h := ifT c1 h
      exact b_vret dX10_addBlocks_48 rfl h
    · have h := ifF c1 h
      refine b_aload_n dX10_addBlocks_13 rfl ?_
      refine b_getI dX10_addBlocks_14 fk_X10_601 ly_582 ?_
      obtain ⟨g3, h⟩ := h
      refine b_if_ne 48 dX10_addBlocks_17 g3 (by decide) (fun c2 => ?_) (fun c2 => ?_)
      · have h := ifF c2 h
        exact b_vret dX10_addBlocks_48 rfl h
      · have h := ifT (Decidable.of_not_not c2) h
        refine b_aload_n dX10_addBlocks_20 rfl ?_
        refine b_iload dX10_addBlocks_21 rfl ?_
        refine b_iload_n dX10_addBlocks_23 rfl ?_
        refine b_iload dX10_addBlocks_24 rfl ?_
        refine b_iadd dX10_addBlocks_26 ?_
        refine b_iload_n dX10_addBlocks_27 rfl ?_
        refine b_iload dX10_addBlocks_28 rfl ?_
        refine b_iadd dX10_addBlocks_30 ?_
        refine b_cVv (as := [vI x4, vI (x2 + x6), vI (x3 + x6)]) (st := []) dX10_addBlocks_31 mf_X10_addNumbers qs177 lk_X10_640 ly_582 rfl (p_X10_addNumbers (f := 3) (Nat.le_refl _) _ _ _ _ h) (by omega) rfl rfl (Nat.le_of_ble_eq_true rfl) (by decide) rfl (fun _ => rfl) (fun r2 m2 h => ?_) (fun _ h => h)
        refine b_aload_n dX10_addBlocks_34 rfl ?_
        refine b_iload_n dX10_addBlocks_35 rfl ?_
        refine b_iload dX10_addBlocks_36 rfl ?_
        refine b_iadd dX10_addBlocks_38 ?_
        refine b_cVv (as := [vI (x1 + x6)]) (st := []) dX10_addBlocks_39 mf_X10_put qs175 lk_X10_644 ly_582 rfl (p_X10_put (f := 1) (Nat.le_refl _) _ _ h) (by omega) rfl rfl (Nat.le_of_ble_eq_true rfl) (by decide) rfl (fun _ => rfl) (fun r3 m3 h => ?_) (fun _ h => h)
        refine b_iinc (ls' := [vR 582, vI x1, vI x2, vI x3, vI x4, vI x5, vI (x6 + 2)]) dX10_addBlocks_42 rfl rfl ?_
        refine b_goto 3 dX10_addBlocks_45 (by decide) ?_
        exact ih _ _ _ _ _ _ _ h
theorem p_X10_addBlocks {f : Nat} {Q : Int → MM → Prop} {T : MM → Prop} (hf : 4 ≤ f) (x1 : Int) (x2 : Int) (x3 : Int) (x4 : Int) (x5 : Int) (m : MM) (h : P_X10_addBlocks x1 x2 x3 x4 x5 m Q) : CC f M_X10_addBlocks [vR 582, vI x1, vI x2, vI x3, vI x4, vI x5] m Q T := by
  refine CC.of (plainFor_of_name (by decide)) (Nat.le_of_ble_eq_true rfl) (ls := [vR 582, vI x1, vI x2, vI x3, vI x4, vI x5, vU]) rfl ?_
  have h : ∃ nn, P_X10_addBlocks_3 Q nn x1 x2 x3 x4 x5 0 m := h
  refine b_iconst dX10_addBlocks_0 ?_
  refine b_istore (ls' := [vR 582, vI x1, vI x2, vI x3, vI x4, vI x5, vI 0]) dX10_addBlocks_1 (Nat.le_of_ble_eq_true rfl) rfl ?_
  obtain ⟨nn, h⟩ := h
  exact pl_X10_addBlocks_3 hf nn _ _ _ _ _ _ _ h
theorem dX10_entryAt_0 : decode cX10_entryAt 0 = .ok (.iload_n 0, 1) := by decide +kernel
theorem dX10_entryAt_1 : decode cX10_entryAt 1 = .ok (.bipush 98, 2) := by decide +kernel
theorem dX10_entryAt_3 : decode cX10_entryAt 3 = .ok (.iconst 3, 1) := by decide +kernel
theorem dX10_entryAt_4 : decode cX10_entryAt 4 = .ok (.iload_n 1, 1) := by decide +kernel
theorem dX10_entryAt_5 : decode cX10_entryAt 5 = .ok (.imul, 1) := by decide +kernel
theorem dX10_entryAt_6 : decode cX10_entryAt 6 = .ok (.iload_n 2, 1) := by decide +kernel
theorem dX10_entryAt_7 : decode cX10_entryAt 7 = .ok (.iadd, 1) := by decide +kernel
theorem dX10_entryAt_8 : decode cX10_entryAt 8 = .ok (.imul, 1) := by decide +kernel
theorem dX10_entryAt_9 : decode cX10_entryAt 9 = .ok (.iadd, 1) := by decide +kernel
theorem dX10_entryAt_10 : decode cX10_entryAt 10 = .ok (.ireturn, 1) := by decide +kernel
/-! AlgebraHouseModel.entryAt(III)I -/
def P_X10_entryAt (x0 : Int) (x1 : Int) (x2 : Int) (m : MM) (Q : Int → MM → Prop) : Prop := Q (x0 + (98 * ((3 * x1) + x2))) m
theorem p_X10_entryAt {f : Nat} {Q : Int → MM → Prop} {T : MM → Prop} (hf : 1 ≤ f) (x0 : Int) (x1 : Int) (x2 : Int) (m : MM) (h : P_X10_entryAt x0 x1 x2 m Q) : CC f M_X10_entryAt [vI x0, vI x1, vI x2] m Q T := by
  refine CC.of (plainFor_of_name (by decide)) (Nat.le_of_ble_eq_true rfl) (ls := [vI x0, vI x1, vI x2]) rfl ?_
  have h : Q (x0 + (98 * ((3 * x1) + x2))) m := h
  refine b_iload_n dX10_entryAt_0 rfl ?_
  refine b_bipush dX10_entryAt_1 (by decide) ?_
  refine b_iconst dX10_entryAt_3 ?_
  refine b_iload_n dX10_entryAt_4 rfl ?_
  refine b_imul dX10_entryAt_5 ?_
  refine b_iload_n dX10_entryAt_6 rfl ?_
  refine b_iadd dX10_entryAt_7 ?_
  refine b_imul dX10_entryAt_8 ?_
  refine b_iadd dX10_entryAt_9 ?_
  exact b_iret dX10_entryAt_10 rfl h
theorem dX10_rows_0 : decode cX10_rows 0 = .ok (.iload_n 0, 1) := by decide +kernel
theorem dX10_rows_1 : decode cX10_rows 1 = .ok (.ifCond .ne 7, 3) := by decide +kernel
theorem dX10_rows_4 : decode cX10_rows 4 = .ok (.iconst 1, 1) := by decide +kernel
theorem dX10_rows_5 : decode cX10_rows 5 = .ok (.goto 4, 3) := by decide +kernel
theorem dX10_rows_8 : decode cX10_rows 8 = .ok (.iload_n 0, 1) := by decide +kernel
theorem dX10_rows_9 : decode cX10_rows 9 = .ok (.ireturn, 1) := by decide +kernel
/-! AlgebraHouseModel.rows(I)I -/
def P_X10_rows (x0 : Int) (m : MM) (Q : Int → MM → Prop) : Prop := (RI x0) ∧ (if x0 = 0 then Q 1 m else Q x0 m)
theorem p_X10_rows {f : Nat} {Q : Int → MM → Prop} {T : MM → Prop} (hf : 1 ≤ f) (x0 : Int) (m : MM) (h : P_X10_rows x0 m Q) : CC f M_X10_rows [vI x0] m Q T := by
  refine CC.of (plainFor_of_name (by decide)) (Nat.le_of_ble_eq_true rfl) (ls := [vI x0]) rfl ?_
  have h : (RI x0) ∧ (if x0 = 0 then Q 1 m else Q x0 m) := h
  refine b_iload_n dX10_rows_0 rfl ?_
  obtain ⟨g1, h⟩ := h
  refine b_if_ne 8 dX10_rows_1 g1 (by decide) (fun c1 => ?_) (fun c1 => ?_)
  · have h := ifF c1 h
    refine b_iload_n dX10_rows_8 rfl ?_
    exact b_iret dX10_rows_9 rfl h
  · have h := ifT (Decidable.of_not_not c1) h
    refine b_iconst dX10_rows_4 ?_
    refine b_goto 9 dX10_rows_5 (by decide) ?_
    exact b_iret dX10_rows_9 rfl h
theorem dX10_takeNumbers_0 : decode cX10_takeNumbers 0 = .ok (.iload_n 1, 1) := by decide +kernel
theorem dX10_takeNumbers_1 : decode cX10_takeNumbers 1 = .ok (.iconst 1, 1) := by decide +kernel
theorem dX10_takeNumbers_2 : decode cX10_takeNumbers 2 = .ok (.if_icmp .ne 59, 3) := by decide +kernel
theorem dX10_takeNumbers_5 : decode cX10_takeNumbers 5 = .ok (.aload_n 0, 1) := by decide +kernel
theorem dX10_takeNumbers_6 : decode cX10_takeNumbers 6 = .ok (.iload_n 1, 1) := by decide +kernel
theorem dX10_takeNumbers_7 : decode cX10_takeNumbers 7 = .ok (.aload_n 0, 1) := by decide +kernel
theorem dX10_takeNumbers_8 : decode cX10_takeNumbers 8 = .ok (.getfield 250, 3) := by decide +kernel
theorem dX10_takeNumbers_11 : decode cX10_takeNumbers 11 = .ok (.iload_n 2, 1) := by decide +kernel
theorem dX10_takeNumbers_12 : decode cX10_takeNumbers 12 = .ok (.laload, 1) := by decide +kernel
theorem dX10_takeNumbers_13 : decode cX10_takeNumbers 13 = .ok (.aload_n 0, 1) := by decide +kernel
theorem dX10_takeNumbers_14 : decode cX10_takeNumbers 14 = .ok (.getfield 250, 3) := by decide +kernel
theorem dX10_takeNumbers_17 : decode cX10_takeNumbers 17 = .ok (.iload_n 3, 1) := by decide +kernel
theorem dX10_takeNumbers_18 : decode cX10_takeNumbers 18 = .ok (.iconst 1, 1) := by decide +kernel
theorem dX10_takeNumbers_19 : decode cX10_takeNumbers 19 = .ok (.iadd, 1) := by decide +kernel
theorem dX10_takeNumbers_20 : decode cX10_takeNumbers 20 = .ok (.laload, 1) := by decide +kernel
theorem dX10_takeNumbers_21 : decode cX10_takeNumbers 21 = .ok (.lmul, 1) := by decide +kernel
theorem dX10_takeNumbers_22 : decode cX10_takeNumbers 22 = .ok (.aload_n 0, 1) := by decide +kernel
theorem dX10_takeNumbers_23 : decode cX10_takeNumbers 23 = .ok (.getfield 250, 3) := by decide +kernel
theorem dX10_takeNumbers_26 : decode cX10_takeNumbers 26 = .ok (.iload_n 3, 1) := by decide +kernel
theorem dX10_takeNumbers_27 : decode cX10_takeNumbers 27 = .ok (.laload, 1) := by decide +kernel
theorem dX10_takeNumbers_28 : decode cX10_takeNumbers 28 = .ok (.aload_n 0, 1) := by decide +kernel
theorem dX10_takeNumbers_29 : decode cX10_takeNumbers 29 = .ok (.getfield 250, 3) := by decide +kernel
theorem dX10_takeNumbers_32 : decode cX10_takeNumbers 32 = .ok (.iload_n 2, 1) := by decide +kernel
theorem dX10_takeNumbers_33 : decode cX10_takeNumbers 33 = .ok (.iconst 1, 1) := by decide +kernel
theorem dX10_takeNumbers_34 : decode cX10_takeNumbers 34 = .ok (.iadd, 1) := by decide +kernel
theorem dX10_takeNumbers_35 : decode cX10_takeNumbers 35 = .ok (.laload, 1) := by decide +kernel
theorem dX10_takeNumbers_36 : decode cX10_takeNumbers 36 = .ok (.lmul, 1) := by decide +kernel
theorem dX10_takeNumbers_37 : decode cX10_takeNumbers 37 = .ok (.lsub, 1) := by decide +kernel
theorem dX10_takeNumbers_38 : decode cX10_takeNumbers 38 = .ok (.aload_n 0, 1) := by decide +kernel
theorem dX10_takeNumbers_39 : decode cX10_takeNumbers 39 = .ok (.getfield 250, 3) := by decide +kernel
theorem dX10_takeNumbers_42 : decode cX10_takeNumbers 42 = .ok (.iload_n 2, 1) := by decide +kernel
theorem dX10_takeNumbers_43 : decode cX10_takeNumbers 43 = .ok (.iconst 1, 1) := by decide +kernel
theorem dX10_takeNumbers_44 : decode cX10_takeNumbers 44 = .ok (.iadd, 1) := by decide +kernel
theorem dX10_takeNumbers_45 : decode cX10_takeNumbers 45 = .ok (.laload, 1) := by decide +kernel
theorem dX10_takeNumbers_46 : decode cX10_takeNumbers 46 = .ok (.aload_n 0, 1) := by decide +kernel
theorem dX10_takeNumbers_47 : decode cX10_takeNumbers 47 = .ok (.getfield 250, 3) := by decide +kernel
theorem dX10_takeNumbers_50 : decode cX10_takeNumbers 50 = .ok (.iload_n 3, 1) := by decide +kernel
theorem dX10_takeNumbers_51 : decode cX10_takeNumbers 51 = .ok (.iconst 1, 1) := by decide +kernel
theorem dX10_takeNumbers_52 : decode cX10_takeNumbers 52 = .ok (.iadd, 1) := by decide +kernel
theorem dX10_takeNumbers_53 : decode cX10_takeNumbers 53 = .ok (.laload, 1) := by decide +kernel
theorem dX10_takeNumbers_54 : decode cX10_takeNumbers 54 = .ok (.lmul, 1) := by decide +kernel
theorem dX10_takeNumbers_55 : decode cX10_takeNumbers 55 = .ok (.invokevirtual 626, 3) := by decide +kernel
theorem dX10_takeNumbers_58 : decode cX10_takeNumbers 58 = .ok (.goto 22, 3) := by decide +kernel
theorem dX10_takeNumbers_61 : decode cX10_takeNumbers 61 = .ok (.aload_n 0, 1) := by decide +kernel
theorem dX10_takeNumbers_62 : decode cX10_takeNumbers 62 = .ok (.iload_n 1, 1) := by decide +kernel
theorem dX10_takeNumbers_63 : decode cX10_takeNumbers 63 = .ok (.aload_n 0, 1) := by decide +kernel
theorem dX10_takeNumbers_64 : decode cX10_takeNumbers 64 = .ok (.getfield 250, 3) := by decide +kernel
theorem dX10_takeNumbers_67 : decode cX10_takeNumbers 67 = .ok (.iload_n 2, 1) := by decide +kernel
theorem dX10_takeNumbers_68 : decode cX10_takeNumbers 68 = .ok (.laload, 1) := by decide +kernel
theorem dX10_takeNumbers_69 : decode cX10_takeNumbers 69 = .ok (.aload_n 0, 1) := by decide +kernel
theorem dX10_takeNumbers_70 : decode cX10_takeNumbers 70 = .ok (.getfield 250, 3) := by decide +kernel
theorem dX10_takeNumbers_73 : decode cX10_takeNumbers 73 = .ok (.iload_n 3, 1) := by decide +kernel
theorem dX10_takeNumbers_74 : decode cX10_takeNumbers 74 = .ok (.laload, 1) := by decide +kernel
theorem dX10_takeNumbers_75 : decode cX10_takeNumbers 75 = .ok (.lsub, 1) := by decide +kernel
theorem dX10_takeNumbers_76 : decode cX10_takeNumbers 76 = .ok (.lconst 1, 1) := by decide +kernel
theorem dX10_takeNumbers_77 : decode cX10_takeNumbers 77 = .ok (.invokevirtual 626, 3) := by decide +kernel
theorem dX10_takeNumbers_80 : decode cX10_takeNumbers 80 = .ok (.return_, 1) := by decide +kernel
/-! AlgebraHouseModel.takeNumbers(III)V -/
def P_X10_takeNumbers (x1 : Int) (x2 : Int) (x3 : Int) (m : MM) (Q : Int → MM → Prop) : Prop := (RI x1) ∧ (if x1 = 1 then (0 ≤ x2 ∧ x2 < 1600000) ∧ (0 ≤ (x3 + 1) ∧ (x3 + 1) < 1600000) ∧ (0 ≤ x3 ∧ x3 < 1600000) ∧ (0 ≤ (x2 + 1) ∧ (x2 + 1) < 1600000) ∧ P_X10_number x1 (((m 635 x2) * (m 635 (x3 + 1))) - ((m 635 x3) * (m 635 (x2 + 1)))) ((m 635 (x2 + 1)) * (m 635 (x3 + 1))) m (fun r2 m2 => Q 0 m2) else (0 ≤ x2 ∧ x2 < 1600000) ∧ (0 ≤ x3 ∧ x3 < 1600000) ∧ P_X10_number x1 ((m 635 x2) - (m 635 x3)) 1 m (fun r1 m1 => Q 0 m1))
theorem p_X10_takeNumbers {f : Nat} {Q : Int → MM → Prop} {T : MM → Prop} (hf : 3 ≤ f) (x1 : Int) (x2 : Int) (x3 : Int) (m : MM) (h : P_X10_takeNumbers x1 x2 x3 m Q) : CC f M_X10_takeNumbers [vR 582, vI x1, vI x2, vI x3] m Q T := by
  refine CC.of (plainFor_of_name (by decide)) (Nat.le_of_ble_eq_true rfl) (ls := [vR 582, vI x1, vI x2, vI x3]) rfl ?_
  have h : (RI x1) ∧ (if x1 = 1 then (0 ≤ x2 ∧ x2 < 1600000) ∧ (0 ≤ (x3 + 1) ∧ (x3 + 1) < 1600000) ∧ (0 ≤ x3 ∧ x3 < 1600000) ∧ (0 ≤ (x2 + 1) ∧ (x2 + 1) < 1600000) ∧ P_X10_number x1 (((m 635 x2) * (m 635 (x3 + 1))) - ((m 635 x3) * (m 635 (x2 + 1)))) ((m 635 (x2 + 1)) * (m 635 (x3 + 1))) m (fun r2 m2 => Q 0 m2) else (0 ≤ x2 ∧ x2 < 1600000) ∧ (0 ≤ x3 ∧ x3 < 1600000) ∧ P_X10_number x1 ((m 635 x2) - (m 635 x3)) 1 m (fun r1 m1 => Q 0 m1)) := h
  refine b_iload_n dX10_takeNumbers_0 rfl ?_
  refine b_iconst dX10_takeNumbers_1 ?_
  obtain ⟨g1, h⟩ := h
  refine b_icmp_ne 61 dX10_takeNumbers_2 g1 (by decide) (by decide) (fun c1 => ?_) (fun c1 => ?_)
  · have h := ifF c1 h
    refine b_aload_n dX10_takeNumbers_61 rfl ?_
    refine b_iload_n dX10_takeNumbers_62 rfl ?_
    refine b_aload_n dX10_takeNumbers_63 rfl ?_
    refine b_getR dX10_takeNumbers_64 fk_X10_250 ly_582 gg_582_85 ?_
    refine b_iload_n dX10_takeNumbers_67 rfl ?_
    obtain ⟨g2, h⟩ := h
    refine b_lald dX10_takeNumbers_68 ly_635 g2 ?_
    refine b_aload_n dX10_takeNumbers_69 rfl ?_
    refine b_getR dX10_takeNumbers_70 fk_X10_250 ly_582 gg_582_85 ?_
    refine b_iload_n dX10_takeNumbers_73 rfl ?_
    obtain ⟨g3, h⟩ := h
    refine b_lald dX10_takeNumbers_74 ly_635 g3 ?_
    refine b_lsub dX10_takeNumbers_75 ?_
    refine b_lconst 1 dX10_takeNumbers_76 (by decide) ?_
    refine b_cVv (as := [vI x1, vL ((m 635 x2) - (m 635 x3)), vL 1]) (st := []) dX10_takeNumbers_77 mf_X10_number qs173 lk_X10_626 ly_582 rfl (p_X10_number (f := 2) (Nat.le_refl _) _ _ _ _ h) (by omega) rfl rfl (Nat.le_of_ble_eq_true rfl) (by decide) rfl (fun _ => rfl) (fun r1 m1 h => ?_) (fun _ h => h)
    exact b_vret dX10_takeNumbers_80 rfl h
  · have h := ifT (Decidable.of_not_not c1) h
    refine b_aload_n dX10_takeNumbers_5 rfl ?_
    refine b_iload_n dX10_takeNumbers_6 rfl ?_
    refine b_aload_n dX10_takeNumbers_7 rfl ?_
    refine b_getR dX10_takeNumbers_8 fk_X10_250 ly_582 gg_582_85 ?_
    refine b_iload_n dX10_takeNumbers_11 rfl ?_
    obtain ⟨g4, h⟩ := h
    refine b_lald dX10_takeNumbers_12 ly_635 g4 ?_
    refine b_aload_n dX10_takeNumbers_13 rfl ?_
    refine b_getR dX10_takeNumbers_14 fk_X10_250 ly_582 gg_582_85 ?_
    refine b_iload_n dX10_takeNumbers_17 rfl ?_
    refine b_iconst dX10_takeNumbers_18 ?_
    refine b_iadd dX10_takeNumbers_19 ?_
    obtain ⟨g5, h⟩ := h
    refine b_lald dX10_takeNumbers_20 ly_635 g5 ?_
    refine b_lmul dX10_takeNumbers_21 ?_
    refine b_aload_n dX10_takeNumbers_22 rfl ?_
    refine b_getR dX10_takeNumbers_23 fk_X10_250 ly_582 gg_582_85 ?_
    refine b_iload_n dX10_takeNumbers_26 rfl ?_
    obtain ⟨g6, h⟩ := h
    refine b_lald dX10_takeNumbers_27 ly_635 g6 ?_
    refine b_aload_n dX10_takeNumbers_28 rfl ?_
    refine b_getR dX10_takeNumbers_29 fk_X10_250 ly_582 gg_582_85 ?_
    refine b_iload_n dX10_takeNumbers_32 rfl ?_
    refine b_iconst dX10_takeNumbers_33 ?_
    refine b_iadd dX10_takeNumbers_34 ?_
    obtain ⟨g7, h⟩ := h
    refine b_lald dX10_takeNumbers_35 ly_635 g7 ?_
    refine b_lmul dX10_takeNumbers_36 ?_
    refine b_lsub dX10_takeNumbers_37 ?_
    refine b_aload_n dX10_takeNumbers_38 rfl ?_
    refine b_getR dX10_takeNumbers_39 fk_X10_250 ly_582 gg_582_85 ?_
    refine b_iload_n dX10_takeNumbers_42 rfl ?_
    refine b_iconst dX10_takeNumbers_43 ?_
    refine b_iadd dX10_takeNumbers_44 ?_
    refine b_lald dX10_takeNumbers_45 ly_635 g7 ?_
    refine b_aload_n dX10_takeNumbers_46 rfl ?_
    refine b_getR dX10_takeNumbers_47 fk_X10_250 ly_582 gg_582_85 ?_
    refine b_iload_n dX10_takeNumbers_50 rfl ?_
    refine b_iconst dX10_takeNumbers_51 ?_
    refine b_iadd dX10_takeNumbers_52 ?_
    refine b_lald dX10_takeNumbers_53 ly_635 g5 ?_
    refine b_lmul dX10_takeNumbers_54 ?_
    refine b_cVv (as := [vI x1, vL (((m 635 x2) * (m 635 (x3 + 1))) - ((m 635 x3) * (m 635 (x2 + 1)))), vL ((m 635 (x2 + 1)) * (m 635 (x3 + 1)))]) (st := []) dX10_takeNumbers_55 mf_X10_number qs173 lk_X10_626 ly_582 rfl (p_X10_number (f := 2) (Nat.le_refl _) _ _ _ _ h) (by omega) rfl rfl (Nat.le_of_ble_eq_true rfl) (by decide) rfl (fun _ => rfl) (fun r2 m2 h => ?_) (fun _ h => h)
    refine b_goto 80 dX10_takeNumbers_58 (by decide) ?_
    exact b_vret dX10_takeNumbers_80 rfl h
theorem dX10_takeBlocks_0 : decode cX10_takeBlocks 0 = .ok (.iconst 0, 1) := by decide +kernel
theorem dX10_takeBlocks_1 : decode cX10_takeBlocks 1 = .ok (.istore 6, 2) := by decide +kernel
theorem dX10_takeBlocks_3 : decode cX10_takeBlocks 3 = .ok (.iload 6, 2) := by decide +kernel
theorem dX10_takeBlocks_5 : decode cX10_takeBlocks 5 = .ok (.iload 5, 2) := by decide +kernel
theorem dX10_takeBlocks_7 : decode cX10_takeBlocks 7 = .ok (.invokestatic 637, 3) := by decide +kernel
theorem dX10_takeBlocks_10 : decode cX10_takeBlocks 10 = .ok (.if_icmp .ge 38, 3) := by decide +kernel
theorem dX10_takeBlocks_13 : decode cX10_takeBlocks 13 = .ok (.aload_n 0, 1) := by decide +kernel
theorem dX10_takeBlocks_14 : decode cX10_takeBlocks 14 = .ok (.getfield 601, 3) := by decide +kernel
theorem dX10_takeBlocks_17 : decode cX10_takeBlocks 17 = .ok (.ifCond .ne 31, 3) := by decide +kernel
theorem dX10_takeBlocks_20 : decode cX10_takeBlocks 20 = .ok (.aload_n 0, 1) := by decide +kernel
theorem dX10_takeBlocks_21 : decode cX10_takeBlocks 21 = .ok (.iload 4, 2) := by decide +kernel
theorem dX10_takeBlocks_23 : decode cX10_takeBlocks 23 = .ok (.iload_n 2, 1) := by decide +kernel
theorem dX10_takeBlocks_24 : decode cX10_takeBlocks 24 = .ok (.iload 6, 2) := by decide +kernel
theorem dX10_takeBlocks_26 : decode cX10_takeBlocks 26 = .ok (.iadd, 1) := by decide +kernel
theorem dX10_takeBlocks_27 : decode cX10_takeBlocks 27 = .ok (.iload_n 3, 1) := by decide +kernel
theorem dX10_takeBlocks_28 : decode cX10_takeBlocks 28 = .ok (.iload 6, 2) := by decide +kernel
theorem dX10_takeBlocks_30 : decode cX10_takeBlocks 30 = .ok (.iadd, 1) := by decide +kernel
theorem dX10_takeBlocks_31 : decode cX10_takeBlocks 31 = .ok (.invokevirtual 647, 3) := by decide +kernel
theorem dX10_takeBlocks_34 : decode cX10_takeBlocks 34 = .ok (.aload_n 0, 1) := by decide +kernel
theorem dX10_takeBlocks_35 : decode cX10_takeBlocks 35 = .ok (.iload_n 1, 1) := by decide +kernel
theorem dX10_takeBlocks_36 : decode cX10_takeBlocks 36 = .ok (.iload 6, 2) := by decide +kernel
theorem dX10_takeBlocks_38 : decode cX10_takeBlocks 38 = .ok (.iadd, 1) := by decide +kernel
theorem dX10_takeBlocks_39 : decode cX10_takeBlocks 39 = .ok (.invokevirtual 644, 3) := by decide +kernel
theorem dX10_takeBlocks_42 : decode cX10_takeBlocks 42 = .ok (.iinc 6 2, 3) := by decide +kernel
theorem dX10_takeBlocks_45 : decode cX10_takeBlocks 45 = .ok (.goto (-42), 3) := by decide +kernel
theorem dX10_takeBlocks_48 : decode cX10_takeBlocks 48 = .ok (.return_, 1) := by decide +kernel
/-! AlgebraHouseModel.takeBlocks(IIIII)V -/
def P_X10_takeBlocks_3 (Q : Int → MM → Prop) : Nat → Int → Int → Int → Int → Int → Int → MM → Prop
  | 0, _, _, _, _, _, _, _ => False
  | n + 1, x1, x2, x3, x4, x5, x6, m => P_X10_width x5 m (fun r1 m1 => (RI x6) ∧ (RI r1) ∧ (if r1 ≤ x6 then Q 0 m1 else (RI (m1 582 84)) ∧ (if (m1 582 84) = 0 then P_X10_takeNumbers x4 (x2 + x6) (x3 + x6) m1 (fun r2 m2 => P_X10_put (x1 + x6) m2 (fun r3 m3 => P_X10_takeBlocks_3 Q n x1 x2 x3 x4 x5 (x6 + 2) m3)) else Q 0 m1)))
def P_X10_takeBlocks (x1 : Int) (x2 : Int) (x3 : Int) (x4 : Int) (x5 : Int) (m : MM) (Q : Int → MM → Prop) : Prop := ∃ nn, P_X10_takeBlocks_3 Q nn x1 x2 x3 x4 x5 0 m
theorem pl_X10_takeBlocks_3 {f : Nat} {Q : Int → MM → Prop} {T : MM → Prop} (hf : 4 ≤ f) : ∀ (n : Nat) (x1 : Int) (x2 : Int) (x3 : Int) (x4 : Int) (x5 : Int) (x6 : Int) (m : MM), P_X10_takeBlocks_3 Q n x1 x2 x3 x4 x5 x6 m → B f M_X10_takeBlocks 3 [vR 582, vI x1, vI x2, vI x3, vI x4, vI x5, vI x6] [] m Q T := by
  intro n
  induction n with
  | zero => intro x1 x2 x3 x4 x5 x6 m h; exact h.elim
  | succ n ih =>
    intro x1 x2 x3 x4 x5 x6 m h
    have h : P_X10_width x5 m (fun r1 m1 => (RI x6) ∧ (RI r1) ∧ (if r1 ≤ x6 then Q 0 m1 else (RI (m1 582 84)) ∧ (if (m1 582 84) = 0 then P_X10_takeNumbers x4 (x2 + x6) (x3 + x6) m1 (fun r2 m2 => P_X10_put (x1 + x6) m2 (fun r3 m3 => P_X10_takeBlocks_3 Q n x1 x2 x3 x4 x5 (x6 + 2) m3)) else Q 0 m1))) := h
    refine b_iload dX10_takeBlocks_3 rfl ?_
    refine b_iload dX10_takeBlocks_5 rfl ?_
    refine b_cSi (as := [vI x5]) (st := [vI x6]) dX10_takeBlocks_7 mf_X10_width lk_X10_637 (p_X10_width (f := 1) (Nat.le_refl _) _ _ h) (by omega) rfl rfl (Nat.le_of_ble_eq_true rfl) (by decide) rfl (fun _ => rfl) (fun r1 m1 h => ?_) (fun _ h => h)
    obtain ⟨g1, h⟩ := h
    obtain ⟨g2, h⟩ := h
    refine b_icmp_ge 48 dX10_takeBlocks_10 g1 g2 (by decide) (fun c1 => ?_) (fun c1 => ?_)
    · have h := ifT c1 h
      exact b_vret dX10_takeBlocks_48 rfl h
    · have h := ifF c1 h
      refine b_aload_n dX10_takeBlocks_13 rfl ?_
      refine b_getI dX10_takeBlocks_14 fk_X10_601 ly_582 ?_
      obtain ⟨g3, h⟩ := h
      refine b_if_ne 48 dX10_takeBlocks_17 g3 (by decide) (fun c2 => ?_) (fun c2 => ?_)
      · have h := ifF c2 h
        exact b_vret dX10_takeBlocks_48 rfl h
      · have h := ifT (Decidable.of_not_not c2) h
        refine b_aload_n dX10_takeBlocks_20 rfl ?_
        refine b_iload dX10_takeBlocks_21 rfl ?_
        refine b_iload_n dX10_takeBlocks_23 rfl ?_
        refine b_iload dX10_takeBlocks_24 rfl ?_
        refine b_iadd dX10_takeBlocks_26 ?_
        refine b_iload_n dX10_takeBlocks_27 rfl ?_
        refine b_iload dX10_takeBlocks_28 rfl ?_
        refine b_iadd dX10_takeBlocks_30 ?_
        refine b_cVv (as := [vI x4, vI (x2 + x6), vI (x3 + x6)]) (st := []) dX10_takeBlocks_31 mf_X10_takeNumbers qs188 lk_X10_647 ly_582 rfl (p_X10_takeNumbers (f := 3) (Nat.le_refl _) _ _ _ _ h) (by omega) rfl rfl (Nat.le_of_ble_eq_true rfl) (by decide) rfl (fun _ => rfl) (fun r2 m2 h => ?_) (fun _ h => h)
        refine b_aload_n dX10_takeBlocks_34 rfl ?_
        refine b_iload_n dX10_takeBlocks_35 rfl ?_
        refine b_iload dX10_takeBlocks_36 rfl ?_
        refine b_iadd dX10_takeBlocks_38 ?_
        refine b_cVv (as := [vI (x1 + x6)]) (st := []) dX10_takeBlocks_39 mf_X10_put qs175 lk_X10_644 ly_582 rfl (p_X10_put (f := 1) (Nat.le_refl _) _ _ h) (by omega) rfl rfl (Nat.le_of_ble_eq_true rfl) (by decide) rfl (fun _ => rfl) (fun r3 m3 h => ?_) (fun _ h => h)
        refine b_iinc (ls' := [vR 582, vI x1, vI x2, vI x3, vI x4, vI x5, vI (x6 + 2)]) dX10_takeBlocks_42 rfl rfl ?_
        refine b_goto 3 dX10_takeBlocks_45 (by decide) ?_
        exact ih _ _ _ _ _ _ _ h
theorem p_X10_takeBlocks {f : Nat} {Q : Int → MM → Prop} {T : MM → Prop} (hf : 4 ≤ f) (x1 : Int) (x2 : Int) (x3 : Int) (x4 : Int) (x5 : Int) (m : MM) (h : P_X10_takeBlocks x1 x2 x3 x4 x5 m Q) : CC f M_X10_takeBlocks [vR 582, vI x1, vI x2, vI x3, vI x4, vI x5] m Q T := by
  refine CC.of (plainFor_of_name (by decide)) (Nat.le_of_ble_eq_true rfl) (ls := [vR 582, vI x1, vI x2, vI x3, vI x4, vI x5, vU]) rfl ?_
  have h : ∃ nn, P_X10_takeBlocks_3 Q nn x1 x2 x3 x4 x5 0 m := h
  refine b_iconst dX10_takeBlocks_0 ?_
  refine b_istore (ls' := [vR 582, vI x1, vI x2, vI x3, vI x4, vI x5, vI 0]) dX10_takeBlocks_1 (Nat.le_of_ble_eq_true rfl) rfl ?_
  obtain ⟨nn, h⟩ := h
  exact pl_X10_takeBlocks_3 hf nn _ _ _ _ _ _ _ h
theorem dX10_addValues_0 : decode cX10_addValues 0 = .ok (.iconst 0, 1) := by decide +kernel
theorem dX10_addValues_1 : decode cX10_addValues 1 = .ok (.istore 8, 2) := by decide +kernel
theorem dX10_addValues_3 : decode cX10_addValues 3 = .ok (.iload 8, 2) := by decide +kernel
theorem dX10_addValues_5 : decode cX10_addValues 5 = .ok (.iload 6, 2) := by decide +kernel
theorem dX10_addValues_7 : decode cX10_addValues 7 = .ok (.invokestatic 674, 3) := by decide +kernel
theorem dX10_addValues_10 : decode cX10_addValues 10 = .ok (.if_icmp .ge 100, 3) := by decide +kernel
theorem dX10_addValues_13 : decode cX10_addValues 13 = .ok (.iconst 0, 1) := by decide +kernel
theorem dX10_addValues_14 : decode cX10_addValues 14 = .ok (.istore 9, 2) := by decide +kernel
theorem dX10_addValues_16 : decode cX10_addValues 16 = .ok (.iload 9, 2) := by decide +kernel
theorem dX10_addValues_18 : decode cX10_addValues 18 = .ok (.iload 6, 2) := by decide +kernel
theorem dX10_addValues_20 : decode cX10_addValues 20 = .ok (.invokestatic 674, 3) := by decide +kernel
theorem dX10_addValues_23 : decode cX10_addValues 23 = .ok (.if_icmp .ge 81, 3) := by decide +kernel
theorem dX10_addValues_26 : decode cX10_addValues 26 = .ok (.iload 7, 2) := by decide +kernel
theorem dX10_addValues_28 : decode cX10_addValues 28 = .ok (.ifCond .eq 38, 3) := by decide +kernel
theorem dX10_addValues_31 : decode cX10_addValues 31 = .ok (.aload_n 0, 1) := by decide +kernel
theorem dX10_addValues_32 : decode cX10_addValues 32 = .ok (.iload_n 1, 1) := by decide +kernel
theorem dX10_addValues_33 : decode cX10_addValues 33 = .ok (.iload 8, 2) := by decide +kernel
theorem dX10_addValues_35 : decode cX10_addValues 35 = .ok (.iload 9, 2) := by decide +kernel
theorem dX10_addValues_37 : decode cX10_addValues 37 = .ok (.invokestatic 677, 3) := by decide +kernel
theorem dX10_addValues_40 : decode cX10_addValues 40 = .ok (.iload_n 2, 1) := by decide +kernel
theorem dX10_addValues_41 : decode cX10_addValues 41 = .ok (.iload 8, 2) := by decide +kernel
theorem dX10_addValues_43 : decode cX10_addValues 43 = .ok (.iload 9, 2) := by decide +kernel
theorem dX10_addValues_45 : decode cX10_addValues 45 = .ok (.invokestatic 677, 3) := by decide +kernel
theorem dX10_addValues_48 : decode cX10_addValues 48 = .ok (.iload_n 3, 1) := by decide +kernel
theorem dX10_addValues_49 : decode cX10_addValues 49 = .ok (.iload 8, 2) := by decide +kernel
theorem dX10_addValues_51 : decode cX10_addValues 51 = .ok (.iload 9, 2) := by decide +kernel
theorem dX10_addValues_53 : decode cX10_addValues 53 = .ok (.invokestatic 677, 3) := by decide +kernel
theorem dX10_addValues_56 : decode cX10_addValues 56 = .ok (.iload 4, 2) := by decide +kernel
theorem dX10_addValues_58 : decode cX10_addValues 58 = .ok (.iload 5, 2) := by decide +kernel
theorem dX10_addValues_60 : decode cX10_addValues 60 = .ok (.invokevirtual 681, 3) := by decide +kernel
theorem dX10_addValues_63 : decode cX10_addValues 63 = .ok (.goto 35, 3) := by decide +kernel
theorem dX10_addValues_66 : decode cX10_addValues 66 = .ok (.aload_n 0, 1) := by decide +kernel
theorem dX10_addValues_67 : decode cX10_addValues 67 = .ok (.iload_n 1, 1) := by decide +kernel
theorem dX10_addValues_68 : decode cX10_addValues 68 = .ok (.iload 8, 2) := by decide +kernel
theorem dX10_addValues_70 : decode cX10_addValues 70 = .ok (.iload 9, 2) := by decide +kernel
theorem dX10_addValues_72 : decode cX10_addValues 72 = .ok (.invokestatic 677, 3) := by decide +kernel
theorem dX10_addValues_75 : decode cX10_addValues 75 = .ok (.iload_n 2, 1) := by decide +kernel
theorem dX10_addValues_76 : decode cX10_addValues 76 = .ok (.iload 8, 2) := by decide +kernel
theorem dX10_addValues_78 : decode cX10_addValues 78 = .ok (.iload 9, 2) := by decide +kernel
theorem dX10_addValues_80 : decode cX10_addValues 80 = .ok (.invokestatic 677, 3) := by decide +kernel
theorem dX10_addValues_83 : decode cX10_addValues 83 = .ok (.iload_n 3, 1) := by decide +kernel
theorem dX10_addValues_84 : decode cX10_addValues 84 = .ok (.iload 8, 2) := by decide +kernel
theorem dX10_addValues_86 : decode cX10_addValues 86 = .ok (.iload 9, 2) := by decide +kernel
theorem dX10_addValues_88 : decode cX10_addValues 88 = .ok (.invokestatic 677, 3) := by decide +kernel
theorem dX10_addValues_91 : decode cX10_addValues 91 = .ok (.iload 4, 2) := by decide +kernel
theorem dX10_addValues_93 : decode cX10_addValues 93 = .ok (.iload 5, 2) := by decide +kernel
theorem dX10_addValues_95 : decode cX10_addValues 95 = .ok (.invokevirtual 667, 3) := by decide +kernel
theorem dX10_addValues_98 : decode cX10_addValues 98 = .ok (.iinc 9 1, 3) := by decide +kernel
theorem dX10_addValues_101 : decode cX10_addValues 101 = .ok (.goto (-85), 3) := by decide +kernel
theorem dX10_addValues_104 : decode cX10_addValues 104 = .ok (.iinc 8 1, 3) := by decide +kernel
theorem dX10_addValues_107 : decode cX10_addValues 107 = .ok (.goto (-104), 3) := by decide +kernel
theorem dX10_addValues_110 : decode cX10_addValues 110 = .ok (.return_, 1) := by decide +kernel
/-! AlgebraHouseModel.addValues(IIIIIIZ)V -/
def P_X10_addValues_16 (Q : Int → MM → Prop) (K3 : Int → Int → Int → Int → Int → Int → Int → Int → MM → Prop) : Nat → Int → Int → Int → Int → Int → Int → Int → Int → Int → MM → Prop
  | 0, _, _, _, _, _, _, _, _, _, _ => False
  | n + 1, x1, x2, x3, x4, x5, x6, x7, x8, x9, m => P_X10_rows x6 m (fun r1 m1 => (RI x9) ∧ (RI r1) ∧ (if r1 ≤ x9 then K3 x1 x2 x3 x4 x5 x6 x7 (x8 + 1) m1 else (RI x7) ∧ (if x7 = 0 then P_X10_entryAt x1 x8 x9 m1 (fun r2 m2 => P_X10_entryAt x2 x8 x9 m2 (fun r3 m3 => P_X10_entryAt x3 x8 x9 m3 (fun r4 m4 => P_X10_addBlocks r2 r3 r4 x4 x5 m4 (fun r5 m5 => P_X10_addValues_16 Q K3 n x1 x2 x3 x4 x5 x6 x7 x8 (x9 + 1) m5)))) else P_X10_entryAt x1 x8 x9 m1 (fun r6 m6 => P_X10_entryAt x2 x8 x9 m6 (fun r7 m7 => P_X10_entryAt x3 x8 x9 m7 (fun r8 m8 => P_X10_takeBlocks r6 r7 r8 x4 x5 m8 (fun r9 m9 => P_X10_addValues_16 Q K3 n x1 x2 x3 x4 x5 x6 x7 x8 (x9 + 1) m9)))))))
def P_X10_addValues_3 (Q : Int → MM → Prop) : Nat → Int → Int → Int → Int → Int → Int → Int → Int → MM → Prop
  | 0, _, _, _, _, _, _, _, _, _ => False
  | n + 1, x1, x2, x3, x4, x5, x6, x7, x8, m => P_X10_rows x6 m (fun r1 m1 => (RI x8) ∧ (RI r1) ∧ (if r1 ≤ x8 then Q 0 m1 else ∃ nn, P_X10_addValues_16 Q (fun z0 z1 z2 z3 z4 z5 z6 z7 z8 => P_X10_addValues_3 Q n z0 z1 z2 z3 z4 z5 z6 z7 z8) nn x1 x2 x3 x4 x5 x6 x7 x8 0 m1))
def P_X10_addValues (x1 : Int) (x2 : Int) (x3 : Int) (x4 : Int) (x5 : Int) (x6 : Int) (x7 : Int) (m : MM) (Q : Int → MM → Prop) : Prop := ∃ nn, P_X10_addValues_3 Q nn x1 x2 x3 x4 x5 x6 x7 0 m
theorem pl_X10_addValues_16 {f : Nat} {Q : Int → MM → Prop} {T : MM → Prop} (hf : 5 ≤ f) {K3 : Int → Int → Int → Int → Int → Int → Int → Int → MM → Prop} (hK3 : ∀ (x1 : Int) (x2 : Int) (x3 : Int) (x4 : Int) (x5 : Int) (x6 : Int) (x7 : Int) (x8 : Int) (m : MM), K3 x1 x2 x3 x4 x5 x6 x7 x8 m → B f M_X10_addValues 3 [vR 582, vI x1, vI x2, vI x3, vI x4, vI x5, vI x6, vI x7, vI x8, vU] [] m Q T) : ∀ (n : Nat) (x1 : Int) (x2 : Int) (x3 : Int) (x4 : Int) (x5 : Int) (x6 : Int) (x7 : Int) (x8 : Int) (x9 : Int) (m : MM), P_X10_addValues_16 Q K3 n x1 x2 x3 x4 x5 x6 x7 x8 x9 m → B f M_X10_addValues 16 [vR 582, vI x1, vI x2, vI x3, vI x4, vI x5, vI x6, vI x7, vI x8, vI x9] [] m Q T := by
  intro n
  induction n with
  | zero => intro x1 x2 x3 x4 x5 x6 x7 x8 x9 m h; exact h.elim
  | succ n ih =>
    intro x1 x2 x3 x4 x5 x6 x7 x8 x9 m h
    have h : P_X10_rows x6 m (fun r1 m1 => (RI x9) ∧ (RI r1) ∧ (if r1 ≤ x9 then K3 x1 x2 x3 x4 x5 x6 x7 (x8 + 1) m1 else (RI x7) ∧ (if x7 = 0 then P_X10_entryAt x1 x8 x9 m1 (fun r2 m2 => P_X10_entryAt x2 x8 x9 m2 (fun r3 m3 => P_X10_entryAt x3 x8 x9 m3 (fun r4 m4 => P_X10_addBlocks r2 r3 r4 x4 x5 m4 (fun r5 m5 => P_X10_addValues_16 Q K3 n x1 x2 x3 x4 x5 x6 x7 x8 (x9 + 1) m5)))) else P_X10_entryAt x1 x8 x9 m1 (fun r6 m6 => P_X10_entryAt x2 x8 x9 m6 (fun r7 m7 => P_X10_entryAt x3 x8 x9 m7 (fun r8 m8 => P_X10_takeBlocks r6 r7 r8 x4 x5 m8 (fun r9 m9 => P_X10_addValues_16 Q K3 n x1 x2 x3 x4 x5 x6 x7 x8 (x9 + 1) m9))))))) := h
    refine b_iload dX10_addValues_16 rfl ?_
    refine b_iload dX10_addValues_18 rfl ?_
    refine b_cSi (as := [vI x6]) (st := [vI x9]) dX10_addValues_20 mf_X10_rows lk_X10_674 (p_X10_rows (f := 1) (Nat.le_refl _) _ _ h) (by omega) rfl rfl (Nat.le_of_ble_eq_true rfl) (by decide) rfl (fun _ => rfl) (fun r1 m1 h => ?_) (fun _ h => h)
    obtain ⟨g1, h⟩ := h
    obtain ⟨g2, h⟩ := h
    refine b_icmp_ge 104 dX10_addValues_23 g1 g2 (by decide) (fun c1 => ?_) (fun c1 => ?_)
    · have h := ifT c1 h
      refine b_iinc (ls' := [vR 582, vI x1, vI x2, vI x3, vI x4, vI x5, vI x6, vI x7, vI (x8 + 1), vI x9]) dX10_addValues_104 rfl rfl ?_
      refine b_goto 3 dX10_addValues_107 (by decide) ?_
      refine b_fgt [true, true, true, true, true, true, true, true, true, false] (ls' := [vR 582, vI x1, vI x2, vI x3, vI x4, vI x5, vI x6, vI x7, vI (x8 + 1), vU]) rfl rfl ?_
      exact hK3 _ _ _ _ _ _ _ _ _ h
    · have h := ifF c1 h
      refine b_iload dX10_addValues_26 rfl ?_
      obtain ⟨g3, h⟩ := h
      refine b_if_eq 66 dX10_addValues_28 g3 (by decide) (fun c2 => ?_) (fun c2 => ?_)
      · have h := ifT c2 h
        refine b_aload_n dX10_addValues_66 rfl ?_
        refine b_iload_n dX10_addValues_67 rfl ?_
        refine b_iload dX10_addValues_68 rfl ?_
        refine b_iload dX10_addValues_70 rfl ?_
        refine b_cSi (as := [vI x1, vI x8, vI x9]) (st := [vR 582]) dX10_addValues_72 mf_X10_entryAt lk_X10_677 (p_X10_entryAt (f := 1) (Nat.le_refl _) _ _ _ _ h) (by omega) rfl rfl (Nat.le_of_ble_eq_true rfl) (by decide) rfl (fun _ => rfl) (fun r2 m2 h => ?_) (fun _ h => h)
        refine b_iload_n dX10_addValues_75 rfl ?_
        refine b_iload dX10_addValues_76 rfl ?_
        refine b_iload dX10_addValues_78 rfl ?_
        refine b_cSi (as := [vI x2, vI x8, vI x9]) (st := [vI r2, vR 582]) dX10_addValues_80 mf_X10_entryAt lk_X10_677 (p_X10_entryAt (f := 1) (Nat.le_refl _) _ _ _ _ h) (by omega) rfl rfl (Nat.le_of_ble_eq_true rfl) (by decide) rfl (fun _ => rfl) (fun r3 m3 h => ?_) (fun _ h => h)
        refine b_iload_n dX10_addValues_83 rfl ?_
        refine b_iload dX10_addValues_84 rfl ?_
        refine b_iload dX10_addValues_86 rfl ?_
        refine b_cSi (as := [vI x3, vI x8, vI x9]) (st := [vI r3, vI r2, vR 582]) dX10_addValues_88 mf_X10_entryAt lk_X10_677 (p_X10_entryAt (f := 1) (Nat.le_refl _) _ _ _ _ h) (by omega) rfl rfl (Nat.le_of_ble_eq_true rfl) (by decide) rfl (fun _ => rfl) (fun r4 m4 h => ?_) (fun _ h => h)
        refine b_iload dX10_addValues_91 rfl ?_
        refine b_iload dX10_addValues_93 rfl ?_
        refine b_cVv (as := [vI r2, vI r3, vI r4, vI x4, vI x5]) (st := []) dX10_addValues_95 mf_X10_addBlocks qs178 lk_X10_667 ly_582 rfl (p_X10_addBlocks (f := 4) (Nat.le_refl _) _ _ _ _ _ _ h) (by omega) rfl rfl (Nat.le_of_ble_eq_true rfl) (by decide) rfl (fun _ => rfl) (fun r5 m5 h => ?_) (fun _ h => h)
        refine b_iinc (ls' := [vR 582, vI x1, vI x2, vI x3, vI x4, vI x5, vI x6, vI x7, vI x8, vI (x9 + 1)]) dX10_addValues_98 rfl rfl ?_
        refine b_goto 16 dX10_addValues_101 (by decide) ?_
        exact ih _ _ _ _ _ _ _ _ _ _ h
      · have h := ifF c2 h
        refine b_aload_n dX10_addValues_31 rfl ?_
        refine b_iload_n dX10_addValues_32 rfl ?_
        refine b_iload dX10_addValues_33 rfl ?_
        refine b_iload dX10_addValues_35 rfl ?_
        refine b_cSi (as := [vI x1, vI x8, vI x9]) (st := [vR 582]) dX10_addValues_37 mf_X10_entryAt lk_X10_677 (p_X10_entryAt (f := 1) (Nat.le_refl _) _ _ _ _ h) (by omega) rfl rfl (Nat.le_of_ble_eq_true rfl) (by decide) rfl (fun _ => rfl) (fun r6 m6 h => ?_) (fun _ h => h)
        refine b_iload_n dX10_addValues_40 rfl ?_
        refine b_iload dX10_addValues_41 rfl ?_
        refine b_iload dX10_addValues_43 rfl ?_
        refine b_cSi (as := [vI x2, vI x8, vI x9]) (st := [vI r6, vR 582]) dX10_addValues_45 mf_X10_entryAt lk_X10_677 (p_X10_entryAt (f := 1) (Nat.le_refl _) _ _ _ _ h) (by omega) rfl rfl (Nat.le_of_ble_eq_true rfl) (by decide) rfl (fun _ => rfl) (fun r7 m7 h => ?_) (fun _ h => h)
        refine b_iload_n dX10_addValues_48 rfl ?_
        refine b_iload dX10_addValues_49 rfl ?_
        refine b_iload dX10_addValues_51 rfl ?_
        refine b_cSi (as := [vI x3, vI x8, vI x9]) (st := [vI r7, vI r6, vR 582]) dX10_addValues_53 mf_X10_entryAt lk_X10_677 (p_X10_entryAt (f := 1) (Nat.le_refl _) _ _ _ _ h) (by omega) rfl rfl (Nat.le_of_ble_eq_true rfl) (by decide) rfl (fun _ => rfl) (fun r8 m8 h => ?_) (fun _ h => h)
        refine b_iload dX10_addValues_56 rfl ?_
        refine b_iload dX10_addValues_58 rfl ?_
        refine b_cVv (as := [vI r6, vI r7, vI r8, vI x4, vI x5]) (st := []) dX10_addValues_60 mf_X10_takeBlocks qs187 lk_X10_681 ly_582 rfl (p_X10_takeBlocks (f := 4) (Nat.le_refl _) _ _ _ _ _ _ h) (by omega) rfl rfl (Nat.le_of_ble_eq_true rfl) (by decide) rfl (fun _ => rfl) (fun r9 m9 h => ?_) (fun _ h => h)
        refine b_goto 98 dX10_addValues_63 (by decide) ?_
        refine b_iinc (ls' := [vR 582, vI x1, vI x2, vI x3, vI x4, vI x5, vI x6, vI x7, vI x8, vI (x9 + 1)]) dX10_addValues_98 rfl rfl ?_
        refine b_goto 16 dX10_addValues_101 (by decide) ?_
        exact ih _ _ _ _ _ _ _ _ _ _ h
theorem pl_X10_addValues_3 {f : Nat} {Q : Int → MM → Prop} {T : MM → Prop} (hf : 5 ≤ f) : ∀ (n : Nat) (x1 : Int) (x2 : Int) (x3 : Int) (x4 : Int) (x5 : Int) (x6 : Int) (x7 : Int) (x8 : Int) (m : MM), P_X10_addValues_3 Q n x1 x2 x3 x4 x5 x6 x7 x8 m → B f M_X10_addValues 3 [vR 582, vI x1, vI x2, vI x3, vI x4, vI x5, vI x6, vI x7, vI x8, vU] [] m Q T := by
  intro n
  induction n with
  | zero => intro x1 x2 x3 x4 x5 x6 x7 x8 m h; exact h.elim
  | succ n ih =>
    intro x1 x2 x3 x4 x5 x6 x7 x8 m h
    have h : P_X10_rows x6 m (fun r1 m1 => (RI x8) ∧ (RI r1) ∧ (if r1 ≤ x8 then Q 0 m1 else ∃ nn, P_X10_addValues_16 Q (fun z0 z1 z2 z3 z4 z5 z6 z7 z8 => P_X10_addValues_3 Q n z0 z1 z2 z3 z4 z5 z6 z7 z8) nn x1 x2 x3 x4 x5 x6 x7 x8 0 m1)) := h
    refine b_iload dX10_addValues_3 rfl ?_
    refine b_iload dX10_addValues_5 rfl ?_
    refine b_cSi (as := [vI x6]) (st := [vI x8]) dX10_addValues_7 mf_X10_rows lk_X10_674 (p_X10_rows (f := 1) (Nat.le_refl _) _ _ h) (by omega) rfl rfl (Nat.le_of_ble_eq_true rfl) (by decide) rfl (fun _ => rfl) (fun r1 m1 h => ?_) (fun _ h => h)
    obtain ⟨g1, h⟩ := h
    obtain ⟨g2, h⟩ := h
    refine b_icmp_ge 110 dX10_addValues_10 g1 g2 (by decide) (fun c1 => ?_) (fun c1 => ?_)
    · have h := ifT c1 h
      exact b_vret dX10_addValues_110 rfl h
    · have h := ifF c1 h
      refine b_iconst dX10_addValues_13 ?_
      refine b_istore (ls' := [vR 582, vI x1, vI x2, vI x3, vI x4, vI x5, vI x6, vI x7, vI x8, vI 0]) dX10_addValues_14 (Nat.le_of_ble_eq_true rfl) rfl ?_
      obtain ⟨nn, h⟩ := h
      exact pl_X10_addValues_16 hf (fun _ _ _ _ _ _ _ _ _ h => ih _ _ _ _ _ _ _ _ _ h) nn _ _ _ _ _ _ _ _ _ _ h
theorem p_X10_addValues {f : Nat} {Q : Int → MM → Prop} {T : MM → Prop} (hf : 5 ≤ f) (x1 : Int) (x2 : Int) (x3 : Int) (x4 : Int) (x5 : Int) (x6 : Int) (x7 : Int) (m : MM) (h : P_X10_addValues x1 x2 x3 x4 x5 x6 x7 m Q) : CC f M_X10_addValues [vR 582, vI x1, vI x2, vI x3, vI x4, vI x5, vI x6, vI x7] m Q T := by
  refine CC.of (plainFor_of_name (by decide)) (Nat.le_of_ble_eq_true rfl) (ls := [vR 582, vI x1, vI x2, vI x3, vI x4, vI x5, vI x6, vI x7, vU, vU]) rfl ?_
  have h : ∃ nn, P_X10_addValues_3 Q nn x1 x2 x3 x4 x5 x6 x7 0 m := h
  refine b_iconst dX10_addValues_0 ?_
  refine b_istore (ls' := [vR 582, vI x1, vI x2, vI x3, vI x4, vI x5, vI x6, vI x7, vI 0, vU]) dX10_addValues_1 (Nat.le_of_ble_eq_true rfl) rfl ?_
  obtain ⟨nn, h⟩ := h
  exact pl_X10_addValues_3 hf nn _ _ _ _ _ _ _ _ _ h
theorem dX10_set_0 : decode cX10_set 0 = .ok (.aload_n 0, 1) := by decide +kernel
theorem dX10_set_1 : decode cX10_set 1 = .ok (.getfield 250, 3) := by decide +kernel
theorem dX10_set_4 : decode cX10_set 4 = .ok (.iload_n 1, 1) := by decide +kernel
theorem dX10_set_5 : decode cX10_set 5 = .ok (.lload_n 2, 1) := by decide +kernel
theorem dX10_set_6 : decode cX10_set 6 = .ok (.lastore, 1) := by decide +kernel
theorem dX10_set_7 : decode cX10_set 7 = .ok (.aload_n 0, 1) := by decide +kernel
theorem dX10_set_8 : decode cX10_set 8 = .ok (.getfield 250, 3) := by decide +kernel
theorem dX10_set_11 : decode cX10_set 11 = .ok (.iload_n 1, 1) := by decide +kernel
theorem dX10_set_12 : decode cX10_set 12 = .ok (.iconst 1, 1) := by decide +kernel
theorem dX10_set_13 : decode cX10_set 13 = .ok (.iadd, 1) := by decide +kernel
theorem dX10_set_14 : decode cX10_set 14 = .ok (.lconst 1, 1) := by decide +kernel
theorem dX10_set_15 : decode cX10_set 15 = .ok (.lastore, 1) := by decide +kernel
theorem dX10_set_16 : decode cX10_set 16 = .ok (.return_, 1) := by decide +kernel
/-! AlgebraHouseModel.set(IJ)V -/
def P_X10_set (x1 : Int) (x2 : Int) (m : MM) (Q : Int → MM → Prop) : Prop := (0 ≤ x1 ∧ x1 < 1600000) ∧ ∀ m1 : MM, m1 = up m 635 x1 x2 → (0 ≤ (x1 + 1) ∧ (x1 + 1) < 1600000) ∧ ∀ m2 : MM, m2 = up m1 635 (x1 + 1) 1 → Q 0 m2
theorem p_X10_set {f : Nat} {Q : Int → MM → Prop} {T : MM → Prop} (hf : 1 ≤ f) (x1 : Int) (x2 : Int) (m : MM) (h : P_X10_set x1 x2 m Q) : CC f M_X10_set [vR 582, vI x1, vL x2] m Q T := by
  refine CC.of (plainFor_of_name (by decide)) (Nat.le_of_ble_eq_true rfl) (ls := [vR 582, vI x1, vL x2, vU]) rfl ?_
  have h : (0 ≤ x1 ∧ x1 < 1600000) ∧ ∀ m1 : MM, m1 = up m 635 x1 x2 → (0 ≤ (x1 + 1) ∧ (x1 + 1) < 1600000) ∧ ∀ m2 : MM, m2 = up m1 635 (x1 + 1) 1 → Q 0 m2 := h
  refine b_aload_n dX10_set_0 rfl ?_
  refine b_getR dX10_set_1 fk_X10_250 ly_582 gg_582_85 ?_
  refine b_iload_n dX10_set_4 rfl ?_
  refine b_lload_n dX10_set_5 rfl ?_
  obtain ⟨g1, h⟩ := h
  refine b_last dX10_set_6 ly_635 g1 (fun m1 em1 => ?_)
  have h := h m1 em1
  refine b_aload_n dX10_set_7 rfl ?_
  refine b_getR dX10_set_8 fk_X10_250 ly_582 gg_582_85 ?_
  refine b_iload_n dX10_set_11 rfl ?_
  refine b_iconst dX10_set_12 ?_
  refine b_iadd dX10_set_13 ?_
  refine b_lconst 1 dX10_set_14 (by decide) ?_
  obtain ⟨g2, h⟩ := h
  refine b_last dX10_set_15 ly_635 g2 (fun m2 em2 => ?_)
  have h := h m2 em2
  exact b_vret dX10_set_16 rfl h
theorem dX10_clear_0 : decode cX10_clear 0 = .ok (.iconst 0, 1) := by decide +kernel
theorem dX10_clear_1 : decode cX10_clear 1 = .ok (.istore_n 3, 1) := by decide +kernel
theorem dX10_clear_2 : decode cX10_clear 2 = .ok (.iload_n 3, 1) := by decide +kernel
theorem dX10_clear_3 : decode cX10_clear 3 = .ok (.iload_n 2, 1) := by decide +kernel
theorem dX10_clear_4 : decode cX10_clear 4 = .ok (.if_icmp .ge 17, 3) := by decide +kernel
theorem dX10_clear_7 : decode cX10_clear 7 = .ok (.aload_n 0, 1) := by decide +kernel
theorem dX10_clear_8 : decode cX10_clear 8 = .ok (.iload_n 1, 1) := by decide +kernel
theorem dX10_clear_9 : decode cX10_clear 9 = .ok (.iload_n 3, 1) := by decide +kernel
theorem dX10_clear_10 : decode cX10_clear 10 = .ok (.iadd, 1) := by decide +kernel
theorem dX10_clear_11 : decode cX10_clear 11 = .ok (.lconst 0, 1) := by decide +kernel
theorem dX10_clear_12 : decode cX10_clear 12 = .ok (.invokevirtual 633, 3) := by decide +kernel
theorem dX10_clear_15 : decode cX10_clear 15 = .ok (.iinc 3 2, 3) := by decide +kernel
theorem dX10_clear_18 : decode cX10_clear 18 = .ok (.goto (-16), 3) := by decide +kernel
theorem dX10_clear_21 : decode cX10_clear 21 = .ok (.return_, 1) := by decide +kernel
/-! AlgebraHouseModel.clear(II)V -/
def P_X10_clear_2 (Q : Int → MM → Prop) : Nat → Int → Int → Int → MM → Prop
  | 0, _, _, _, _ => False
  | n + 1, x1, x2, x3, m => (RI x3) ∧ (RI x2) ∧ (if x2 ≤ x3 then Q 0 m else P_X10_set (x1 + x3) 0 m (fun r1 m1 => P_X10_clear_2 Q n x1 x2 (x3 + 2) m1))
def P_X10_clear (x1 : Int) (x2 : Int) (m : MM) (Q : Int → MM → Prop) : Prop := ∃ nn, P_X10_clear_2 Q nn x1 x2 0 m
theorem pl_X10_clear_2 {f : Nat} {Q : Int → MM → Prop} {T : MM → Prop} (hf : 2 ≤ f) : ∀ (n : Nat) (x1 : Int) (x2 : Int) (x3 : Int) (m : MM), P_X10_clear_2 Q n x1 x2 x3 m → B f M_X10_clear 2 [vR 582, vI x1, vI x2, vI x3] [] m Q T := by
  intro n
  induction n with
  | zero => intro x1 x2 x3 m h; exact h.elim
  | succ n ih =>
    intro x1 x2 x3 m h
    have h : (RI x3) ∧ (RI x2) ∧ (if x2 ≤ x3 then Q 0 m else P_X10_set (x1 + x3) 0 m (fun r1 m1 => P_X10_clear_2 Q n x1 x2 (x3 + 2) m1)) := h
    refine b_iload_n dX10_clear_2 rfl ?_
    refine b_iload_n dX10_clear_3 rfl ?_
    obtain ⟨g1, h⟩ := h
    obtain ⟨g2, h⟩ := h
    refine b_icmp_ge 21 dX10_clear_4 g1 g2 (by decide) (fun c1 => ?_) (fun c1 => ?_)
    · have h := ifT c1 h
      exact b_vret dX10_clear_21 rfl h
    · have h := ifF c1 h
      refine b_aload_n dX10_clear_7 rfl ?_
      refine b_iload_n dX10_clear_8 rfl ?_
      refine b_iload_n dX10_clear_9 rfl ?_
      refine b_iadd dX10_clear_10 ?_
      refine b_lconst 0 dX10_clear_11 (by decide) ?_
      refine b_cVv (as := [vI (x1 + x3), vL 0]) (st := []) dX10_clear_12 mf_X10_set qs163 lk_X10_633 ly_582 rfl (p_X10_set (f := 1) (Nat.le_refl _) _ _ _ h) (by omega) rfl rfl (Nat.le_of_ble_eq_true rfl) (by decide) rfl (fun _ => rfl) (fun r1 m1 h => ?_) (fun _ h => h)
      refine b_iinc (ls' := [vR 582, vI x1, vI x2, vI (x3 + 2)]) dX10_clear_15 rfl rfl ?_
      refine b_goto 2 dX10_clear_18 (by decide) ?_
      exact ih _ _ _ _ h
theorem p_X10_clear {f : Nat} {Q : Int → MM → Prop} {T : MM → Prop} (hf : 2 ≤ f) (x1 : Int) (x2 : Int) (m : MM) (h : P_X10_clear x1 x2 m Q) : CC f M_X10_clear [vR 582, vI x1, vI x2] m Q T := by
  refine CC.of (plainFor_of_name (by decide)) (Nat.le_of_ble_eq_true rfl) (ls := [vR 582, vI x1, vI x2, vU]) rfl ?_
  have h : ∃ nn, P_X10_clear_2 Q nn x1 x2 0 m := h
  refine b_iconst dX10_clear_0 ?_
  refine b_istore_n (ls' := [vR 582, vI x1, vI x2, vI 0]) dX10_clear_1 (Nat.le_of_ble_eq_true rfl) rfl ?_
  obtain ⟨nn, h⟩ := h
  exact pl_X10_clear_2 hf nn _ _ _ _ h
theorem dX10_copy_0 : decode cX10_copy 0 = .ok (.iconst 0, 1) := by decide +kernel
theorem dX10_copy_1 : decode cX10_copy 1 = .ok (.istore 4, 2) := by decide +kernel
theorem dX10_copy_3 : decode cX10_copy 3 = .ok (.iload 4, 2) := by decide +kernel
theorem dX10_copy_5 : decode cX10_copy 5 = .ok (.iload_n 3, 1) := by decide +kernel
theorem dX10_copy_6 : decode cX10_copy 6 = .ok (.if_icmp .ge 27, 3) := by decide +kernel
theorem dX10_copy_9 : decode cX10_copy 9 = .ok (.aload_n 0, 1) := by decide +kernel
theorem dX10_copy_10 : decode cX10_copy 10 = .ok (.getfield 250, 3) := by decide +kernel
theorem dX10_copy_13 : decode cX10_copy 13 = .ok (.iload_n 1, 1) := by decide +kernel
theorem dX10_copy_14 : decode cX10_copy 14 = .ok (.iload 4, 2) := by decide +kernel
theorem dX10_copy_16 : decode cX10_copy 16 = .ok (.iadd, 1) := by decide +kernel
theorem dX10_copy_17 : decode cX10_copy 17 = .ok (.aload_n 0, 1) := by decide +kernel
theorem dX10_copy_18 : decode cX10_copy 18 = .ok (.getfield 250, 3) := by decide +kernel
theorem dX10_copy_21 : decode cX10_copy 21 = .ok (.iload_n 2, 1) := by decide +kernel
theorem dX10_copy_22 : decode cX10_copy 22 = .ok (.iload 4, 2) := by decide +kernel
theorem dX10_copy_24 : decode cX10_copy 24 = .ok (.iadd, 1) := by decide +kernel
theorem dX10_copy_25 : decode cX10_copy 25 = .ok (.laload, 1) := by decide +kernel
theorem dX10_copy_26 : decode cX10_copy 26 = .ok (.lastore, 1) := by decide +kernel
theorem dX10_copy_27 : decode cX10_copy 27 = .ok (.iinc 4 1, 3) := by decide +kernel
theorem dX10_copy_30 : decode cX10_copy 30 = .ok (.goto (-27), 3) := by decide +kernel
theorem dX10_copy_33 : decode cX10_copy 33 = .ok (.return_, 1) := by decide +kernel
/-! AlgebraHouseModel.copy(III)V -/
def P_X10_copy_3 (Q : Int → MM → Prop) : Nat → Int → Int → Int → Int → MM → Prop
  | 0, _, _, _, _, _ => False
  | n + 1, x1, x2, x3, x4, m => (RI x4) ∧ (RI x3) ∧ (if x3 ≤ x4 then Q 0 m else (0 ≤ (x2 + x4) ∧ (x2 + x4) < 1600000) ∧ (0 ≤ (x1 + x4) ∧ (x1 + x4) < 1600000) ∧ ∀ m1 : MM, m1 = up m 635 (x1 + x4) (m 635 (x2 + x4)) → P_X10_copy_3 Q n x1 x2 x3 (x4 + 1) m1)
def P_X10_copy (x1 : Int) (x2 : Int) (x3 : Int) (m : MM) (Q : Int → MM → Prop) : Prop := ∃ nn, P_X10_copy_3 Q nn x1 x2 x3 0 m
theorem pl_X10_copy_3 {f : Nat} {Q : Int → MM → Prop} {T : MM → Prop} (hf : 1 ≤ f) : ∀ (n : Nat) (x1 : Int) (x2 : Int) (x3 : Int) (x4 : Int) (m : MM), P_X10_copy_3 Q n x1 x2 x3 x4 m → B f M_X10_copy 3 [vR 582, vI x1, vI x2, vI x3, vI x4] [] m Q T := by
  intro n
  induction n with
  | zero => intro x1 x2 x3 x4 m h; exact h.elim
  | succ n ih =>
    intro x1 x2 x3 x4 m h
    have h : (RI x4) ∧ (RI x3) ∧ (if x3 ≤ x4 then Q 0 m else (0 ≤ (x2 + x4) ∧ (x2 + x4) < 1600000) ∧ (0 ≤ (x1 + x4) ∧ (x1 + x4) < 1600000) ∧ ∀ m1 : MM, m1 = up m 635 (x1 + x4) (m 635 (x2 + x4)) → P_X10_copy_3 Q n x1 x2 x3 (x4 + 1) m1) := h
    refine b_iload dX10_copy_3 rfl ?_
    refine b_iload_n dX10_copy_5 rfl ?_
    obtain ⟨g1, h⟩ := h
    obtain ⟨g2, h⟩ := h
    refine b_icmp_ge 33 dX10_copy_6 g1 g2 (by decide) (fun c1 => ?_) (fun c1 => ?_)
    · have h := ifT c1 h
      exact b_vret dX10_copy_33 rfl h
    · have h := ifF c1 h
      refine b_aload_n dX10_copy_9 rfl ?_
      refine b_getR dX10_copy_10 fk_X10_250 ly_582 gg_582_85 ?_
      refine b_iload_n dX10_copy_13 rfl ?_
      refine b_iload dX10_copy_14 rfl ?_
      refine b_iadd dX10_copy_16 ?_
      refine b_aload_n dX10_copy_17 rfl ?_
      refine b_getR dX10_copy_18 fk_X10_250 ly_582 gg_582_85 ?_
      refine b_iload_n dX10_copy_21 rfl ?_
      refine b_iload dX10_copy_22 rfl ?_
      refine b_iadd dX10_copy_24 ?_
      obtain ⟨g3, h⟩ := h
      refine b_lald dX10_copy_25 ly_635 g3 ?_
      obtain ⟨g4, h⟩ := h
      refine b_last dX10_copy_26 ly_635 g4 (fun m1 em1 => ?_)
      have h := h m1 em1
      refine b_iinc (ls' := [vR 582, vI x1, vI x2, vI x3, vI (x4 + 1)]) dX10_copy_27 rfl rfl ?_
      refine b_goto 3 dX10_copy_30 (by decide) ?_
      exact ih _ _ _ _ _ h
theorem p_X10_copy {f : Nat} {Q : Int → MM → Prop} {T : MM → Prop} (hf : 1 ≤ f) (x1 : Int) (x2 : Int) (x3 : Int) (m : MM) (h : P_X10_copy x1 x2 x3 m Q) : CC f M_X10_copy [vR 582, vI x1, vI x2, vI x3] m Q T := by
  refine CC.of (plainFor_of_name (by decide)) (Nat.le_of_ble_eq_true rfl) (ls := [vR 582, vI x1, vI x2, vI x3, vU]) rfl ?_
  have h : ∃ nn, P_X10_copy_3 Q nn x1 x2 x3 0 m := h
  refine b_iconst dX10_copy_0 ?_
  refine b_istore (ls' := [vR 582, vI x1, vI x2, vI x3, vI 0]) dX10_copy_1 (Nat.le_of_ble_eq_true rfl) rfl ?_
  obtain ⟨nn, h⟩ := h
  exact pl_X10_copy_3 hf nn _ _ _ _ _ h
theorem dX10_lessOrMore_0 : decode cX10_lessOrMore 0 = .ok (.iload 5, 2) := by decide +kernel
theorem dX10_lessOrMore_2 : decode cX10_lessOrMore 2 = .ok (.ifCond .eq 16, 3) := by decide +kernel
theorem dX10_lessOrMore_5 : decode cX10_lessOrMore 5 = .ok (.aload_n 0, 1) := by decide +kernel
theorem dX10_lessOrMore_6 : decode cX10_lessOrMore 6 = .ok (.iload_n 1, 1) := by decide +kernel
theorem dX10_lessOrMore_7 : decode cX10_lessOrMore 7 = .ok (.iload_n 1, 1) := by decide +kernel
theorem dX10_lessOrMore_8 : decode cX10_lessOrMore 8 = .ok (.iload_n 2, 1) := by decide +kernel
theorem dX10_lessOrMore_9 : decode cX10_lessOrMore 9 = .ok (.iload_n 3, 1) := by decide +kernel
theorem dX10_lessOrMore_10 : decode cX10_lessOrMore 10 = .ok (.iload 4, 2) := by decide +kernel
theorem dX10_lessOrMore_12 : decode cX10_lessOrMore 12 = .ok (.invokevirtual 681, 3) := by decide +kernel
theorem dX10_lessOrMore_15 : decode cX10_lessOrMore 15 = .ok (.goto 13, 3) := by decide +kernel
theorem dX10_lessOrMore_18 : decode cX10_lessOrMore 18 = .ok (.aload_n 0, 1) := by decide +kernel
theorem dX10_lessOrMore_19 : decode cX10_lessOrMore 19 = .ok (.iload_n 1, 1) := by decide +kernel
theorem dX10_lessOrMore_20 : decode cX10_lessOrMore 20 = .ok (.iload_n 1, 1) := by decide +kernel
theorem dX10_lessOrMore_21 : decode cX10_lessOrMore 21 = .ok (.iload_n 2, 1) := by decide +kernel
theorem dX10_lessOrMore_22 : decode cX10_lessOrMore 22 = .ok (.iload_n 3, 1) := by decide +kernel
theorem dX10_lessOrMore_23 : decode cX10_lessOrMore 23 = .ok (.iload 4, 2) := by decide +kernel
theorem dX10_lessOrMore_25 : decode cX10_lessOrMore 25 = .ok (.invokevirtual 667, 3) := by decide +kernel
theorem dX10_lessOrMore_28 : decode cX10_lessOrMore 28 = .ok (.return_, 1) := by decide +kernel
/-! AlgebraHouseModel.lessOrMore(IIIIZ)V -/
def P_X10_lessOrMore (x1 : Int) (x2 : Int) (x3 : Int) (x4 : Int) (x5 : Int) (m : MM) (Q : Int → MM → Prop) : Prop := (RI x5) ∧ (if x5 = 0 then P_X10_addBlocks x1 x1 x2 x3 x4 m (fun r1 m1 => Q 0 m1) else P_X10_takeBlocks x1 x1 x2 x3 x4 m (fun r2 m2 => Q 0 m2))
theorem p_X10_lessOrMore {f : Nat} {Q : Int → MM → Prop} {T : MM → Prop} (hf : 5 ≤ f) (x1 : Int) (x2 : Int) (x3 : Int) (x4 : Int) (x5 : Int) (m : MM) (h : P_X10_lessOrMore x1 x2 x3 x4 x5 m Q) : CC f M_X10_lessOrMore [vR 582, vI x1, vI x2, vI x3, vI x4, vI x5] m Q T := by
  refine CC.of (plainFor_of_name (by decide)) (Nat.le_of_ble_eq_true rfl) (ls := [vR 582, vI x1, vI x2, vI x3, vI x4, vI x5]) rfl ?_
  have h : (RI x5) ∧ (if x5 = 0 then P_X10_addBlocks x1 x1 x2 x3 x4 m (fun r1 m1 => Q 0 m1) else P_X10_takeBlocks x1 x1 x2 x3 x4 m (fun r2 m2 => Q 0 m2)) := h
  refine b_iload dX10_lessOrMore_0 rfl ?_
  obtain ⟨g1, h⟩ := h
  refine b_if_eq 18 dX10_lessOrMore_2 g1 (by decide) (fun c1 => ?_) (fun c1 => ?_)
  · have h := ifT c1 h
    refine b_aload_n dX10_lessOrMore_18 rfl ?_
    refine b_iload_n dX10_lessOrMore_19 rfl ?_
    refine b_iload_n dX10_lessOrMore_20 rfl ?_
    refine b_iload_n dX10_lessOrMore_21 rfl ?_
    refine b_iload_n dX10_lessOrMore_22 rfl ?_
    refine b_iload dX10_lessOrMore_23 rfl ?_
    refine b_cVv (as := [vI x1, vI x1, vI x2, vI x3, vI x4]) (st := []) dX10_lessOrMore_25 mf_X10_addBlocks qs178 lk_X10_667 ly_582 rfl (p_X10_addBlocks (f := 4) (Nat.le_refl _) _ _ _ _ _ _ h) (by omega) rfl rfl (Nat.le_of_ble_eq_true rfl) (by decide) rfl (fun _ => rfl) (fun r1 m1 h => ?_) (fun _ h => h)
    exact b_vret dX10_lessOrMore_28 rfl h
  · have h := ifF c1 h
    refine b_aload_n dX10_lessOrMore_5 rfl ?_
    refine b_iload_n dX10_lessOrMore_6 rfl ?_
    refine b_iload_n dX10_lessOrMore_7 rfl ?_
    refine b_iload_n dX10_lessOrMore_8 rfl ?_
    refine b_iload_n dX10_lessOrMore_9 rfl ?_
    refine b_iload dX10_lessOrMore_10 rfl ?_
    refine b_cVv (as := [vI x1, vI x1, vI x2, vI x3, vI x4]) (st := []) dX10_lessOrMore_12 mf_X10_takeBlocks qs187 lk_X10_681 ly_582 rfl (p_X10_takeBlocks (f := 4) (Nat.le_refl _) _ _ _ _ _ _ h) (by omega) rfl rfl (Nat.le_of_ble_eq_true rfl) (by decide) rfl (fun _ => rfl) (fun r2 m2 h => ?_) (fun _ h => h)
    refine b_goto 28 dX10_lessOrMore_15 (by decide) ?_
    exact b_vret dX10_lessOrMore_28 rfl h
theorem dX10_isZero_0 : decode cX10_isZero 0 = .ok (.iconst 0, 1) := by decide +kernel
theorem dX10_isZero_1 : decode cX10_isZero 1 = .ok (.istore_n 3, 1) := by decide +kernel
theorem dX10_isZero_2 : decode cX10_isZero 2 = .ok (.iload_n 3, 1) := by decide +kernel
theorem dX10_isZero_3 : decode cX10_isZero 3 = .ok (.iload_n 2, 1) := by decide +kernel
theorem dX10_isZero_4 : decode cX10_isZero 4 = .ok (.if_icmp .ge 24, 3) := by decide +kernel
theorem dX10_isZero_7 : decode cX10_isZero 7 = .ok (.aload_n 0, 1) := by decide +kernel
theorem dX10_isZero_8 : decode cX10_isZero 8 = .ok (.getfield 250, 3) := by decide +kernel
theorem dX10_isZero_11 : decode cX10_isZero 11 = .ok (.iload_n 1, 1) := by decide +kernel
theorem dX10_isZero_12 : decode cX10_isZero 12 = .ok (.iload_n 3, 1) := by decide +kernel
theorem dX10_isZero_13 : decode cX10_isZero 13 = .ok (.iadd, 1) := by decide +kernel
theorem dX10_isZero_14 : decode cX10_isZero 14 = .ok (.laload, 1) := by decide +kernel
theorem dX10_isZero_15 : decode cX10_isZero 15 = .ok (.lconst 0, 1) := by decide +kernel
theorem dX10_isZero_16 : decode cX10_isZero 16 = .ok (.lcmp, 1) := by decide +kernel
theorem dX10_isZero_17 : decode cX10_isZero 17 = .ok (.ifCond .eq 5, 3) := by decide +kernel
theorem dX10_isZero_20 : decode cX10_isZero 20 = .ok (.iconst 0, 1) := by decide +kernel
theorem dX10_isZero_21 : decode cX10_isZero 21 = .ok (.ireturn, 1) := by decide +kernel
theorem dX10_isZero_22 : decode cX10_isZero 22 = .ok (.iinc 3 2, 3) := by decide +kernel
theorem dX10_isZero_25 : decode cX10_isZero 25 = .ok (.goto (-23), 3) := by decide +kernel
theorem dX10_isZero_28 : decode cX10_isZero 28 = .ok (.iconst 1, 1) := by decide +kernel
theorem dX10_isZero_29 : decode cX10_isZero 29 = .ok (.ireturn, 1) := by decide +kernel
/-! AlgebraHouseModel.isZero(II)Z -/
def P_X10_isZero_2 (Q : Int → MM → Prop) : Nat → Int → Int → Int → MM → Prop
  | 0, _, _, _, _ => False
  | n + 1, x1, x2, x3, m => (RI x3) ∧ (RI x2) ∧ (if x2 ≤ x3 then Q 1 m else (0 ≤ (x1 + x3) ∧ (x1 + x3) < 1600000) ∧ (RL (m 635 (x1 + x3))) ∧ (if (m 635 (x1 + x3)) = 0 then P_X10_isZero_2 Q n x1 x2 (x3 + 2) m else Q 0 m))
def P_X10_isZero (x1 : Int) (x2 : Int) (m : MM) (Q : Int → MM → Prop) : Prop := ∃ nn, P_X10_isZero_2 Q nn x1 x2 0 m
theorem pl_X10_isZero_2 {f : Nat} {Q : Int → MM → Prop} {T : MM → Prop} (hf : 1 ≤ f) : ∀ (n : Nat) (x1 : Int) (x2 : Int) (x3 : Int) (m : MM), P_X10_isZero_2 Q n x1 x2 x3 m → B f M_X10_isZero 2 [vR 582, vI x1, vI x2, vI x3] [] m Q T := by
  intro n
  induction n with
  | zero => intro x1 x2 x3 m h; exact h.elim
  | succ n ih =>
    intro x1 x2 x3 m h
    have h : (RI x3) ∧ (RI x2) ∧ (if x2 ≤ x3 then Q 1 m else (0 ≤ (x1 + x3) ∧ (x1 + x3) < 1600000) ∧ (RL (m 635 (x1 + x3))) ∧ (if (m 635 (x1 + x3)) = 0 then P_X10_isZero_2 Q n x1 x2 (x3 + 2) m else Q 0 m)) := h
    refine b_iload_n dX10_isZero_2 rfl ?_
    refine b_iload_n dX10_isZero_3 rfl ?_
    obtain ⟨g1, h⟩ := h
    obtain ⟨g2, h⟩ := h
    refine b_icmp_ge 28 dX10_isZero_4 g1 g2 (by decide) (fun c1 => ?_) (fun c1 => ?_)
    · have h := ifT c1 h
      refine b_iconst dX10_isZero_28 ?_
      exact b_zret dX10_isZero_29 rfl (Or.inr rfl) h
    · have h := ifF c1 h
      refine b_aload_n dX10_isZero_7 rfl ?_
      refine b_getR dX10_isZero_8 fk_X10_250 ly_582 gg_582_85 ?_
      refine b_iload_n dX10_isZero_11 rfl ?_
      refine b_iload_n dX10_isZero_12 rfl ?_
      refine b_iadd dX10_isZero_13 ?_
      obtain ⟨g3, h⟩ := h
      refine b_lald dX10_isZero_14 ly_635 g3 ?_
      refine b_lconst 0 dX10_isZero_15 (by decide) ?_
      obtain ⟨g4, h⟩ := h
      refine b_lc_eq 22 dX10_isZero_16 dX10_isZero_17 g4 (by decide) (by decide) (fun c2 => ?_) (fun c2 => ?_)
      · have h := ifT c2 h
        refine b_iinc (ls' := [vR 582, vI x1, vI x2, vI (x3 + 2)]) dX10_isZero_22 rfl rfl ?_
        refine b_goto 2 dX10_isZero_25 (by decide) ?_
        exact ih _ _ _ _ h
      · have h := ifF c2 h
        refine b_iconst dX10_isZero_20 ?_
        exact b_zret dX10_isZero_21 rfl (Or.inl rfl) h
theorem p_X10_isZero {f : Nat} {Q : Int → MM → Prop} {T : MM → Prop} (hf : 1 ≤ f) (x1 : Int) (x2 : Int) (m : MM) (h : P_X10_isZero x1 x2 m Q) : CC f M_X10_isZero [vR 582, vI x1, vI x2] m Q T := by
  refine CC.of (plainFor_of_name (by decide)) (Nat.le_of_ble_eq_true rfl) (ls := [vR 582, vI x1, vI x2, vU]) rfl ?_
  have h : ∃ nn, P_X10_isZero_2 Q nn x1 x2 0 m := h
  refine b_iconst dX10_isZero_0 ?_
  refine b_istore_n (ls' := [vR 582, vI x1, vI x2, vI 0]) dX10_isZero_1 (Nat.le_of_ble_eq_true rfl) rfl ?_
  obtain ⟨nn, h⟩ := h
  exact pl_X10_isZero_2 hf nn _ _ _ _ h
theorem dX10_multiplyNumbers_0 : decode cX10_multiplyNumbers 0 = .ok (.aload_n 0, 1) := by decide +kernel
theorem dX10_multiplyNumbers_1 : decode cX10_multiplyNumbers 1 = .ok (.iload_n 1, 1) := by decide +kernel
theorem dX10_multiplyNumbers_2 : decode cX10_multiplyNumbers 2 = .ok (.aload_n 0, 1) := by decide +kernel
theorem dX10_multiplyNumbers_3 : decode cX10_multiplyNumbers 3 = .ok (.getfield 250, 3) := by decide +kernel
theorem dX10_multiplyNumbers_6 : decode cX10_multiplyNumbers 6 = .ok (.iload_n 2, 1) := by decide +kernel
theorem dX10_multiplyNumbers_7 : decode cX10_multiplyNumbers 7 = .ok (.laload, 1) := by decide +kernel
theorem dX10_multiplyNumbers_8 : decode cX10_multiplyNumbers 8 = .ok (.aload_n 0, 1) := by decide +kernel
theorem dX10_multiplyNumbers_9 : decode cX10_multiplyNumbers 9 = .ok (.getfield 250, 3) := by decide +kernel
theorem dX10_multiplyNumbers_12 : decode cX10_multiplyNumbers 12 = .ok (.iload_n 3, 1) := by decide +kernel
theorem dX10_multiplyNumbers_13 : decode cX10_multiplyNumbers 13 = .ok (.laload, 1) := by decide +kernel
theorem dX10_multiplyNumbers_14 : decode cX10_multiplyNumbers 14 = .ok (.lmul, 1) := by decide +kernel
theorem dX10_multiplyNumbers_15 : decode cX10_multiplyNumbers 15 = .ok (.iload_n 1, 1) := by decide +kernel
theorem dX10_multiplyNumbers_16 : decode cX10_multiplyNumbers 16 = .ok (.iconst 1, 1) := by decide +kernel
theorem dX10_multiplyNumbers_17 : decode cX10_multiplyNumbers 17 = .ok (.if_icmp .ne 23, 3) := by decide +kernel
theorem dX10_multiplyNumbers_20 : decode cX10_multiplyNumbers 20 = .ok (.aload_n 0, 1) := by decide +kernel
theorem dX10_multiplyNumbers_21 : decode cX10_multiplyNumbers 21 = .ok (.getfield 250, 3) := by decide +kernel
theorem dX10_multiplyNumbers_24 : decode cX10_multiplyNumbers 24 = .ok (.iload_n 2, 1) := by decide +kernel
theorem dX10_multiplyNumbers_25 : decode cX10_multiplyNumbers 25 = .ok (.iconst 1, 1) := by decide +kernel
theorem dX10_multiplyNumbers_26 : decode cX10_multiplyNumbers 26 = .ok (.iadd, 1) := by decide +kernel
theorem dX10_multiplyNumbers_27 : decode cX10_multiplyNumbers 27 = .ok (.laload, 1) := by decide +kernel
theorem dX10_multiplyNumbers_28 : decode cX10_multiplyNumbers 28 = .ok (.aload_n 0, 1) := by decide +kernel
theorem dX10_multiplyNumbers_29 : decode cX10_multiplyNumbers 29 = .ok (.getfield 250, 3) := by decide +kernel
theorem dX10_multiplyNumbers_32 : decode cX10_multiplyNumbers 32 = .ok (.iload_n 3, 1) := by decide +kernel
theorem dX10_multiplyNumbers_33 : decode cX10_multiplyNumbers 33 = .ok (.iconst 1, 1) := by decide +kernel
theorem dX10_multiplyNumbers_34 : decode cX10_multiplyNumbers 34 = .ok (.iadd, 1) := by decide +kernel
theorem dX10_multiplyNumbers_35 : decode cX10_multiplyNumbers 35 = .ok (.laload, 1) := by decide +kernel
theorem dX10_multiplyNumbers_36 : decode cX10_multiplyNumbers 36 = .ok (.lmul, 1) := by decide +kernel
theorem dX10_multiplyNumbers_37 : decode cX10_multiplyNumbers 37 = .ok (.goto 4, 3) := by decide +kernel
theorem dX10_multiplyNumbers_40 : decode cX10_multiplyNumbers 40 = .ok (.lconst 1, 1) := by decide +kernel
theorem dX10_multiplyNumbers_41 : decode cX10_multiplyNumbers 41 = .ok (.invokevirtual 626, 3) := by decide +kernel
theorem dX10_multiplyNumbers_44 : decode cX10_multiplyNumbers 44 = .ok (.return_, 1) := by decide +kernel
/-! AlgebraHouseModel.multiplyNumbers(III)V -/
def P_X10_multiplyNumbers (x1 : Int) (x2 : Int) (x3 : Int) (m : MM) (Q : Int → MM → Prop) : Prop := (0 ≤ x2 ∧ x2 < 1600000) ∧ (0 ≤ x3 ∧ x3 < 1600000) ∧ ((RI x1) ∧ (if x1 = 1 then ((0 ≤ (x2 + 1) ∧ (x2 + 1) < 1600000) ∧ (0 ≤ (x3 + 1) ∧ (x3 + 1) < 1600000)) else True)) ∧ P_X10_number x1 ((m 635 x2) * (m 635 x3)) (if x1 = 1 then ((m 635 (x2 + 1)) * (m 635 (x3 + 1))) else 1 : Int) m (fun r1 m1 => Q 0 m1)
theorem p_X10_multiplyNumbers {f : Nat} {Q : Int → MM → Prop} {T : MM → Prop} (hf : 3 ≤ f) (x1 : Int) (x2 : Int) (x3 : Int) (m : MM) (h : P_X10_multiplyNumbers x1 x2 x3 m Q) : CC f M_X10_multiplyNumbers [vR 582, vI x1, vI x2, vI x3] m Q T := by
  refine CC.of (plainFor_of_name (by decide)) (Nat.le_of_ble_eq_true rfl) (ls := [vR 582, vI x1, vI x2, vI x3]) rfl ?_
  have h : (0 ≤ x2 ∧ x2 < 1600000) ∧ (0 ≤ x3 ∧ x3 < 1600000) ∧ ((RI x1) ∧ (if x1 = 1 then ((0 ≤ (x2 + 1) ∧ (x2 + 1) < 1600000) ∧ (0 ≤ (x3 + 1) ∧ (x3 + 1) < 1600000)) else True)) ∧ P_X10_number x1 ((m 635 x2) * (m 635 x3)) (if x1 = 1 then ((m 635 (x2 + 1)) * (m 635 (x3 + 1))) else 1 : Int) m (fun r1 m1 => Q 0 m1) := h
  refine b_aload_n dX10_multiplyNumbers_0 rfl ?_
  refine b_iload_n dX10_multiplyNumbers_1 rfl ?_
  refine b_aload_n dX10_multiplyNumbers_2 rfl ?_
  refine b_getR dX10_multiplyNumbers_3 fk_X10_250 ly_582 gg_582_85 ?_
  refine b_iload_n dX10_multiplyNumbers_6 rfl ?_
  obtain ⟨g1, h⟩ := h
  refine b_lald dX10_multiplyNumbers_7 ly_635 g1 ?_
  refine b_aload_n dX10_multiplyNumbers_8 rfl ?_
  refine b_getR dX10_multiplyNumbers_9 fk_X10_250 ly_582 gg_582_85 ?_
  refine b_iload_n dX10_multiplyNumbers_12 rfl ?_
  obtain ⟨g2, h⟩ := h
  refine b_lald dX10_multiplyNumbers_13 ly_635 g2 ?_
  refine b_lmul dX10_multiplyNumbers_14 ?_
  refine b_iload_n dX10_multiplyNumbers_15 rfl ?_
  refine b_iconst dX10_multiplyNumbers_16 ?_
  obtain ⟨hs, h⟩ := h
  have K : B f M_X10_multiplyNumbers 41 [vR 582, vI x1, vI x2, vI x3] [vL (if x1 = 1 then ((m 635 (x2 + 1)) * (m 635 (x3 + 1))) else 1 : Int), vL ((m 635 x2) * (m 635 x3)), vI x1, vR 582] m Q T := by
    clear hs
    refine b_cVv (as := [vI x1, vL ((m 635 x2) * (m 635 x3)), vL (if x1 = 1 then ((m 635 (x2 + 1)) * (m 635 (x3 + 1))) else 1 : Int)]) (st := []) dX10_multiplyNumbers_41 mf_X10_number qs173 lk_X10_626 ly_582 rfl (p_X10_number (f := 2) (Nat.le_refl _) _ _ _ _ h) (by omega) rfl rfl (Nat.le_of_ble_eq_true rfl) (by decide) rfl (fun _ => rfl) (fun r1 m1 h => ?_) (fun _ h => h)
    exact b_vret dX10_multiplyNumbers_44 rfl h
  obtain ⟨g3, hs⟩ := hs
  refine b_icmp_ne 40 dX10_multiplyNumbers_17 g3 (by decide) (by decide) (fun c1 => ?_) (fun c1 => ?_)
  ·
    refine b_lconst 1 dX10_multiplyNumbers_40 (by decide) ?_
    rw [if_neg c1] at K
    exact K
  ·
    have c1 := Decidable.of_not_not c1
    have hs := ifT c1 hs
    obtain ⟨g4, g5⟩ := hs
    refine b_aload_n dX10_multiplyNumbers_20 rfl ?_
    refine b_getR dX10_multiplyNumbers_21 fk_X10_250 ly_582 gg_582_85 ?_
    refine b_iload_n dX10_multiplyNumbers_24 rfl ?_
    refine b_iconst dX10_multiplyNumbers_25 ?_
    refine b_iadd dX10_multiplyNumbers_26 ?_
    refine b_lald dX10_multiplyNumbers_27 ly_635 g4 ?_
    refine b_aload_n dX10_multiplyNumbers_28 rfl ?_
    refine b_getR dX10_multiplyNumbers_29 fk_X10_250 ly_582 gg_582_85 ?_
    refine b_iload_n dX10_multiplyNumbers_32 rfl ?_
    refine b_iconst dX10_multiplyNumbers_33 ?_
    refine b_iadd dX10_multiplyNumbers_34 ?_
    refine b_lald dX10_multiplyNumbers_35 ly_635 g5 ?_
    refine b_lmul dX10_multiplyNumbers_36 ?_
    refine b_goto 41 dX10_multiplyNumbers_37 (by decide) ?_
    rw [if_pos c1] at K
    exact K
theorem dX10_multiplyRows_0 : decode cX10_multiplyRows 0 = .ok (.iconst 0, 1) := by decide +kernel
theorem dX10_multiplyRows_1 : decode cX10_multiplyRows 1 = .ok (.istore 5, 2) := by decide +kernel
theorem dX10_multiplyRows_3 : decode cX10_multiplyRows 3 = .ok (.iload 5, 2) := by decide +kernel
theorem dX10_multiplyRows_5 : decode cX10_multiplyRows 5 = .ok (.bipush 13, 2) := by decide +kernel
theorem dX10_multiplyRows_7 : decode cX10_multiplyRows 7 = .ok (.if_icmp .ge 170, 3) := by decide +kernel
theorem dX10_multiplyRows_10 : decode cX10_multiplyRows 10 = .ok (.aload_n 0, 1) := by decide +kernel
theorem dX10_multiplyRows_11 : decode cX10_multiplyRows 11 = .ok (.getfield 601, 3) := by decide +kernel
theorem dX10_multiplyRows_14 : decode cX10_multiplyRows 14 = .ok (.ifCond .ne 163, 3) := by decide +kernel
theorem dX10_multiplyRows_17 : decode cX10_multiplyRows 17 = .ok (.iconst 0, 1) := by decide +kernel
theorem dX10_multiplyRows_18 : decode cX10_multiplyRows 18 = .ok (.iload 5, 2) := by decide +kernel
theorem dX10_multiplyRows_20 : decode cX10_multiplyRows 20 = .ok (.bipush 6, 2) := by decide +kernel
theorem dX10_multiplyRows_22 : decode cX10_multiplyRows 22 = .ok (.isub, 1) := by decide +kernel
theorem dX10_multiplyRows_23 : decode cX10_multiplyRows 23 = .ok (.invokestatic 445, 3) := by decide +kernel
theorem dX10_multiplyRows_26 : decode cX10_multiplyRows 26 = .ok (.istore 6, 2) := by decide +kernel
theorem dX10_multiplyRows_28 : decode cX10_multiplyRows 28 = .ok (.iload 6, 2) := by decide +kernel
theorem dX10_multiplyRows_30 : decode cX10_multiplyRows 30 = .ok (.istore 7, 2) := by decide +kernel
theorem dX10_multiplyRows_32 : decode cX10_multiplyRows 32 = .ok (.iload 7, 2) := by decide +kernel
theorem dX10_multiplyRows_34 : decode cX10_multiplyRows 34 = .ok (.bipush 6, 2) := by decide +kernel
theorem dX10_multiplyRows_36 : decode cX10_multiplyRows 36 = .ok (.iload 5, 2) := by decide +kernel
theorem dX10_multiplyRows_38 : decode cX10_multiplyRows 38 = .ok (.invokestatic 650, 3) := by decide +kernel
theorem dX10_multiplyRows_41 : decode cX10_multiplyRows 41 = .ok (.if_icmp .gt 80, 3) := by decide +kernel
theorem dX10_multiplyRows_44 : decode cX10_multiplyRows 44 = .ok (.aload_n 0, 1) := by decide +kernel
theorem dX10_multiplyRows_45 : decode cX10_multiplyRows 45 = .ok (.getfield 601, 3) := by decide +kernel
theorem dX10_multiplyRows_48 : decode cX10_multiplyRows 48 = .ok (.ifCond .ne 73, 3) := by decide +kernel
theorem dX10_multiplyRows_51 : decode cX10_multiplyRows 51 = .ok (.aload_n 0, 1) := by decide +kernel
theorem dX10_multiplyRows_52 : decode cX10_multiplyRows 52 = .ok (.iload 4, 2) := by decide +kernel
theorem dX10_multiplyRows_54 : decode cX10_multiplyRows 54 = .ok (.iload_n 2, 1) := by decide +kernel
theorem dX10_multiplyRows_55 : decode cX10_multiplyRows 55 = .ok (.iconst 2, 1) := by decide +kernel
theorem dX10_multiplyRows_56 : decode cX10_multiplyRows 56 = .ok (.iload 7, 2) := by decide +kernel
theorem dX10_multiplyRows_58 : decode cX10_multiplyRows 58 = .ok (.imul, 1) := by decide +kernel
theorem dX10_multiplyRows_59 : decode cX10_multiplyRows 59 = .ok (.iadd, 1) := by decide +kernel
theorem dX10_multiplyRows_60 : decode cX10_multiplyRows 60 = .ok (.iload_n 3, 1) := by decide +kernel
theorem dX10_multiplyRows_61 : decode cX10_multiplyRows 61 = .ok (.iconst 2, 1) := by decide +kernel
theorem dX10_multiplyRows_62 : decode cX10_multiplyRows 62 = .ok (.iload 5, 2) := by decide +kernel
theorem dX10_multiplyRows_64 : decode cX10_multiplyRows 64 = .ok (.iload 7, 2) := by decide +kernel
theorem dX10_multiplyRows_66 : decode cX10_multiplyRows 66 = .ok (.isub, 1) := by decide +kernel
theorem dX10_multiplyRows_67 : decode cX10_multiplyRows 67 = .ok (.imul, 1) := by decide +kernel
theorem dX10_multiplyRows_68 : decode cX10_multiplyRows 68 = .ok (.iadd, 1) := by decide +kernel
theorem dX10_multiplyRows_69 : decode cX10_multiplyRows 69 = .ok (.invokevirtual 653, 3) := by decide +kernel
theorem dX10_multiplyRows_72 : decode cX10_multiplyRows 72 = .ok (.aload_n 0, 1) := by decide +kernel
theorem dX10_multiplyRows_73 : decode cX10_multiplyRows 73 = .ok (.ldc_w 656, 3) := by decide +kernel
theorem dX10_multiplyRows_76 : decode cX10_multiplyRows 76 = .ok (.invokevirtual 644, 3) := by decide +kernel
theorem dX10_multiplyRows_79 : decode cX10_multiplyRows 79 = .ok (.iload 7, 2) := by decide +kernel
theorem dX10_multiplyRows_81 : decode cX10_multiplyRows 81 = .ok (.iload 6, 2) := by decide +kernel
theorem dX10_multiplyRows_83 : decode cX10_multiplyRows 83 = .ok (.if_icmp .ne 13, 3) := by decide +kernel
theorem dX10_multiplyRows_86 : decode cX10_multiplyRows 86 = .ok (.aload_n 0, 1) := by decide +kernel
theorem dX10_multiplyRows_87 : decode cX10_multiplyRows 87 = .ok (.ldc_w 657, 3) := by decide +kernel
theorem dX10_multiplyRows_90 : decode cX10_multiplyRows 90 = .ok (.invokevirtual 644, 3) := by decide +kernel
theorem dX10_multiplyRows_93 : decode cX10_multiplyRows 93 = .ok (.goto 22, 3) := by decide +kernel
theorem dX10_multiplyRows_96 : decode cX10_multiplyRows 96 = .ok (.aload_n 0, 1) := by decide +kernel
theorem dX10_multiplyRows_97 : decode cX10_multiplyRows 97 = .ok (.iload 4, 2) := by decide +kernel
theorem dX10_multiplyRows_99 : decode cX10_multiplyRows 99 = .ok (.ldc_w 657, 3) := by decide +kernel
theorem dX10_multiplyRows_102 : decode cX10_multiplyRows 102 = .ok (.ldc_w 656, 3) := by decide +kernel
theorem dX10_multiplyRows_105 : decode cX10_multiplyRows 105 = .ok (.invokevirtual 640, 3) := by decide +kernel
theorem dX10_multiplyRows_108 : decode cX10_multiplyRows 108 = .ok (.aload_n 0, 1) := by decide +kernel
theorem dX10_multiplyRows_109 : decode cX10_multiplyRows 109 = .ok (.ldc_w 657, 3) := by decide +kernel
theorem dX10_multiplyRows_112 : decode cX10_multiplyRows 112 = .ok (.invokevirtual 644, 3) := by decide +kernel
theorem dX10_multiplyRows_115 : decode cX10_multiplyRows 115 = .ok (.iinc 7 1, 3) := by decide +kernel
theorem dX10_multiplyRows_118 : decode cX10_multiplyRows 118 = .ok (.goto (-86), 3) := by decide +kernel
theorem dX10_multiplyRows_121 : decode cX10_multiplyRows 121 = .ok (.aload_n 0, 1) := by decide +kernel
theorem dX10_multiplyRows_122 : decode cX10_multiplyRows 122 = .ok (.getfield 601, 3) := by decide +kernel
theorem dX10_multiplyRows_125 : decode cX10_multiplyRows 125 = .ok (.ifCond .le 4, 3) := by decide +kernel
theorem dX10_multiplyRows_128 : decode cX10_multiplyRows 128 = .ok (.return_, 1) := by decide +kernel
theorem dX10_multiplyRows_129 : decode cX10_multiplyRows 129 = .ok (.iload 5, 2) := by decide +kernel
theorem dX10_multiplyRows_131 : decode cX10_multiplyRows 131 = .ok (.bipush 7, 2) := by decide +kernel
theorem dX10_multiplyRows_133 : decode cX10_multiplyRows 133 = .ok (.if_icmp .ge 20, 3) := by decide +kernel
theorem dX10_multiplyRows_136 : decode cX10_multiplyRows 136 = .ok (.aload_n 0, 1) := by decide +kernel
theorem dX10_multiplyRows_137 : decode cX10_multiplyRows 137 = .ok (.iload_n 1, 1) := by decide +kernel
theorem dX10_multiplyRows_138 : decode cX10_multiplyRows 138 = .ok (.iconst 2, 1) := by decide +kernel
theorem dX10_multiplyRows_139 : decode cX10_multiplyRows 139 = .ok (.iload 5, 2) := by decide +kernel
theorem dX10_multiplyRows_141 : decode cX10_multiplyRows 141 = .ok (.imul, 1) := by decide +kernel
theorem dX10_multiplyRows_142 : decode cX10_multiplyRows 142 = .ok (.iadd, 1) := by decide +kernel
theorem dX10_multiplyRows_143 : decode cX10_multiplyRows 143 = .ok (.ldc_w 657, 3) := by decide +kernel
theorem dX10_multiplyRows_146 : decode cX10_multiplyRows 146 = .ok (.iconst 2, 1) := by decide +kernel
theorem dX10_multiplyRows_147 : decode cX10_multiplyRows 147 = .ok (.invokevirtual 658, 3) := by decide +kernel
theorem dX10_multiplyRows_150 : decode cX10_multiplyRows 150 = .ok (.goto 21, 3) := by decide +kernel
theorem dX10_multiplyRows_153 : decode cX10_multiplyRows 153 = .ok (.aload_n 0, 1) := by decide +kernel
theorem dX10_multiplyRows_154 : decode cX10_multiplyRows 154 = .ok (.getfield 250, 3) := by decide +kernel
theorem dX10_multiplyRows_157 : decode cX10_multiplyRows 157 = .ok (.ldc_w 657, 3) := by decide +kernel
theorem dX10_multiplyRows_160 : decode cX10_multiplyRows 160 = .ok (.laload, 1) := by decide +kernel
theorem dX10_multiplyRows_161 : decode cX10_multiplyRows 161 = .ok (.lconst 0, 1) := by decide +kernel
theorem dX10_multiplyRows_162 : decode cX10_multiplyRows 162 = .ok (.lcmp, 1) := by decide +kernel
theorem dX10_multiplyRows_163 : decode cX10_multiplyRows 163 = .ok (.ifCond .eq 8, 3) := by decide +kernel
theorem dX10_multiplyRows_166 : decode cX10_multiplyRows 166 = .ok (.aload_n 0, 1) := by decide +kernel
theorem dX10_multiplyRows_167 : decode cX10_multiplyRows 167 = .ok (.iconst 4, 1) := by decide +kernel
theorem dX10_multiplyRows_168 : decode cX10_multiplyRows 168 = .ok (.putfield 601, 3) := by decide +kernel
theorem dX10_multiplyRows_171 : decode cX10_multiplyRows 171 = .ok (.iinc 5 1, 3) := by decide +kernel
theorem dX10_multiplyRows_174 : decode cX10_multiplyRows 174 = .ok (.goto (-171), 3) := by decide +kernel
theorem dX10_multiplyRows_177 : decode cX10_multiplyRows 177 = .ok (.return_, 1) := by decide +kernel
/-! AlgebraHouseModel.multiplyRows(IIII)V -/
def P_X10_multiplyRows_121 (Q : Int → MM → Prop) (K3 : Int → Int → Int → Int → Int → MM → Prop) (x1 : Int) (x2 : Int) (x3 : Int) (x4 : Int) (x5 : Int) (m : MM) : Prop := (RI (m 582 84)) ∧ (if (m 582 84) ≤ 0 then (RI x5) ∧ (if 7 ≤ x5 then (RL (m 635 1594000)) ∧ (if (m 635 1594000) = 0 then K3 x1 x2 x3 x4 (x5 + 1) m else ∀ m1 : MM, m1 = up m 582 84 4 → K3 x1 x2 x3 x4 (x5 + 1) m1) else P_X10_copy (x1 + (2 * x5)) 1594000 2 m (fun r1 m2 => K3 x1 x2 x3 x4 (x5 + 1) m2)) else Q 0 m)
def P_X10_multiplyRows_32 (Q : Int → MM → Prop) (K3 : Int → Int → Int → Int → Int → MM → Prop) : Nat → Int → Int → Int → Int → Int → Int → Int → MM → Prop
  | 0, _, _, _, _, _, _, _, _ => False
  | n + 1, x1, x2, x3, x4, x5, x6, x7, m => P_J4_min 6 x5 m (fun r1 m1 => (RI x7) ∧ (RI r1) ∧ (if r1 < x7 then P_X10_multiplyRows_121 Q K3 x1 x2 x3 x4 x5 m1 else (RI (m1 582 84)) ∧ (if (m1 582 84) = 0 then P_X10_multiplyNumbers x4 (x2 + (2 * x7)) (x3 + (2 * (x5 - x7))) m1 (fun r2 m2 => P_X10_put 1594002 m2 (fun r3 m3 => (RI x6) ∧ (if x7 = x6 then P_X10_put 1594000 m3 (fun r6 m6 => P_X10_multiplyRows_32 Q K3 n x1 x2 x3 x4 x5 x6 (x7 + 1) m6) else P_X10_addNumbers x4 1594000 1594002 m3 (fun r4 m4 => P_X10_put 1594000 m4 (fun r5 m5 => P_X10_multiplyRows_32 Q K3 n x1 x2 x3 x4 x5 x6 (x7 + 1) m5))))) else P_X10_multiplyRows_121 Q K3 x1 x2 x3 x4 x5 m1)))
def P_X10_multiplyRows_3 (Q : Int → MM → Prop) : Nat → Int → Int → Int → Int → Int → MM → Prop
  | 0, _, _, _, _, _, _ => False
  | n + 1, x1, x2, x3, x4, x5, m => (RI x5) ∧ (if 13 ≤ x5 then Q 0 m else (RI (m 582 84)) ∧ (if (m 582 84) = 0 then P_J4_max 0 (x5 - 6) m (fun r1 m1 => ∃ nn, P_X10_multiplyRows_32 Q (fun z0 z1 z2 z3 z4 z5 => P_X10_multiplyRows_3 Q n z0 z1 z2 z3 z4 z5) nn x1 x2 x3 x4 x5 r1 r1 m1) else Q 0 m))
def P_X10_multiplyRows (x1 : Int) (x2 : Int) (x3 : Int) (x4 : Int) (m : MM) (Q : Int → MM → Prop) : Prop := ∃ nn, P_X10_multiplyRows_3 Q nn x1 x2 x3 x4 0 m
theorem pl_X10_multiplyRows_121 {f : Nat} {Q : Int → MM → Prop} {T : MM → Prop} (hf : 4 ≤ f) {K3 : Int → Int → Int → Int → Int → MM → Prop} (hK3 : ∀ (x1 : Int) (x2 : Int) (x3 : Int) (x4 : Int) (x5 : Int) (m : MM), K3 x1 x2 x3 x4 x5 m → B f M_X10_multiplyRows 3 [vR 582, vI x1, vI x2, vI x3, vI x4, vI x5, vU, vU] [] m Q T) : ∀ (x1 : Int) (x2 : Int) (x3 : Int) (x4 : Int) (x5 : Int) (m : MM), P_X10_multiplyRows_121 Q K3 x1 x2 x3 x4 x5 m → B f M_X10_multiplyRows 121 [vR 582, vI x1, vI x2, vI x3, vI x4, vI x5, vU, vU] [] m Q T := by
  intro x1 x2 x3 x4 x5 m h
  have h : (RI (m 582 84)) ∧ (if (m 582 84) ≤ 0 then (RI x5) ∧ (if 7 ≤ x5 then (RL (m 635 1594000)) ∧ (if (m 635 1594000) = 0 then K3 x1 x2 x3 x4 (x5 + 1) m else ∀ m1 : MM, m1 = up m 582 84 4 → K3 x1 x2 x3 x4 (x5 + 1) m1) else P_X10_copy (x1 + (2 * x5)) 1594000 2 m (fun r1 m2 => K3 x1 x2 x3 x4 (x5 + 1) m2)) else Q 0 m) := h
  refine b_aload_n dX10_multiplyRows_121 rfl ?_
  refine b_getI dX10_multiplyRows_122 fk_X10_601 ly_582 ?_
  obtain ⟨g1, h⟩ := h
  refine b_if_le 129 dX10_multiplyRows_125 g1 (by decide) (fun c1 => ?_) (fun c1 => ?_)
  · have h := ifT c1 h
    refine b_iload dX10_multiplyRows_129 rfl ?_
    refine b_bipush dX10_multiplyRows_131 (by decide) ?_
    obtain ⟨g2, h⟩ := h
    refine b_icmp_ge 153 dX10_multiplyRows_133 g2 (by decide) (by decide) (fun c2 => ?_) (fun c2 => ?_)
    · have h := ifT c2 h
      refine b_aload_n dX10_multiplyRows_153 rfl ?_
      refine b_getR dX10_multiplyRows_154 fk_X10_250 ly_582 gg_582_85 ?_
      refine b_ldcw (1594000) dX10_multiplyRows_157 q2397 (by decide) ?_
      refine b_lald dX10_multiplyRows_160 ly_635 (by decide) ?_
      refine b_lconst 0 dX10_multiplyRows_161 (by decide) ?_
      obtain ⟨g3, h⟩ := h
      refine b_lc_eq 171 dX10_multiplyRows_162 dX10_multiplyRows_163 g3 (by decide) (by decide) (fun c3 => ?_) (fun c3 => ?_)
      · have h := ifT c3 h
        refine b_iinc (ls' := [vR 582, vI x1, vI x2, vI x3, vI x4, vI (x5 + 1), vU, vU]) dX10_multiplyRows_171 rfl rfl ?_
        refine b_goto 3 dX10_multiplyRows_174 (by decide) ?_
        exact hK3 _ _ _ _ _ _ h
      · have h := ifF c3 h
        refine b_aload_n dX10_multiplyRows_166 rfl ?_
        refine b_iconst dX10_multiplyRows_167 ?_
        refine b_putI dX10_multiplyRows_168 fk_X10_601 ly_582 (fun m1 em1 => ?_)
        have h := h m1 em1
        refine b_iinc (ls' := [vR 582, vI x1, vI x2, vI x3, vI x4, vI (x5 + 1), vU, vU]) dX10_multiplyRows_171 rfl rfl ?_
        refine b_goto 3 dX10_multiplyRows_174 (by decide) ?_
        exact hK3 _ _ _ _ _ _ h
    · have h := ifF c2 h
      refine b_aload_n dX10_multiplyRows_136 rfl ?_
      refine b_iload_n dX10_multiplyRows_137 rfl ?_
      refine b_iconst dX10_multiplyRows_138 ?_
      refine b_iload dX10_multiplyRows_139 rfl ?_
      refine b_imul dX10_multiplyRows_141 ?_
      refine b_iadd dX10_multiplyRows_142 ?_
      refine b_ldcw (1594000) dX10_multiplyRows_143 q2397 (by decide) ?_
      refine b_iconst dX10_multiplyRows_146 ?_
      refine b_cVv (as := [vI (x1 + (2 * x5)), vI 1594000, vI 2]) (st := []) dX10_multiplyRows_147 mf_X10_copy qs164 lk_X10_658 ly_582 rfl (p_X10_copy (f := 1) (Nat.le_refl _) _ _ _ _ h) (by omega) rfl rfl (Nat.le_of_ble_eq_true rfl) (by decide) rfl (fun _ => rfl) (fun r1 m2 h => ?_) (fun _ h => h)
      refine b_goto 171 dX10_multiplyRows_150 (by decide) ?_
      refine b_iinc (ls' := [vR 582, vI x1, vI x2, vI x3, vI x4, vI (x5 + 1), vU, vU]) dX10_multiplyRows_171 rfl rfl ?_
      refine b_goto 3 dX10_multiplyRows_174 (by decide) ?_
      exact hK3 _ _ _ _ _ _ h
  · have h := ifF c1 h
    exact b_vret dX10_multiplyRows_128 rfl h
theorem pl_X10_multiplyRows_32 {f : Nat} {Q : Int → MM → Prop} {T : MM → Prop} (hf : 4 ≤ f) {K3 : Int → Int → Int → Int → Int → MM → Prop} (hK3 : ∀ (x1 : Int) (x2 : Int) (x3 : Int) (x4 : Int) (x5 : Int) (m : MM), K3 x1 x2 x3 x4 x5 m → B f M_X10_multiplyRows 3 [vR 582, vI x1, vI x2, vI x3, vI x4, vI x5, vU, vU] [] m Q T) : ∀ (n : Nat) (x1 : Int) (x2 : Int) (x3 : Int) (x4 : Int) (x5 : Int) (x6 : Int) (x7 : Int) (m : MM), P_X10_multiplyRows_32 Q K3 n x1 x2 x3 x4 x5 x6 x7 m → B f M_X10_multiplyRows 32 [vR 582, vI x1, vI x2, vI x3, vI x4, vI x5, vI x6, vI x7] [] m Q T := by
  intro n
  induction n with
  | zero => intro x1 x2 x3 x4 x5 x6 x7 m h; exact h.elim
  | succ n ih =>
    intro x1 x2 x3 x4 x5 x6 x7 m h
    have h : P_J4_min 6 x5 m (fun r1 m1 => (RI x7) ∧ (RI r1) ∧ (if r1 < x7 then P_X10_multiplyRows_121 Q K3 x1 x2 x3 x4 x5 m1 else (RI (m1 582 84)) ∧ (if (m1 582 84) = 0 then P_X10_multiplyNumbers x4 (x2 + (2 * x7)) (x3 + (2 * (x5 - x7))) m1 (fun r2 m2 => P_X10_put 1594002 m2 (fun r3 m3 => (RI x6) ∧ (if x7 = x6 then P_X10_put 1594000 m3 (fun r6 m6 => P_X10_multiplyRows_32 Q K3 n x1 x2 x3 x4 x5 x6 (x7 + 1) m6) else P_X10_addNumbers x4 1594000 1594002 m3 (fun r4 m4 => P_X10_put 1594000 m4 (fun r5 m5 => P_X10_multiplyRows_32 Q K3 n x1 x2 x3 x4 x5 x6 (x7 + 1) m5))))) else P_X10_multiplyRows_121 Q K3 x1 x2 x3 x4 x5 m1))) := h
    refine b_iload dX10_multiplyRows_32 rfl ?_
    refine b_bipush dX10_multiplyRows_34 (by decide) ?_
    refine b_iload dX10_multiplyRows_36 rfl ?_
    refine b_cSi (as := [vI 6, vI x5]) (st := [vI x7]) dX10_multiplyRows_38 mf_J4_min lk_X10_650 (p_J4_min (f := 1) (Nat.le_refl _) _ _ _ h) (by omega) rfl rfl (Nat.le_of_ble_eq_true rfl) (by decide) rfl (fun _ => rfl) (fun r1 m1 h => ?_) (fun _ h => h)
    obtain ⟨g1, h⟩ := h
    obtain ⟨g2, h⟩ := h
    refine b_icmp_gt 121 dX10_multiplyRows_41 g1 g2 (by decide) (fun c1 => ?_) (fun c1 => ?_)
    · have h := ifT c1 h
      refine b_fgt [true, true, true, true, true, true, false, false] (ls' := [vR 582, vI x1, vI x2, vI x3, vI x4, vI x5, vU, vU]) rfl rfl ?_
      exact pl_X10_multiplyRows_121 hf hK3 _ _ _ _ _ _ h
    · have h := ifF c1 h
      refine b_aload_n dX10_multiplyRows_44 rfl ?_
      refine b_getI dX10_multiplyRows_45 fk_X10_601 ly_582 ?_
      obtain ⟨g3, h⟩ := h
      refine b_if_ne 121 dX10_multiplyRows_48 g3 (by decide) (fun c2 => ?_) (fun c2 => ?_)
      · have h := ifF c2 h
        refine b_fgt [true, true, true, true, true, true, false, false] (ls' := [vR 582, vI x1, vI x2, vI x3, vI x4, vI x5, vU, vU]) rfl rfl ?_
        exact pl_X10_multiplyRows_121 hf hK3 _ _ _ _ _ _ h
      · have h := ifT (Decidable.of_not_not c2) h
        refine b_aload_n dX10_multiplyRows_51 rfl ?_
        refine b_iload dX10_multiplyRows_52 rfl ?_
        refine b_iload_n dX10_multiplyRows_54 rfl ?_
        refine b_iconst dX10_multiplyRows_55 ?_
        refine b_iload dX10_multiplyRows_56 rfl ?_
        refine b_imul dX10_multiplyRows_58 ?_
        refine b_iadd dX10_multiplyRows_59 ?_
        refine b_iload_n dX10_multiplyRows_60 rfl ?_
        refine b_iconst dX10_multiplyRows_61 ?_
        refine b_iload dX10_multiplyRows_62 rfl ?_
        refine b_iload dX10_multiplyRows_64 rfl ?_
        refine b_isub dX10_multiplyRows_66 ?_
        refine b_imul dX10_multiplyRows_67 ?_
        refine b_iadd dX10_multiplyRows_68 ?_
        refine b_cVv (as := [vI x4, vI (x2 + (2 * x7)), vI (x3 + (2 * (x5 - x7)))]) (st := []) dX10_multiplyRows_69 mf_X10_multiplyNumbers qs172 lk_X10_653 ly_582 rfl (p_X10_multiplyNumbers (f := 3) (Nat.le_refl _) _ _ _ _ h) (by omega) rfl rfl (Nat.le_of_ble_eq_true rfl) (by decide) rfl (fun _ => rfl) (fun r2 m2 h => ?_) (fun _ h => h)
        refine b_aload_n dX10_multiplyRows_72 rfl ?_
        refine b_ldcw (1594002) dX10_multiplyRows_73 q2396 (by decide) ?_
        refine b_cVv (as := [vI 1594002]) (st := []) dX10_multiplyRows_76 mf_X10_put qs175 lk_X10_644 ly_582 rfl (p_X10_put (f := 1) (Nat.le_refl _) _ _ h) (by omega) rfl rfl (Nat.le_of_ble_eq_true rfl) (by decide) rfl (fun _ => rfl) (fun r3 m3 h => ?_) (fun _ h => h)
        refine b_iload dX10_multiplyRows_79 rfl ?_
        refine b_iload dX10_multiplyRows_81 rfl ?_
        obtain ⟨g4, h⟩ := h
        refine b_icmp_ne 96 dX10_multiplyRows_83 g1 g4 (by decide) (fun c3 => ?_) (fun c3 => ?_)
        · have h := ifF c3 h
          refine b_aload_n dX10_multiplyRows_96 rfl ?_
          refine b_iload dX10_multiplyRows_97 rfl ?_
          refine b_ldcw (1594000) dX10_multiplyRows_99 q2397 (by decide) ?_
          refine b_ldcw (1594002) dX10_multiplyRows_102 q2396 (by decide) ?_
          refine b_cVv (as := [vI x4, vI 1594000, vI 1594002]) (st := []) dX10_multiplyRows_105 mf_X10_addNumbers qs177 lk_X10_640 ly_582 rfl (p_X10_addNumbers (f := 3) (Nat.le_refl _) _ _ _ _ h) (by omega) rfl rfl (Nat.le_of_ble_eq_true rfl) (by decide) rfl (fun _ => rfl) (fun r4 m4 h => ?_) (fun _ h => h)
          refine b_aload_n dX10_multiplyRows_108 rfl ?_
          refine b_ldcw (1594000) dX10_multiplyRows_109 q2397 (by decide) ?_
          refine b_cVv (as := [vI 1594000]) (st := []) dX10_multiplyRows_112 mf_X10_put qs175 lk_X10_644 ly_582 rfl (p_X10_put (f := 1) (Nat.le_refl _) _ _ h) (by omega) rfl rfl (Nat.le_of_ble_eq_true rfl) (by decide) rfl (fun _ => rfl) (fun r5 m5 h => ?_) (fun _ h => h)
          refine b_iinc (ls' := [vR 582, vI x1, vI x2, vI x3, vI x4, vI x5, vI x6, vI (x7 + 1)]) dX10_multiplyRows_115 rfl rfl ?_
          refine b_goto 32 dX10_multiplyRows_118 (by decide) ?_
          exact ih _ _ _ _ _ _ _ _ h
        · have h := ifT (Decidable.of_not_not c3) h
          refine b_aload_n dX10_multiplyRows_86 rfl ?_
          refine b_ldcw (1594000) dX10_multiplyRows_87 q2397 (by decide) ?_
          refine b_cVv (as := [vI 1594000]) (st := []) dX10_multiplyRows_90 mf_X10_put qs175 lk_X10_644 ly_582 rfl (p_X10_put (f := 1) (Nat.le_refl _) _ _ h) (by omega) rfl rfl (Nat.le_of_ble_eq_true rfl) (by decide) rfl (fun _ => rfl) (fun r6 m6 h => ?_) (fun _ h => h)
          refine b_goto 115 dX10_multiplyRows_93 (by decide) ?_
          refine b_iinc (ls' := [vR 582, vI x1, vI x2, vI x3, vI x4, vI x5, vI x6, vI (x7 + 1)]) dX10_multiplyRows_115 rfl rfl ?_
          refine b_goto 32 dX10_multiplyRows_118 (by decide) ?_
          exact ih _ _ _ _ _ _ _ _ h
theorem pl_X10_multiplyRows_3 {f : Nat} {Q : Int → MM → Prop} {T : MM → Prop} (hf : 4 ≤ f) : ∀ (n : Nat) (x1 : Int) (x2 : Int) (x3 : Int) (x4 : Int) (x5 : Int) (m : MM), P_X10_multiplyRows_3 Q n x1 x2 x3 x4 x5 m → B f M_X10_multiplyRows 3 [vR 582, vI x1, vI x2, vI x3, vI x4, vI x5, vU, vU] [] m Q T := by
  intro n
  induction n with
  | zero => intro x1 x2 x3 x4 x5 m h; exact h.elim
  | succ n ih =>
    intro x1 x2 x3 x4 x5 m h
    have h : (RI x5) ∧ (if 13 ≤ x5 then Q 0 m else (RI (m 582 84)) ∧ (if (m 582 84) = 0 then P_J4_max 0 (x5 - 6) m (fun r1 m1 => ∃ nn, P_X10_multiplyRows_32 Q (fun z0 z1 z2 z3 z4 z5 => P_X10_multiplyRows_3 Q n z0 z1 z2 z3 z4 z5) nn x1 x2 x3 x4 x5 r1 r1 m1) else Q 0 m)) := h
    refine b_iload dX10_multiplyRows_3 rfl ?_
    refine b_bipush dX10_multiplyRows_5 (by decide) ?_
    obtain ⟨g1, h⟩ := h
    refine b_icmp_ge 177 dX10_multiplyRows_7 g1 (by decide) (by decide) (fun c1 => ?_) (fun c1 => ?_)
    · have h := ifT c1 h
      exact b_vret dX10_multiplyRows_177 rfl h
    · have h := ifF c1 h
      refine b_aload_n dX10_multiplyRows_10 rfl ?_
      refine b_getI dX10_multiplyRows_11 fk_X10_601 ly_582 ?_
      obtain ⟨g2, h⟩ := h
      refine b_if_ne 177 dX10_multiplyRows_14 g2 (by decide) (fun c2 => ?_) (fun c2 => ?_)
      · have h := ifF c2 h
        exact b_vret dX10_multiplyRows_177 rfl h
      · have h := ifT (Decidable.of_not_not c2) h
        refine b_iconst dX10_multiplyRows_17 ?_
        refine b_iload dX10_multiplyRows_18 rfl ?_
        refine b_bipush dX10_multiplyRows_20 (by decide) ?_
        refine b_isub dX10_multiplyRows_22 ?_
        refine b_cSi (as := [vI 0, vI (x5 - 6)]) (st := []) dX10_multiplyRows_23 mf_J4_max lk_X10_445 (p_J4_max (f := 1) (Nat.le_refl _) _ _ _ h) (by omega) rfl rfl (Nat.le_of_ble_eq_true rfl) (by decide) rfl (fun _ => rfl) (fun r1 m1 h => ?_) (fun _ h => h)
        refine b_istore (ls' := [vR 582, vI x1, vI x2, vI x3, vI x4, vI x5, vI r1, vU]) dX10_multiplyRows_26 (Nat.le_of_ble_eq_true rfl) rfl ?_
        refine b_iload dX10_multiplyRows_28 rfl ?_
        refine b_istore (ls' := [vR 582, vI x1, vI x2, vI x3, vI x4, vI x5, vI r1, vI r1]) dX10_multiplyRows_30 (Nat.le_of_ble_eq_true rfl) rfl ?_
        obtain ⟨nn, h⟩ := h
        exact pl_X10_multiplyRows_32 hf (fun _ _ _ _ _ _ h => ih _ _ _ _ _ _ h) nn _ _ _ _ _ _ _ _ h
theorem p_X10_multiplyRows {f : Nat} {Q : Int → MM → Prop} {T : MM → Prop} (hf : 4 ≤ f) (x1 : Int) (x2 : Int) (x3 : Int) (x4 : Int) (m : MM) (h : P_X10_multiplyRows x1 x2 x3 x4 m Q) : CC f M_X10_multiplyRows [vR 582, vI x1, vI x2, vI x3, vI x4] m Q T := by
  refine CC.of (plainFor_of_name (by decide)) (Nat.le_of_ble_eq_true rfl) (ls := [vR 582, vI x1, vI x2, vI x3, vI x4, vU, vU, vU]) rfl ?_
  have h : ∃ nn, P_X10_multiplyRows_3 Q nn x1 x2 x3 x4 0 m := h
  refine b_iconst dX10_multiplyRows_0 ?_
  refine b_istore (ls' := [vR 582, vI x1, vI x2, vI x3, vI x4, vI 0, vU, vU]) dX10_multiplyRows_1 (Nat.le_of_ble_eq_true rfl) rfl ?_
  obtain ⟨nn, h⟩ := h
  exact pl_X10_multiplyRows_3 hf nn _ _ _ _ _ _ h
theorem dX10_multiplyBlocks_0 : decode cX10_multiplyBlocks 0 = .ok (.iload 5, 2) := by decide +kernel
theorem dX10_multiplyBlocks_2 : decode cX10_multiplyBlocks 2 = .ok (.ifCond .ne 24, 3) := by decide +kernel
theorem dX10_multiplyBlocks_5 : decode cX10_multiplyBlocks 5 = .ok (.aload_n 0, 1) := by decide +kernel
theorem dX10_multiplyBlocks_6 : decode cX10_multiplyBlocks 6 = .ok (.iload 4, 2) := by decide +kernel
theorem dX10_multiplyBlocks_8 : decode cX10_multiplyBlocks 8 = .ok (.iload_n 2, 1) := by decide +kernel
theorem dX10_multiplyBlocks_9 : decode cX10_multiplyBlocks 9 = .ok (.iload_n 3, 1) := by decide +kernel
theorem dX10_multiplyBlocks_10 : decode cX10_multiplyBlocks 10 = .ok (.invokevirtual 653, 3) := by decide +kernel
theorem dX10_multiplyBlocks_13 : decode cX10_multiplyBlocks 13 = .ok (.aload_n 0, 1) := by decide +kernel
theorem dX10_multiplyBlocks_14 : decode cX10_multiplyBlocks 14 = .ok (.getfield 601, 3) := by decide +kernel
theorem dX10_multiplyBlocks_17 : decode cX10_multiplyBlocks 17 = .ok (.ifCond .ne 8, 3) := by decide +kernel
theorem dX10_multiplyBlocks_20 : decode cX10_multiplyBlocks 20 = .ok (.aload_n 0, 1) := by decide +kernel
theorem dX10_multiplyBlocks_21 : decode cX10_multiplyBlocks 21 = .ok (.iload_n 1, 1) := by decide +kernel
theorem dX10_multiplyBlocks_22 : decode cX10_multiplyBlocks 22 = .ok (.invokevirtual 644, 3) := by decide +kernel
theorem dX10_multiplyBlocks_25 : decode cX10_multiplyBlocks 25 = .ok (.return_, 1) := by decide +kernel
theorem dX10_multiplyBlocks_26 : decode cX10_multiplyBlocks 26 = .ok (.iload 5, 2) := by decide +kernel
theorem dX10_multiplyBlocks_28 : decode cX10_multiplyBlocks 28 = .ok (.iconst 1, 1) := by decide +kernel
theorem dX10_multiplyBlocks_29 : decode cX10_multiplyBlocks 29 = .ok (.if_icmp .ne 32, 3) := by decide +kernel
theorem dX10_multiplyBlocks_32 : decode cX10_multiplyBlocks 32 = .ok (.aload_n 0, 1) := by decide +kernel
theorem dX10_multiplyBlocks_33 : decode cX10_multiplyBlocks 33 = .ok (.ldc_w 661, 3) := by decide +kernel
theorem dX10_multiplyBlocks_36 : decode cX10_multiplyBlocks 36 = .ok (.iload_n 2, 1) := by decide +kernel
theorem dX10_multiplyBlocks_37 : decode cX10_multiplyBlocks 37 = .ok (.iload_n 3, 1) := by decide +kernel
theorem dX10_multiplyBlocks_38 : decode cX10_multiplyBlocks 38 = .ok (.iload 4, 2) := by decide +kernel
theorem dX10_multiplyBlocks_40 : decode cX10_multiplyBlocks 40 = .ok (.invokevirtual 662, 3) := by decide +kernel
theorem dX10_multiplyBlocks_43 : decode cX10_multiplyBlocks 43 = .ok (.aload_n 0, 1) := by decide +kernel
theorem dX10_multiplyBlocks_44 : decode cX10_multiplyBlocks 44 = .ok (.getfield 601, 3) := by decide +kernel
theorem dX10_multiplyBlocks_47 : decode cX10_multiplyBlocks 47 = .ok (.ifCond .ne 13, 3) := by decide +kernel
theorem dX10_multiplyBlocks_50 : decode cX10_multiplyBlocks 50 = .ok (.aload_n 0, 1) := by decide +kernel
theorem dX10_multiplyBlocks_51 : decode cX10_multiplyBlocks 51 = .ok (.iload_n 1, 1) := by decide +kernel
theorem dX10_multiplyBlocks_52 : decode cX10_multiplyBlocks 52 = .ok (.ldc_w 661, 3) := by decide +kernel
theorem dX10_multiplyBlocks_55 : decode cX10_multiplyBlocks 55 = .ok (.bipush 14, 2) := by decide +kernel
theorem dX10_multiplyBlocks_57 : decode cX10_multiplyBlocks 57 = .ok (.invokevirtual 658, 3) := by decide +kernel
theorem dX10_multiplyBlocks_60 : decode cX10_multiplyBlocks 60 = .ok (.return_, 1) := by decide +kernel
theorem dX10_multiplyBlocks_61 : decode cX10_multiplyBlocks 61 = .ok (.iconst 0, 1) := by decide +kernel
theorem dX10_multiplyBlocks_62 : decode cX10_multiplyBlocks 62 = .ok (.istore 6, 2) := by decide +kernel
theorem dX10_multiplyBlocks_64 : decode cX10_multiplyBlocks 64 = .ok (.iload 6, 2) := by decide +kernel
theorem dX10_multiplyBlocks_66 : decode cX10_multiplyBlocks 66 = .ok (.bipush 13, 2) := by decide +kernel
theorem dX10_multiplyBlocks_68 : decode cX10_multiplyBlocks 68 = .ok (.if_icmp .ge 181, 3) := by decide +kernel
theorem dX10_multiplyBlocks_71 : decode cX10_multiplyBlocks 71 = .ok (.aload_n 0, 1) := by decide +kernel
theorem dX10_multiplyBlocks_72 : decode cX10_multiplyBlocks 72 = .ok (.getfield 601, 3) := by decide +kernel
theorem dX10_multiplyBlocks_75 : decode cX10_multiplyBlocks 75 = .ok (.ifCond .ne 174, 3) := by decide +kernel
theorem dX10_multiplyBlocks_78 : decode cX10_multiplyBlocks 78 = .ok (.iconst 0, 1) := by decide +kernel
theorem dX10_multiplyBlocks_79 : decode cX10_multiplyBlocks 79 = .ok (.iload 6, 2) := by decide +kernel
theorem dX10_multiplyBlocks_81 : decode cX10_multiplyBlocks 81 = .ok (.bipush 6, 2) := by decide +kernel
theorem dX10_multiplyBlocks_83 : decode cX10_multiplyBlocks 83 = .ok (.isub, 1) := by decide +kernel
theorem dX10_multiplyBlocks_84 : decode cX10_multiplyBlocks 84 = .ok (.invokestatic 445, 3) := by decide +kernel
theorem dX10_multiplyBlocks_87 : decode cX10_multiplyBlocks 87 = .ok (.istore 7, 2) := by decide +kernel
theorem dX10_multiplyBlocks_89 : decode cX10_multiplyBlocks 89 = .ok (.iload 7, 2) := by decide +kernel
theorem dX10_multiplyBlocks_91 : decode cX10_multiplyBlocks 91 = .ok (.istore 8, 2) := by decide +kernel
theorem dX10_multiplyBlocks_93 : decode cX10_multiplyBlocks 93 = .ok (.iload 8, 2) := by decide +kernel
theorem dX10_multiplyBlocks_95 : decode cX10_multiplyBlocks 95 = .ok (.bipush 6, 2) := by decide +kernel
theorem dX10_multiplyBlocks_97 : decode cX10_multiplyBlocks 97 = .ok (.iload 6, 2) := by decide +kernel
theorem dX10_multiplyBlocks_99 : decode cX10_multiplyBlocks 99 = .ok (.invokestatic 650, 3) := by decide +kernel
theorem dX10_multiplyBlocks_102 : decode cX10_multiplyBlocks 102 = .ok (.if_icmp .gt 88, 3) := by decide +kernel
theorem dX10_multiplyBlocks_105 : decode cX10_multiplyBlocks 105 = .ok (.aload_n 0, 1) := by decide +kernel
theorem dX10_multiplyBlocks_106 : decode cX10_multiplyBlocks 106 = .ok (.getfield 601, 3) := by decide +kernel
theorem dX10_multiplyBlocks_109 : decode cX10_multiplyBlocks 109 = .ok (.ifCond .ne 81, 3) := by decide +kernel
theorem dX10_multiplyBlocks_112 : decode cX10_multiplyBlocks 112 = .ok (.aload_n 0, 1) := by decide +kernel
theorem dX10_multiplyBlocks_113 : decode cX10_multiplyBlocks 113 = .ok (.ldc_w 665, 3) := by decide +kernel
theorem dX10_multiplyBlocks_116 : decode cX10_multiplyBlocks 116 = .ok (.iload_n 2, 1) := by decide +kernel
theorem dX10_multiplyBlocks_117 : decode cX10_multiplyBlocks 117 = .ok (.bipush 14, 2) := by decide +kernel
theorem dX10_multiplyBlocks_119 : decode cX10_multiplyBlocks 119 = .ok (.iload 8, 2) := by decide +kernel
theorem dX10_multiplyBlocks_121 : decode cX10_multiplyBlocks 121 = .ok (.imul, 1) := by decide +kernel
theorem dX10_multiplyBlocks_122 : decode cX10_multiplyBlocks 122 = .ok (.iadd, 1) := by decide +kernel
theorem dX10_multiplyBlocks_123 : decode cX10_multiplyBlocks 123 = .ok (.iload_n 3, 1) := by decide +kernel
theorem dX10_multiplyBlocks_124 : decode cX10_multiplyBlocks 124 = .ok (.bipush 14, 2) := by decide +kernel
theorem dX10_multiplyBlocks_126 : decode cX10_multiplyBlocks 126 = .ok (.iload 6, 2) := by decide +kernel
theorem dX10_multiplyBlocks_128 : decode cX10_multiplyBlocks 128 = .ok (.iload 8, 2) := by decide +kernel
theorem dX10_multiplyBlocks_130 : decode cX10_multiplyBlocks 130 = .ok (.isub, 1) := by decide +kernel
theorem dX10_multiplyBlocks_131 : decode cX10_multiplyBlocks 131 = .ok (.imul, 1) := by decide +kernel
theorem dX10_multiplyBlocks_132 : decode cX10_multiplyBlocks 132 = .ok (.iadd, 1) := by decide +kernel
theorem dX10_multiplyBlocks_133 : decode cX10_multiplyBlocks 133 = .ok (.iload 4, 2) := by decide +kernel
theorem dX10_multiplyBlocks_135 : decode cX10_multiplyBlocks 135 = .ok (.invokevirtual 662, 3) := by decide +kernel
theorem dX10_multiplyBlocks_138 : decode cX10_multiplyBlocks 138 = .ok (.aload_n 0, 1) := by decide +kernel
theorem dX10_multiplyBlocks_139 : decode cX10_multiplyBlocks 139 = .ok (.getfield 601, 3) := by decide +kernel
theorem dX10_multiplyBlocks_142 : decode cX10_multiplyBlocks 142 = .ok (.ifCond .le 4, 3) := by decide +kernel
theorem dX10_multiplyBlocks_145 : decode cX10_multiplyBlocks 145 = .ok (.return_, 1) := by decide +kernel
theorem dX10_multiplyBlocks_146 : decode cX10_multiplyBlocks 146 = .ok (.iload 8, 2) := by decide +kernel
theorem dX10_multiplyBlocks_148 : decode cX10_multiplyBlocks 148 = .ok (.iload 7, 2) := by decide +kernel
theorem dX10_multiplyBlocks_150 : decode cX10_multiplyBlocks 150 = .ok (.if_icmp .ne 18, 3) := by decide +kernel
theorem dX10_multiplyBlocks_153 : decode cX10_multiplyBlocks 153 = .ok (.aload_n 0, 1) := by decide +kernel
theorem dX10_multiplyBlocks_154 : decode cX10_multiplyBlocks 154 = .ok (.ldc_w 666, 3) := by decide +kernel
theorem dX10_multiplyBlocks_157 : decode cX10_multiplyBlocks 157 = .ok (.ldc_w 665, 3) := by decide +kernel
theorem dX10_multiplyBlocks_160 : decode cX10_multiplyBlocks 160 = .ok (.bipush 14, 2) := by decide +kernel
theorem dX10_multiplyBlocks_162 : decode cX10_multiplyBlocks 162 = .ok (.invokevirtual 658, 3) := by decide +kernel
theorem dX10_multiplyBlocks_165 : decode cX10_multiplyBlocks 165 = .ok (.goto 19, 3) := by decide +kernel
theorem dX10_multiplyBlocks_168 : decode cX10_multiplyBlocks 168 = .ok (.aload_n 0, 1) := by decide +kernel
theorem dX10_multiplyBlocks_169 : decode cX10_multiplyBlocks 169 = .ok (.ldc_w 666, 3) := by decide +kernel
theorem dX10_multiplyBlocks_172 : decode cX10_multiplyBlocks 172 = .ok (.ldc_w 666, 3) := by decide +kernel
theorem dX10_multiplyBlocks_175 : decode cX10_multiplyBlocks 175 = .ok (.ldc_w 665, 3) := by decide +kernel
theorem dX10_multiplyBlocks_178 : decode cX10_multiplyBlocks 178 = .ok (.iload 4, 2) := by decide +kernel
theorem dX10_multiplyBlocks_180 : decode cX10_multiplyBlocks 180 = .ok (.iconst 1, 1) := by decide +kernel
theorem dX10_multiplyBlocks_181 : decode cX10_multiplyBlocks 181 = .ok (.invokevirtual 667, 3) := by decide +kernel
theorem dX10_multiplyBlocks_184 : decode cX10_multiplyBlocks 184 = .ok (.iinc 8 1, 3) := by decide +kernel
theorem dX10_multiplyBlocks_187 : decode cX10_multiplyBlocks 187 = .ok (.goto (-94), 3) := by decide +kernel
theorem dX10_multiplyBlocks_190 : decode cX10_multiplyBlocks 190 = .ok (.aload_n 0, 1) := by decide +kernel
theorem dX10_multiplyBlocks_191 : decode cX10_multiplyBlocks 191 = .ok (.getfield 601, 3) := by decide +kernel
theorem dX10_multiplyBlocks_194 : decode cX10_multiplyBlocks 194 = .ok (.ifCond .le 4, 3) := by decide +kernel
theorem dX10_multiplyBlocks_197 : decode cX10_multiplyBlocks 197 = .ok (.return_, 1) := by decide +kernel
theorem dX10_multiplyBlocks_198 : decode cX10_multiplyBlocks 198 = .ok (.iload 6, 2) := by decide +kernel
theorem dX10_multiplyBlocks_200 : decode cX10_multiplyBlocks 200 = .ok (.bipush 7, 2) := by decide +kernel
theorem dX10_multiplyBlocks_202 : decode cX10_multiplyBlocks 202 = .ok (.if_icmp .ge 24, 3) := by decide +kernel
theorem dX10_multiplyBlocks_205 : decode cX10_multiplyBlocks 205 = .ok (.aload_n 0, 1) := by decide +kernel
theorem dX10_multiplyBlocks_206 : decode cX10_multiplyBlocks 206 = .ok (.ldc_w 661, 3) := by decide +kernel
theorem dX10_multiplyBlocks_209 : decode cX10_multiplyBlocks 209 = .ok (.bipush 14, 2) := by decide +kernel
theorem dX10_multiplyBlocks_211 : decode cX10_multiplyBlocks 211 = .ok (.iload 6, 2) := by decide +kernel
theorem dX10_multiplyBlocks_213 : decode cX10_multiplyBlocks 213 = .ok (.imul, 1) := by decide +kernel
theorem dX10_multiplyBlocks_214 : decode cX10_multiplyBlocks 214 = .ok (.iadd, 1) := by decide +kernel
theorem dX10_multiplyBlocks_215 : decode cX10_multiplyBlocks 215 = .ok (.ldc_w 666, 3) := by decide +kernel
theorem dX10_multiplyBlocks_218 : decode cX10_multiplyBlocks 218 = .ok (.bipush 14, 2) := by decide +kernel
theorem dX10_multiplyBlocks_220 : decode cX10_multiplyBlocks 220 = .ok (.invokevirtual 658, 3) := by decide +kernel
theorem dX10_multiplyBlocks_223 : decode cX10_multiplyBlocks 223 = .ok (.goto 20, 3) := by decide +kernel
theorem dX10_multiplyBlocks_226 : decode cX10_multiplyBlocks 226 = .ok (.aload_n 0, 1) := by decide +kernel
theorem dX10_multiplyBlocks_227 : decode cX10_multiplyBlocks 227 = .ok (.ldc_w 666, 3) := by decide +kernel
theorem dX10_multiplyBlocks_230 : decode cX10_multiplyBlocks 230 = .ok (.bipush 14, 2) := by decide +kernel
theorem dX10_multiplyBlocks_232 : decode cX10_multiplyBlocks 232 = .ok (.invokevirtual 671, 3) := by decide +kernel
theorem dX10_multiplyBlocks_235 : decode cX10_multiplyBlocks 235 = .ok (.ifCond .ne 8, 3) := by decide +kernel
theorem dX10_multiplyBlocks_238 : decode cX10_multiplyBlocks 238 = .ok (.aload_n 0, 1) := by decide +kernel
theorem dX10_multiplyBlocks_239 : decode cX10_multiplyBlocks 239 = .ok (.iconst 4, 1) := by decide +kernel
theorem dX10_multiplyBlocks_240 : decode cX10_multiplyBlocks 240 = .ok (.putfield 601, 3) := by decide +kernel
theorem dX10_multiplyBlocks_243 : decode cX10_multiplyBlocks 243 = .ok (.iinc 6 1, 3) := by decide +kernel
theorem dX10_multiplyBlocks_246 : decode cX10_multiplyBlocks 246 = .ok (.goto (-182), 3) := by decide +kernel
theorem dX10_multiplyBlocks_249 : decode cX10_multiplyBlocks 249 = .ok (.aload_n 0, 1) := by decide +kernel
theorem dX10_multiplyBlocks_250 : decode cX10_multiplyBlocks 250 = .ok (.getfield 601, 3) := by decide +kernel
theorem dX10_multiplyBlocks_253 : decode cX10_multiplyBlocks 253 = .ok (.ifCond .ne 13, 3) := by decide +kernel
theorem dX10_multiplyBlocks_256 : decode cX10_multiplyBlocks 256 = .ok (.aload_n 0, 1) := by decide +kernel
theorem dX10_multiplyBlocks_257 : decode cX10_multiplyBlocks 257 = .ok (.iload_n 1, 1) := by decide +kernel
theorem dX10_multiplyBlocks_258 : decode cX10_multiplyBlocks 258 = .ok (.ldc_w 661, 3) := by decide +kernel
theorem dX10_multiplyBlocks_261 : decode cX10_multiplyBlocks 261 = .ok (.bipush 98, 2) := by decide +kernel
theorem dX10_multiplyBlocks_263 : decode cX10_multiplyBlocks 263 = .ok (.invokevirtual 658, 3) := by decide +kernel
theorem dX10_multiplyBlocks_266 : decode cX10_multiplyBlocks 266 = .ok (.return_, 1) := by decide +kernel
/-! AlgebraHouseModel.multiplyBlocks(IIIII)V -/
def P_X10_multiplyBlocks_190 (Q : Int → MM → Prop) (K64 : Int → Int → Int → Int → Int → MM → Prop) (x1 : Int) (x2 : Int) (x3 : Int) (x4 : Int) (x6 : Int) (m : MM) : Prop := (RI (m 582 84)) ∧ (if (m 582 84) ≤ 0 then (RI x6) ∧ (if 7 ≤ x6 then P_X10_isZero 1590000 14 m (fun r1 m1 => (RI r1) ∧ (if r1 = 0 then ∀ m2 : MM, m2 = up m1 582 84 4 → K64 x1 x2 x3 x4 (x6 + 1) m2 else K64 x1 x2 x3 x4 (x6 + 1) m1)) else P_X10_copy (1590200 + (14 * x6)) 1590000 14 m (fun r2 m3 => K64 x1 x2 x3 x4 (x6 + 1) m3)) else Q 0 m)
def P_X10_multiplyBlocks_93 (Q : Int → MM → Prop) (K64 : Int → Int → Int → Int → Int → MM → Prop) : Nat → Int → Int → Int → Int → Int → Int → Int → MM → Prop
  | 0, _, _, _, _, _, _, _, _ => False
  | n + 1, x1, x2, x3, x4, x6, x7, x8, m => P_J4_min 6 x6 m (fun r1 m1 => (RI x8) ∧ (RI r1) ∧ (if r1 < x8 then P_X10_multiplyBlocks_190 Q K64 x1 x2 x3 x4 x6 m1 else (RI (m1 582 84)) ∧ (if (m1 582 84) = 0 then P_X10_multiplyRows 1590100 (x2 + (14 * x8)) (x3 + (14 * (x6 - x8))) x4 m1 (fun r2 m2 => (RI (m2 582 84)) ∧ (if (m2 582 84) ≤ 0 then (RI x7) ∧ (if x8 = x7 then P_X10_copy 1590000 1590100 14 m2 (fun r4 m4 => P_X10_multiplyBlocks_93 Q K64 n x1 x2 x3 x4 x6 x7 (x8 + 1) m4) else P_X10_addBlocks 1590000 1590000 1590100 x4 1 m2 (fun r3 m3 => P_X10_multiplyBlocks_93 Q K64 n x1 x2 x3 x4 x6 x7 (x8 + 1) m3)) else Q 0 m2)) else P_X10_multiplyBlocks_190 Q K64 x1 x2 x3 x4 x6 m1)))
def P_X10_multiplyBlocks_249 (Q : Int → MM → Prop) (x1 : Int) (m : MM) : Prop := (RI (m 582 84)) ∧ (if (m 582 84) = 0 then P_X10_copy x1 1590200 98 m (fun r1 m1 => Q 0 m1) else Q 0 m)
def P_X10_multiplyBlocks_64 (Q : Int → MM → Prop) : Nat → Int → Int → Int → Int → Int → MM → Prop
  | 0, _, _, _, _, _, _ => False
  | n + 1, x1, x2, x3, x4, x6, m => (RI x6) ∧ (if 13 ≤ x6 then P_X10_multiplyBlocks_249 Q x1 m else (RI (m 582 84)) ∧ (if (m 582 84) = 0 then P_J4_max 0 (x6 - 6) m (fun r1 m1 => ∃ nn, P_X10_multiplyBlocks_93 Q (fun z0 z1 z2 z3 z4 z5 => P_X10_multiplyBlocks_64 Q n z0 z1 z2 z3 z4 z5) nn x1 x2 x3 x4 x6 r1 r1 m1) else P_X10_multiplyBlocks_249 Q x1 m))
def P_X10_multiplyBlocks (x1 : Int) (x2 : Int) (x3 : Int) (x4 : Int) (x5 : Int) (m : MM) (Q : Int → MM → Prop) : Prop := (RI x5) ∧ (if x5 = 0 then P_X10_multiplyNumbers x4 x2 x3 m (fun r3 m3 => (RI (m3 582 84)) ∧ (if (m3 582 84) = 0 then P_X10_put x1 m3 (fun r4 m4 => Q 0 m4) else Q 0 m3)) else (if x5 = 1 then P_X10_multiplyRows 1590200 x2 x3 x4 m (fun r1 m1 => (RI (m1 582 84)) ∧ (if (m1 582 84) = 0 then P_X10_copy x1 1590200 14 m1 (fun r2 m2 => Q 0 m2) else Q 0 m1)) else ∃ nn, P_X10_multiplyBlocks_64 Q nn x1 x2 x3 x4 0 m))
theorem pl_X10_multiplyBlocks_190 {f : Nat} {Q : Int → MM → Prop} {T : MM → Prop} (hf : 5 ≤ f) {K64 : Int → Int → Int → Int → Int → MM → Prop} (hK64 : ∀ (x1 : Int) (x2 : Int) (x3 : Int) (x4 : Int) (x6 : Int) (m : MM), K64 x1 x2 x3 x4 x6 m → B f M_X10_multiplyBlocks 64 [vR 582, vI x1, vI x2, vI x3, vI x4, vU, vI x6, vU, vU] [] m Q T) : ∀ (x1 : Int) (x2 : Int) (x3 : Int) (x4 : Int) (x6 : Int) (m : MM), P_X10_multiplyBlocks_190 Q K64 x1 x2 x3 x4 x6 m → B f M_X10_multiplyBlocks 190 [vR 582, vI x1, vI x2, vI x3, vI x4, vU, vI x6, vU, vU] [] m Q T := by
  intro x1 x2 x3 x4 x6 m h
  have h : (RI (m 582 84)) ∧ (if (m 582 84) ≤ 0 then (RI x6) ∧ (if 7 ≤ x6 then P_X10_isZero 1590000 14 m (fun r1 m1 => (RI r1) ∧ (if r1 = 0 then ∀ m2 : MM, m2 = up m1 582 84 4 → K64 x1 x2 x3 x4 (x6 + 1) m2 else K64 x1 x2 x3 x4 (x6 + 1) m1)) else P_X10_copy (1590200 + (14 * x6)) 1590000 14 m (fun r2 m3 => K64 x1 x2 x3 x4 (x6 + 1) m3)) else Q 0 m) := h
  refine b_aload_n dX10_multiplyBlocks_190 rfl ?_
  refine b_getI dX10_multiplyBlocks_191 fk_X10_601 ly_582 ?_
  obtain ⟨g1, h⟩ := h
  refine b_if_le 198 dX10_multiplyBlocks_194 g1 (by decide) (fun c1 => ?_) (fun c1 => ?_)
  · have h := ifT c1 h
    refine b_iload dX10_multiplyBlocks_198 rfl ?_
    refine b_bipush dX10_multiplyBlocks_200 (by decide) ?_
    obtain ⟨g2, h⟩ := h
    refine b_icmp_ge 226 dX10_multiplyBlocks_202 g2 (by decide) (by decide) (fun c2 => ?_) (fun c2 => ?_)
    · have h := ifT c2 h
      refine b_aload_n dX10_multiplyBlocks_226 rfl ?_
      refine b_ldcw (1590000) dX10_multiplyBlocks_227 q2403 (by decide) ?_
      refine b_bipush dX10_multiplyBlocks_230 (by decide) ?_
      refine b_cVi (as := [vI 1590000, vI 14]) (st := []) dX10_multiplyBlocks_232 mf_X10_isZero qs179 lk_X10_671 ly_582 rfl (p_X10_isZero (f := 1) (Nat.le_refl _) _ _ _ h) (by omega) rfl rfl (Nat.le_of_ble_eq_true rfl) (by decide) rfl (fun _ => rfl) (fun r1 m1 h => ?_) (fun _ h => h)
      obtain ⟨g3, h⟩ := h
      refine b_if_ne 243 dX10_multiplyBlocks_235 g3 (by decide) (fun c3 => ?_) (fun c3 => ?_)
      · have h := ifF c3 h
        refine b_iinc (ls' := [vR 582, vI x1, vI x2, vI x3, vI x4, vU, vI (x6 + 1), vU, vU]) dX10_multiplyBlocks_243 rfl rfl ?_
        refine b_goto 64 dX10_multiplyBlocks_246 (by decide) ?_
        exact hK64 _ _ _ _ _ _ h
      · have h := ifT (Decidable.of_not_not c3) h
        refine b_aload_n dX10_multiplyBlocks_238 rfl ?_
        refine b_iconst dX10_multiplyBlocks_239 ?_
        refine b_putI dX10_multiplyBlocks_240 fk_X10_601 ly_582 (fun m2 em2 => ?_)
        have h := h m2 em2
        refine b_iinc (ls' := [vR 582, vI x1, vI x2, vI x3, vI x4, vU, vI (x6 + 1), vU, vU]) dX10_multiplyBlocks_243 rfl rfl ?_
        refine b_goto 64 dX10_multiplyBlocks_246 (by decide) ?_
        exact hK64 _ _ _ _ _ _ h
    · have h := ifF c2 h
      refine b_aload_n dX10_multiplyBlocks_205 rfl ?_
      refine b_ldcw (1590200) dX10_multiplyBlocks_206 q2390 (by decide) ?_
      refine b_bipush dX10_multiplyBlocks_209 (by decide) ?_
      refine b_iload dX10_multiplyBlocks_211 rfl ?_
      refine b_imul dX10_multiplyBlocks_213 ?_
      refine b_iadd dX10_multiplyBlocks_214 ?_
      refine b_ldcw (1590000) dX10_multiplyBlocks_215 q2403 (by decide) ?_
      refine b_bipush dX10_multiplyBlocks_218 (by decide) ?_
      refine b_cVv (as := [vI (1590200 + (14 * x6)), vI 1590000, vI 14]) (st := []) dX10_multiplyBlocks_220 mf_X10_copy qs164 lk_X10_658 ly_582 rfl (p_X10_copy (f := 1) (Nat.le_refl _) _ _ _ _ h) (by omega) rfl rfl (Nat.le_of_ble_eq_true rfl) (by decide) rfl (fun _ => rfl) (fun r2 m3 h => ?_) (fun _ h => h)
      refine b_goto 243 dX10_multiplyBlocks_223 (by decide) ?_
      refine b_iinc (ls' := [vR 582, vI x1, vI x2, vI x3, vI x4, vU, vI (x6 + 1), vU, vU]) dX10_multiplyBlocks_243 rfl rfl ?_
      refine b_goto 64 dX10_multiplyBlocks_246 (by decide) ?_
      exact hK64 _ _ _ _ _ _ h
  · have h := ifF c1 h
    exact b_vret dX10_multiplyBlocks_197 rfl h
theorem pl_X10_multiplyBlocks_93 {f : Nat} {Q : Int → MM → Prop} {T : MM → Prop} (hf : 5 ≤ f) {K64 : Int → Int → Int → Int → Int → MM → Prop} (hK64 : ∀ (x1 : Int) (x2 : Int) (x3 : Int) (x4 : Int) (x6 : Int) (m : MM), K64 x1 x2 x3 x4 x6 m → B f M_X10_multiplyBlocks 64 [vR 582, vI x1, vI x2, vI x3, vI x4, vU, vI x6, vU, vU] [] m Q T) : ∀ (n : Nat) (x1 : Int) (x2 : Int) (x3 : Int) (x4 : Int) (x6 : Int) (x7 : Int) (x8 : Int) (m : MM), P_X10_multiplyBlocks_93 Q K64 n x1 x2 x3 x4 x6 x7 x8 m → B f M_X10_multiplyBlocks 93 [vR 582, vI x1, vI x2, vI x3, vI x4, vU, vI x6, vI x7, vI x8] [] m Q T := by
  intro n
  induction n with
  | zero => intro x1 x2 x3 x4 x6 x7 x8 m h; exact h.elim
  | succ n ih =>
    intro x1 x2 x3 x4 x6 x7 x8 m h
    have h : P_J4_min 6 x6 m (fun r1 m1 => (RI x8) ∧ (RI r1) ∧ (if r1 < x8 then P_X10_multiplyBlocks_190 Q K64 x1 x2 x3 x4 x6 m1 else (RI (m1 582 84)) ∧ (if (m1 582 84) = 0 then P_X10_multiplyRows 1590100 (x2 + (14 * x8)) (x3 + (14 * (x6 - x8))) x4 m1 (fun r2 m2 => (RI (m2 582 84)) ∧ (if (m2 582 84) ≤ 0 then (RI x7) ∧ (if x8 = x7 then P_X10_copy 1590000 1590100 14 m2 (fun r4 m4 => P_X10_multiplyBlocks_93 Q K64 n x1 x2 x3 x4 x6 x7 (x8 + 1) m4) else P_X10_addBlocks 1590000 1590000 1590100 x4 1 m2 (fun r3 m3 => P_X10_multiplyBlocks_93 Q K64 n x1 x2 x3 x4 x6 x7 (x8 + 1) m3)) else Q 0 m2)) else P_X10_multiplyBlocks_190 Q K64 x1 x2 x3 x4 x6 m1))) := h
    refine b_iload dX10_multiplyBlocks_93 rfl ?_
    refine b_bipush dX10_multiplyBlocks_95 (by decide) ?_
    refine b_iload dX10_multiplyBlocks_97 rfl ?_
    refine b_cSi (as := [vI 6, vI x6]) (st := [vI x8]) dX10_multiplyBlocks_99 mf_J4_min lk_X10_650 (p_J4_min (f := 1) (Nat.le_refl _) _ _ _ h) (by omega) rfl rfl (Nat.le_of_ble_eq_true rfl) (by decide) rfl (fun _ => rfl) (fun r1 m1 h => ?_) (fun _ h => h)
    obtain ⟨g1, h⟩ := h
    obtain ⟨g2, h⟩ := h
    refine b_icmp_gt 190 dX10_multiplyBlocks_102 g1 g2 (by decide) (fun c1 => ?_) (fun c1 => ?_)
    · have h := ifT c1 h
      refine b_fgt [true, true, true, true, true, false, true, false, false] (ls' := [vR 582, vI x1, vI x2, vI x3, vI x4, vU, vI x6, vU, vU]) rfl rfl ?_
      exact pl_X10_multiplyBlocks_190 hf hK64 _ _ _ _ _ _ h
    · have h := ifF c1 h
      refine b_aload_n dX10_multiplyBlocks_105 rfl ?_
      refine b_getI dX10_multiplyBlocks_106 fk_X10_601 ly_582 ?_
      obtain ⟨g3, h⟩ := h
      refine b_if_ne 190 dX10_multiplyBlocks_109 g3 (by decide) (fun c2 => ?_) (fun c2 => ?_)
      · have h := ifF c2 h
        refine b_fgt [true, true, true, true, true, false, true, false, false] (ls' := [vR 582, vI x1, vI x2, vI x3, vI x4, vU, vI x6, vU, vU]) rfl rfl ?_
        exact pl_X10_multiplyBlocks_190 hf hK64 _ _ _ _ _ _ h
      · have h := ifT (Decidable.of_not_not c2) h
        refine b_aload_n dX10_multiplyBlocks_112 rfl ?_
        refine b_ldcw (1590100) dX10_multiplyBlocks_113 q2402 (by decide) ?_
        refine b_iload_n dX10_multiplyBlocks_116 rfl ?_
        refine b_bipush dX10_multiplyBlocks_117 (by decide) ?_
        refine b_iload dX10_multiplyBlocks_119 rfl ?_
        refine b_imul dX10_multiplyBlocks_121 ?_
        refine b_iadd dX10_multiplyBlocks_122 ?_
        refine b_iload_n dX10_multiplyBlocks_123 rfl ?_
        refine b_bipush dX10_multiplyBlocks_124 (by decide) ?_
        refine b_iload dX10_multiplyBlocks_126 rfl ?_
        refine b_iload dX10_multiplyBlocks_128 rfl ?_
        refine b_isub dX10_multiplyBlocks_130 ?_
        refine b_imul dX10_multiplyBlocks_131 ?_
        refine b_iadd dX10_multiplyBlocks_132 ?_
        refine b_iload dX10_multiplyBlocks_133 rfl ?_
        refine b_cVv (as := [vI 1590100, vI (x2 + (14 * x8)), vI (x3 + (14 * (x6 - x8))), vI x4]) (st := []) dX10_multiplyBlocks_135 mf_X10_multiplyRows qs176 lk_X10_662 ly_582 rfl (p_X10_multiplyRows (f := 4) (Nat.le_refl _) _ _ _ _ _ h) (by omega) rfl rfl (Nat.le_of_ble_eq_true rfl) (by decide) rfl (fun _ => rfl) (fun r2 m2 h => ?_) (fun _ h => h)
        refine b_aload_n dX10_multiplyBlocks_138 rfl ?_
        refine b_getI dX10_multiplyBlocks_139 fk_X10_601 ly_582 ?_
        obtain ⟨g4, h⟩ := h
        refine b_if_le 146 dX10_multiplyBlocks_142 g4 (by decide) (fun c3 => ?_) (fun c3 => ?_)
        · have h := ifT c3 h
          refine b_iload dX10_multiplyBlocks_146 rfl ?_
          refine b_iload dX10_multiplyBlocks_148 rfl ?_
          obtain ⟨g5, h⟩ := h
          refine b_icmp_ne 168 dX10_multiplyBlocks_150 g1 g5 (by decide) (fun c4 => ?_) (fun c4 => ?_)
          · have h := ifF c4 h
            refine b_aload_n dX10_multiplyBlocks_168 rfl ?_
            refine b_ldcw (1590000) dX10_multiplyBlocks_169 q2403 (by decide) ?_
            refine b_ldcw (1590000) dX10_multiplyBlocks_172 q2403 (by decide) ?_
            refine b_ldcw (1590100) dX10_multiplyBlocks_175 q2402 (by decide) ?_
            refine b_iload dX10_multiplyBlocks_178 rfl ?_
            refine b_iconst dX10_multiplyBlocks_180 ?_
            refine b_cVv (as := [vI 1590000, vI 1590000, vI 1590100, vI x4, vI 1]) (st := []) dX10_multiplyBlocks_181 mf_X10_addBlocks qs178 lk_X10_667 ly_582 rfl (p_X10_addBlocks (f := 4) (Nat.le_refl _) _ _ _ _ _ _ h) (by omega) rfl rfl (Nat.le_of_ble_eq_true rfl) (by decide) rfl (fun _ => rfl) (fun r3 m3 h => ?_) (fun _ h => h)
            refine b_iinc (ls' := [vR 582, vI x1, vI x2, vI x3, vI x4, vU, vI x6, vI x7, vI (x8 + 1)]) dX10_multiplyBlocks_184 rfl rfl ?_
            refine b_goto 93 dX10_multiplyBlocks_187 (by decide) ?_
            exact ih _ _ _ _ _ _ _ _ h
          · have h := ifT (Decidable.of_not_not c4) h
            refine b_aload_n dX10_multiplyBlocks_153 rfl ?_
            refine b_ldcw (1590000) dX10_multiplyBlocks_154 q2403 (by decide) ?_
            refine b_ldcw (1590100) dX10_multiplyBlocks_157 q2402 (by decide) ?_
            refine b_bipush dX10_multiplyBlocks_160 (by decide) ?_
            refine b_cVv (as := [vI 1590000, vI 1590100, vI 14]) (st := []) dX10_multiplyBlocks_162 mf_X10_copy qs164 lk_X10_658 ly_582 rfl (p_X10_copy (f := 1) (Nat.le_refl _) _ _ _ _ h) (by omega) rfl rfl (Nat.le_of_ble_eq_true rfl) (by decide) rfl (fun _ => rfl) (fun r4 m4 h => ?_) (fun _ h => h)
            refine b_goto 184 dX10_multiplyBlocks_165 (by decide) ?_
            refine b_iinc (ls' := [vR 582, vI x1, vI x2, vI x3, vI x4, vU, vI x6, vI x7, vI (x8 + 1)]) dX10_multiplyBlocks_184 rfl rfl ?_
            refine b_goto 93 dX10_multiplyBlocks_187 (by decide) ?_
            exact ih _ _ _ _ _ _ _ _ h
        · have h := ifF c3 h
          exact b_vret dX10_multiplyBlocks_145 rfl h
theorem pl_X10_multiplyBlocks_249 {f : Nat} {Q : Int → MM → Prop} {T : MM → Prop} (hf : 5 ≤ f) : ∀ (x1 : Int) (m : MM), P_X10_multiplyBlocks_249 Q x1 m → B f M_X10_multiplyBlocks 249 [vR 582, vI x1, vU, vU, vU, vU, vU, vU, vU] [] m Q T := by
  intro x1 m h
  have h : (RI (m 582 84)) ∧ (if (m 582 84) = 0 then P_X10_copy x1 1590200 98 m (fun r1 m1 => Q 0 m1) else Q 0 m) := h
  refine b_aload_n dX10_multiplyBlocks_249 rfl ?_
  refine b_getI dX10_multiplyBlocks_250 fk_X10_601 ly_582 ?_
  obtain ⟨g1, h⟩ := h
  refine b_if_ne 266 dX10_multiplyBlocks_253 g1 (by decide) (fun c1 => ?_) (fun c1 => ?_)
  · have h := ifF c1 h
    exact b_vret dX10_multiplyBlocks_266 rfl h
  · have h := ifT (Decidable.of_not_not c1) h
    refine b_aload_n dX10_multiplyBlocks_256 rfl ?_
    refine b_iload_n dX10_multiplyBlocks_257 rfl ?_
    refine b_ldcw (1590200) dX10_multiplyBlocks_258 q2390 (by decide) ?_
    refine b_bipush dX10_multiplyBlocks_261 (by decide) ?_
    refine b_cVv (as := [vI x1, vI 1590200, vI 98]) (st := []) dX10_multiplyBlocks_263 mf_X10_copy qs164 lk_X10_658 ly_582 rfl (p_X10_copy (f := 1) (Nat.le_refl _) _ _ _ _ h) (by omega) rfl rfl (Nat.le_of_ble_eq_true rfl) (by decide) rfl (fun _ => rfl) (fun r1 m1 h => ?_) (fun _ h => h)
    exact b_vret dX10_multiplyBlocks_266 rfl h
theorem pl_X10_multiplyBlocks_64 {f : Nat} {Q : Int → MM → Prop} {T : MM → Prop} (hf : 5 ≤ f) : ∀ (n : Nat) (x1 : Int) (x2 : Int) (x3 : Int) (x4 : Int) (x6 : Int) (m : MM), P_X10_multiplyBlocks_64 Q n x1 x2 x3 x4 x6 m → B f M_X10_multiplyBlocks 64 [vR 582, vI x1, vI x2, vI x3, vI x4, vU, vI x6, vU, vU] [] m Q T := by
  intro n
  induction n with
  | zero => intro x1 x2 x3 x4 x6 m h; exact h.elim
  | succ n ih =>
    intro x1 x2 x3 x4 x6 m h
    have h : (RI x6) ∧ (if 13 ≤ x6 then P_X10_multiplyBlocks_249 Q x1 m else (RI (m 582 84)) ∧ (if (m 582 84) = 0 then P_J4_max 0 (x6 - 6) m (fun r1 m1 => ∃ nn, P_X10_multiplyBlocks_93 Q (fun z0 z1 z2 z3 z4 z5 => P_X10_multiplyBlocks_64 Q n z0 z1 z2 z3 z4 z5) nn x1 x2 x3 x4 x6 r1 r1 m1) else P_X10_multiplyBlocks_249 Q x1 m)) := h
    refine b_iload dX10_multiplyBlocks_64 rfl ?_
    refine b_bipush dX10_multiplyBlocks_66 (by decide) ?_
    obtain ⟨g1, h⟩ := h
    refine b_icmp_ge 249 dX10_multiplyBlocks_68 g1 (by decide) (by decide) (fun c1 => ?_) (fun c1 => ?_)
    · have h := ifT c1 h
      refine b_fgt [true, true, false, false, false, false, false, false, false] (ls' := [vR 582, vI x1, vU, vU, vU, vU, vU, vU, vU]) rfl rfl ?_
      exact pl_X10_multiplyBlocks_249 hf _ _ h
    · have h := ifF c1 h
      refine b_aload_n dX10_multiplyBlocks_71 rfl ?_
      refine b_getI dX10_multiplyBlocks_72 fk_X10_601 ly_582 ?_
      obtain ⟨g2, h⟩ := h
      refine b_if_ne 249 dX10_multiplyBlocks_75 g2 (by decide) (fun c2 => ?_) (fun c2 => ?_)
      · have h := ifF c2 h
        refine b_fgt [true, true, false, false, false, false, false, false, false] (ls' := [vR 582, vI x1, vU, vU, vU, vU, vU, vU, vU]) rfl rfl ?_
        exact pl_X10_multiplyBlocks_249 hf _ _ h
      · have h := ifT (Decidable.of_not_not c2) h
        refine b_iconst dX10_multiplyBlocks_78 ?_
        refine b_iload dX10_multiplyBlocks_79 rfl ?_
        refine b_bipush dX10_multiplyBlocks_81 (by decide) ?_
        refine b_isub dX10_multiplyBlocks_83 ?_
        refine b_cSi (as := [vI 0, vI (x6 - 6)]) (st := []) dX10_multiplyBlocks_84 mf_J4_max lk_X10_445 (p_J4_max (f := 1) (Nat.le_refl _) _ _ _ h) (by omega) rfl rfl (Nat.le_of_ble_eq_true rfl) (by decide) rfl (fun _ => rfl) (fun r1 m1 h => ?_) (fun _ h => h)
        refine b_istore (ls' := [vR 582, vI x1, vI x2, vI x3, vI x4, vU, vI x6, vI r1, vU]) dX10_multiplyBlocks_87 (Nat.le_of_ble_eq_true rfl) rfl ?_
        refine b_iload dX10_multiplyBlocks_89 rfl ?_
        refine b_istore (ls' := [vR 582, vI x1, vI x2, vI x3, vI x4, vU, vI x6, vI r1, vI r1]) dX10_multiplyBlocks_91 (Nat.le_of_ble_eq_true rfl) rfl ?_
        obtain ⟨nn, h⟩ := h
        exact pl_X10_multiplyBlocks_93 hf (fun _ _ _ _ _ _ h => ih _ _ _ _ _ _ h) nn _ _ _ _ _ _ _ _ h
theorem p_X10_multiplyBlocks {f : Nat} {Q : Int → MM → Prop} {T : MM → Prop} (hf : 5 ≤ f) (x1 : Int) (x2 : Int) (x3 : Int) (x4 : Int) (x5 : Int) (m : MM) (h : P_X10_multiplyBlocks x1 x2 x3 x4 x5 m Q) : CC f M_X10_multiplyBlocks [vR 582, vI x1, vI x2, vI x3, vI x4, vI x5] m Q T := by
  refine CC.of (plainFor_of_name (by decide)) (Nat.le_of_ble_eq_true rfl) (ls := [vR 582, vI x1, vI x2, vI x3, vI x4, vI x5, vU, vU, vU]) rfl ?_
  have h : (RI x5) ∧ (if x5 = 0 then P_X10_multiplyNumbers x4 x2 x3 m (fun r3 m3 => (RI (m3 582 84)) ∧ (if (m3 582 84) = 0 then P_X10_put x1 m3 (fun r4 m4 => Q 0 m4) else Q 0 m3)) else (if x5 = 1 then P_X10_multiplyRows 1590200 x2 x3 x4 m (fun r1 m1 => (RI (m1 582 84)) ∧ (if (m1 582 84) = 0 then P_X10_copy x1 1590200 14 m1 (fun r2 m2 => Q 0 m2) else Q 0 m1)) else ∃ nn, P_X10_multiplyBlocks_64 Q nn x1 x2 x3 x4 0 m)) := h
  refine b_iload dX10_multiplyBlocks_0 rfl ?_
  obtain ⟨g1, h⟩ := h
  refine b_if_ne 26 dX10_multiplyBlocks_2 g1 (by decide) (fun c1 => ?_) (fun c1 => ?_)
  · have h := ifF c1 h
    refine b_iload dX10_multiplyBlocks_26 rfl ?_
    refine b_iconst dX10_multiplyBlocks_28 ?_
    refine b_icmp_ne 61 dX10_multiplyBlocks_29 g1 (by decide) (by decide) (fun c2 => ?_) (fun c2 => ?_)
    · have h := ifF c2 h
      refine b_iconst dX10_multiplyBlocks_61 ?_
      refine b_istore (ls' := [vR 582, vI x1, vI x2, vI x3, vI x4, vI x5, vI 0, vU, vU]) dX10_multiplyBlocks_62 (Nat.le_of_ble_eq_true rfl) rfl ?_
      refine b_fgt [true, true, true, true, true, false, true, false, false] (ls' := [vR 582, vI x1, vI x2, vI x3, vI x4, vU, vI 0, vU, vU]) rfl rfl ?_
      obtain ⟨nn, h⟩ := h
      exact pl_X10_multiplyBlocks_64 hf nn _ _ _ _ _ _ h
    · have h := ifT (Decidable.of_not_not c2) h
      refine b_aload_n dX10_multiplyBlocks_32 rfl ?_
      refine b_ldcw (1590200) dX10_multiplyBlocks_33 q2390 (by decide) ?_
      refine b_iload_n dX10_multiplyBlocks_36 rfl ?_
      refine b_iload_n dX10_multiplyBlocks_37 rfl ?_
      refine b_iload dX10_multiplyBlocks_38 rfl ?_
      refine b_cVv (as := [vI 1590200, vI x2, vI x3, vI x4]) (st := []) dX10_multiplyBlocks_40 mf_X10_multiplyRows qs176 lk_X10_662 ly_582 rfl (p_X10_multiplyRows (f := 4) (Nat.le_refl _) _ _ _ _ _ h) (by omega) rfl rfl (Nat.le_of_ble_eq_true rfl) (by decide) rfl (fun _ => rfl) (fun r1 m1 h => ?_) (fun _ h => h)
      refine b_aload_n dX10_multiplyBlocks_43 rfl ?_
      refine b_getI dX10_multiplyBlocks_44 fk_X10_601 ly_582 ?_
      obtain ⟨g2, h⟩ := h
      refine b_if_ne 60 dX10_multiplyBlocks_47 g2 (by decide) (fun c3 => ?_) (fun c3 => ?_)
      · have h := ifF c3 h
        exact b_vret dX10_multiplyBlocks_60 rfl h
      · have h := ifT (Decidable.of_not_not c3) h
        refine b_aload_n dX10_multiplyBlocks_50 rfl ?_
        refine b_iload_n dX10_multiplyBlocks_51 rfl ?_
        refine b_ldcw (1590200) dX10_multiplyBlocks_52 q2390 (by decide) ?_
        refine b_bipush dX10_multiplyBlocks_55 (by decide) ?_
        refine b_cVv (as := [vI x1, vI 1590200, vI 14]) (st := []) dX10_multiplyBlocks_57 mf_X10_copy qs164 lk_X10_658 ly_582 rfl (p_X10_copy (f := 1) (Nat.le_refl _) _ _ _ _ h) (by omega) rfl rfl (Nat.le_of_ble_eq_true rfl) (by decide) rfl (fun _ => rfl) (fun r2 m2 h => ?_) (fun _ h => h)
        exact b_vret dX10_multiplyBlocks_60 rfl h
  · have h := ifT (Decidable.of_not_not c1) h
    refine b_aload_n dX10_multiplyBlocks_5 rfl ?_
    refine b_iload dX10_multiplyBlocks_6 rfl ?_
    refine b_iload_n dX10_multiplyBlocks_8 rfl ?_
    refine b_iload_n dX10_multiplyBlocks_9 rfl ?_
    refine b_cVv (as := [vI x4, vI x2, vI x3]) (st := []) dX10_multiplyBlocks_10 mf_X10_multiplyNumbers qs172 lk_X10_653 ly_582 rfl (p_X10_multiplyNumbers (f := 3) (Nat.le_refl _) _ _ _ _ h) (by omega) rfl rfl (Nat.le_of_ble_eq_true rfl) (by decide) rfl (fun _ => rfl) (fun r3 m3 h => ?_) (fun _ h => h)
    refine b_aload_n dX10_multiplyBlocks_13 rfl ?_
    refine b_getI dX10_multiplyBlocks_14 fk_X10_601 ly_582 ?_
    obtain ⟨g3, h⟩ := h
    refine b_if_ne 25 dX10_multiplyBlocks_17 g3 (by decide) (fun c4 => ?_) (fun c4 => ?_)
    · have h := ifF c4 h
      exact b_vret dX10_multiplyBlocks_25 rfl h
    · have h := ifT (Decidable.of_not_not c4) h
      refine b_aload_n dX10_multiplyBlocks_20 rfl ?_
      refine b_iload_n dX10_multiplyBlocks_21 rfl ?_
      refine b_cVv (as := [vI x1]) (st := []) dX10_multiplyBlocks_22 mf_X10_put qs175 lk_X10_644 ly_582 rfl (p_X10_put (f := 1) (Nat.le_refl _) _ _ h) (by omega) rfl rfl (Nat.le_of_ble_eq_true rfl) (by decide) rfl (fun _ => rfl) (fun r4 m4 h => ?_) (fun _ h => h)
      exact b_vret dX10_multiplyBlocks_25 rfl h
theorem dX10_smallDet_0 : decode cX10_smallDet 0 = .ok (.aload_n 0, 1) := by decide +kernel
theorem dX10_smallDet_1 : decode cX10_smallDet 1 = .ok (.iload_n 1, 1) := by decide +kernel
theorem dX10_smallDet_2 : decode cX10_smallDet 2 = .ok (.bipush 98, 2) := by decide +kernel
theorem dX10_smallDet_4 : decode cX10_smallDet 4 = .ok (.invokevirtual 685, 3) := by decide +kernel
theorem dX10_smallDet_7 : decode cX10_smallDet 7 = .ok (.aload_n 0, 1) := by decide +kernel
theorem dX10_smallDet_8 : decode cX10_smallDet 8 = .ok (.ldc_w 692, 3) := by decide +kernel
theorem dX10_smallDet_11 : decode cX10_smallDet 11 = .ok (.iload_n 2, 1) := by decide +kernel
theorem dX10_smallDet_12 : decode cX10_smallDet 12 = .ok (.iload 5, 2) := by decide +kernel
theorem dX10_smallDet_14 : decode cX10_smallDet 14 = .ok (.iload 6, 2) := by decide +kernel
theorem dX10_smallDet_16 : decode cX10_smallDet 16 = .ok (.iload 7, 2) := by decide +kernel
theorem dX10_smallDet_18 : decode cX10_smallDet 18 = .ok (.invokevirtual 689, 3) := by decide +kernel
theorem dX10_smallDet_21 : decode cX10_smallDet 21 = .ok (.aload_n 0, 1) := by decide +kernel
theorem dX10_smallDet_22 : decode cX10_smallDet 22 = .ok (.getfield 601, 3) := by decide +kernel
theorem dX10_smallDet_25 : decode cX10_smallDet 25 = .ok (.ifCond .ne 16, 3) := by decide +kernel
theorem dX10_smallDet_28 : decode cX10_smallDet 28 = .ok (.aload_n 0, 1) := by decide +kernel
theorem dX10_smallDet_29 : decode cX10_smallDet 29 = .ok (.iload_n 1, 1) := by decide +kernel
theorem dX10_smallDet_30 : decode cX10_smallDet 30 = .ok (.ldc_w 692, 3) := by decide +kernel
theorem dX10_smallDet_33 : decode cX10_smallDet 33 = .ok (.iload 6, 2) := by decide +kernel
theorem dX10_smallDet_35 : decode cX10_smallDet 35 = .ok (.iload 7, 2) := by decide +kernel
theorem dX10_smallDet_37 : decode cX10_smallDet 37 = .ok (.iconst 0, 1) := by decide +kernel
theorem dX10_smallDet_38 : decode cX10_smallDet 38 = .ok (.invokevirtual 693, 3) := by decide +kernel
theorem dX10_smallDet_41 : decode cX10_smallDet 41 = .ok (.aload_n 0, 1) := by decide +kernel
theorem dX10_smallDet_42 : decode cX10_smallDet 42 = .ok (.getfield 601, 3) := by decide +kernel
theorem dX10_smallDet_45 : decode cX10_smallDet 45 = .ok (.ifCond .ne 17, 3) := by decide +kernel
theorem dX10_smallDet_48 : decode cX10_smallDet 48 = .ok (.aload_n 0, 1) := by decide +kernel
theorem dX10_smallDet_49 : decode cX10_smallDet 49 = .ok (.ldc_w 692, 3) := by decide +kernel
theorem dX10_smallDet_52 : decode cX10_smallDet 52 = .ok (.iload_n 3, 1) := by decide +kernel
theorem dX10_smallDet_53 : decode cX10_smallDet 53 = .ok (.iload 4, 2) := by decide +kernel
theorem dX10_smallDet_55 : decode cX10_smallDet 55 = .ok (.iload 6, 2) := by decide +kernel
theorem dX10_smallDet_57 : decode cX10_smallDet 57 = .ok (.iload 7, 2) := by decide +kernel
theorem dX10_smallDet_59 : decode cX10_smallDet 59 = .ok (.invokevirtual 689, 3) := by decide +kernel
theorem dX10_smallDet_62 : decode cX10_smallDet 62 = .ok (.aload_n 0, 1) := by decide +kernel
theorem dX10_smallDet_63 : decode cX10_smallDet 63 = .ok (.getfield 601, 3) := by decide +kernel
theorem dX10_smallDet_66 : decode cX10_smallDet 66 = .ok (.ifCond .ne 16, 3) := by decide +kernel
theorem dX10_smallDet_69 : decode cX10_smallDet 69 = .ok (.aload_n 0, 1) := by decide +kernel
theorem dX10_smallDet_70 : decode cX10_smallDet 70 = .ok (.iload_n 1, 1) := by decide +kernel
theorem dX10_smallDet_71 : decode cX10_smallDet 71 = .ok (.ldc_w 692, 3) := by decide +kernel
theorem dX10_smallDet_74 : decode cX10_smallDet 74 = .ok (.iload 6, 2) := by decide +kernel
theorem dX10_smallDet_76 : decode cX10_smallDet 76 = .ok (.iload 7, 2) := by decide +kernel
theorem dX10_smallDet_78 : decode cX10_smallDet 78 = .ok (.iconst 1, 1) := by decide +kernel
theorem dX10_smallDet_79 : decode cX10_smallDet 79 = .ok (.invokevirtual 693, 3) := by decide +kernel
theorem dX10_smallDet_82 : decode cX10_smallDet 82 = .ok (.return_, 1) := by decide +kernel
/-! AlgebraHouseModel.smallDet(IIIIIII)V -/
def P_X10_smallDet_62 (Q : Int → MM → Prop) (x1 : Int) (x6 : Int) (x7 : Int) (m : MM) : Prop := (RI (m 582 84)) ∧ (if (m 582 84) = 0 then P_X10_lessOrMore x1 1590400 x6 x7 1 m (fun r1 m1 => Q 0 m1) else Q 0 m)
def P_X10_smallDet_41 (Q : Int → MM → Prop) (x1 : Int) (x3 : Int) (x4 : Int) (x6 : Int) (x7 : Int) (m : MM) : Prop := (RI (m 582 84)) ∧ (if (m 582 84) = 0 then P_X10_multiplyBlocks 1590400 x3 x4 x6 x7 m (fun r1 m1 => P_X10_smallDet_62 Q x1 x6 x7 m1) else P_X10_smallDet_62 Q x1 x6 x7 m)
def P_X10_smallDet (x1 : Int) (x2 : Int) (x3 : Int) (x4 : Int) (x5 : Int) (x6 : Int) (x7 : Int) (m : MM) (Q : Int → MM → Prop) : Prop := P_X10_clear x1 98 m (fun r1 m1 => P_X10_multiplyBlocks 1590400 x2 x5 x6 x7 m1 (fun r2 m2 => (RI (m2 582 84)) ∧ (if (m2 582 84) = 0 then P_X10_lessOrMore x1 1590400 x6 x7 0 m2 (fun r3 m3 => P_X10_smallDet_41 Q x1 x3 x4 x6 x7 m3) else P_X10_smallDet_41 Q x1 x3 x4 x6 x7 m2)))
theorem pl_X10_smallDet_62 {f : Nat} {Q : Int → MM → Prop} {T : MM → Prop} (hf : 6 ≤ f) : ∀ (x1 : Int) (x6 : Int) (x7 : Int) (m : MM), P_X10_smallDet_62 Q x1 x6 x7 m → B f M_X10_smallDet 62 [vR 582, vI x1, vU, vU, vU, vU, vI x6, vI x7] [] m Q T := by
  intro x1 x6 x7 m h
  have h : (RI (m 582 84)) ∧ (if (m 582 84) = 0 then P_X10_lessOrMore x1 1590400 x6 x7 1 m (fun r1 m1 => Q 0 m1) else Q 0 m) := h
  refine b_aload_n dX10_smallDet_62 rfl ?_
  refine b_getI dX10_smallDet_63 fk_X10_601 ly_582 ?_
  obtain ⟨g1, h⟩ := h
  refine b_if_ne 82 dX10_smallDet_66 g1 (by decide) (fun c1 => ?_) (fun c1 => ?_)
  · have h := ifF c1 h
    exact b_vret dX10_smallDet_82 rfl h
  · have h := ifT (Decidable.of_not_not c1) h
    refine b_aload_n dX10_smallDet_69 rfl ?_
    refine b_iload_n dX10_smallDet_70 rfl ?_
    refine b_ldcw (1590400) dX10_smallDet_71 q2522 (by decide) ?_
    refine b_iload dX10_smallDet_74 rfl ?_
    refine b_iload dX10_smallDet_76 rfl ?_
    refine b_iconst dX10_smallDet_78 ?_
    refine b_cVv (as := [vI x1, vI 1590400, vI x6, vI x7, vI 1]) (st := []) dX10_smallDet_79 mf_X10_lessOrMore qs205 lk_X10_693 ly_582 rfl (p_X10_lessOrMore (f := 5) (Nat.le_refl _) _ _ _ _ _ _ h) (by omega) rfl rfl (Nat.le_of_ble_eq_true rfl) (by decide) rfl (fun _ => rfl) (fun r1 m1 h => ?_) (fun _ h => h)
    exact b_vret dX10_smallDet_82 rfl h
theorem pl_X10_smallDet_41 {f : Nat} {Q : Int → MM → Prop} {T : MM → Prop} (hf : 6 ≤ f) : ∀ (x1 : Int) (x3 : Int) (x4 : Int) (x6 : Int) (x7 : Int) (m : MM), P_X10_smallDet_41 Q x1 x3 x4 x6 x7 m → B f M_X10_smallDet 41 [vR 582, vI x1, vU, vI x3, vI x4, vU, vI x6, vI x7] [] m Q T := by
  intro x1 x3 x4 x6 x7 m h
  have h : (RI (m 582 84)) ∧ (if (m 582 84) = 0 then P_X10_multiplyBlocks 1590400 x3 x4 x6 x7 m (fun r1 m1 => P_X10_smallDet_62 Q x1 x6 x7 m1) else P_X10_smallDet_62 Q x1 x6 x7 m) := h
  refine b_aload_n dX10_smallDet_41 rfl ?_
  refine b_getI dX10_smallDet_42 fk_X10_601 ly_582 ?_
  obtain ⟨g1, h⟩ := h
  refine b_if_ne 62 dX10_smallDet_45 g1 (by decide) (fun c1 => ?_) (fun c1 => ?_)
  · have h := ifF c1 h
    refine b_fgt [true, true, false, false, false, false, true, true] (ls' := [vR 582, vI x1, vU, vU, vU, vU, vI x6, vI x7]) rfl rfl ?_
    exact pl_X10_smallDet_62 hf _ _ _ _ h
  · have h := ifT (Decidable.of_not_not c1) h
    refine b_aload_n dX10_smallDet_48 rfl ?_
    refine b_ldcw (1590400) dX10_smallDet_49 q2522 (by decide) ?_
    refine b_iload_n dX10_smallDet_52 rfl ?_
    refine b_iload dX10_smallDet_53 rfl ?_
    refine b_iload dX10_smallDet_55 rfl ?_
    refine b_iload dX10_smallDet_57 rfl ?_
    refine b_cVv (as := [vI 1590400, vI x3, vI x4, vI x6, vI x7]) (st := []) dX10_smallDet_59 mf_X10_multiplyBlocks qs171 lk_X10_689 ly_582 rfl (p_X10_multiplyBlocks (f := 5) (Nat.le_refl _) _ _ _ _ _ _ h) (by omega) rfl rfl (Nat.le_of_ble_eq_true rfl) (by decide) rfl (fun _ => rfl) (fun r1 m1 h => ?_) (fun _ h => h)
    refine b_fgt [true, true, false, false, false, false, true, true] (ls' := [vR 582, vI x1, vU, vU, vU, vU, vI x6, vI x7]) rfl rfl ?_
    exact pl_X10_smallDet_62 hf _ _ _ _ h
theorem p_X10_smallDet {f : Nat} {Q : Int → MM → Prop} {T : MM → Prop} (hf : 6 ≤ f) (x1 : Int) (x2 : Int) (x3 : Int) (x4 : Int) (x5 : Int) (x6 : Int) (x7 : Int) (m : MM) (h : P_X10_smallDet x1 x2 x3 x4 x5 x6 x7 m Q) : CC f M_X10_smallDet [vR 582, vI x1, vI x2, vI x3, vI x4, vI x5, vI x6, vI x7] m Q T := by
  refine CC.of (plainFor_of_name (by decide)) (Nat.le_of_ble_eq_true rfl) (ls := [vR 582, vI x1, vI x2, vI x3, vI x4, vI x5, vI x6, vI x7]) rfl ?_
  have h : P_X10_clear x1 98 m (fun r1 m1 => P_X10_multiplyBlocks 1590400 x2 x5 x6 x7 m1 (fun r2 m2 => (RI (m2 582 84)) ∧ (if (m2 582 84) = 0 then P_X10_lessOrMore x1 1590400 x6 x7 0 m2 (fun r3 m3 => P_X10_smallDet_41 Q x1 x3 x4 x6 x7 m3) else P_X10_smallDet_41 Q x1 x3 x4 x6 x7 m2))) := h
  refine b_aload_n dX10_smallDet_0 rfl ?_
  refine b_iload_n dX10_smallDet_1 rfl ?_
  refine b_bipush dX10_smallDet_2 (by decide) ?_
  refine b_cVv (as := [vI x1, vI 98]) (st := []) dX10_smallDet_4 mf_X10_clear qs162 lk_X10_685 ly_582 rfl (p_X10_clear (f := 2) (Nat.le_refl _) _ _ _ h) (by omega) rfl rfl (Nat.le_of_ble_eq_true rfl) (by decide) rfl (fun _ => rfl) (fun r1 m1 h => ?_) (fun _ h => h)
  refine b_aload_n dX10_smallDet_7 rfl ?_
  refine b_ldcw (1590400) dX10_smallDet_8 q2522 (by decide) ?_
  refine b_iload_n dX10_smallDet_11 rfl ?_
  refine b_iload dX10_smallDet_12 rfl ?_
  refine b_iload dX10_smallDet_14 rfl ?_
  refine b_iload dX10_smallDet_16 rfl ?_
  refine b_cVv (as := [vI 1590400, vI x2, vI x5, vI x6, vI x7]) (st := []) dX10_smallDet_18 mf_X10_multiplyBlocks qs171 lk_X10_689 ly_582 rfl (p_X10_multiplyBlocks (f := 5) (Nat.le_refl _) _ _ _ _ _ _ h) (by omega) rfl rfl (Nat.le_of_ble_eq_true rfl) (by decide) rfl (fun _ => rfl) (fun r2 m2 h => ?_) (fun _ h => h)
  refine b_aload_n dX10_smallDet_21 rfl ?_
  refine b_getI dX10_smallDet_22 fk_X10_601 ly_582 ?_
  obtain ⟨g1, h⟩ := h
  refine b_if_ne 41 dX10_smallDet_25 g1 (by decide) (fun c1 => ?_) (fun c1 => ?_)
  · have h := ifF c1 h
    refine b_fgt [true, true, false, true, true, false, true, true] (ls' := [vR 582, vI x1, vU, vI x3, vI x4, vU, vI x6, vI x7]) rfl rfl ?_
    exact pl_X10_smallDet_41 hf _ _ _ _ _ _ h
  · have h := ifT (Decidable.of_not_not c1) h
    refine b_aload_n dX10_smallDet_28 rfl ?_
    refine b_iload_n dX10_smallDet_29 rfl ?_
    refine b_ldcw (1590400) dX10_smallDet_30 q2522 (by decide) ?_
    refine b_iload dX10_smallDet_33 rfl ?_
    refine b_iload dX10_smallDet_35 rfl ?_
    refine b_iconst dX10_smallDet_37 ?_
    refine b_cVv (as := [vI x1, vI 1590400, vI x6, vI x7, vI 0]) (st := []) dX10_smallDet_38 mf_X10_lessOrMore qs205 lk_X10_693 ly_582 rfl (p_X10_lessOrMore (f := 5) (Nat.le_refl _) _ _ _ _ _ _ h) (by omega) rfl rfl (Nat.le_of_ble_eq_true rfl) (by decide) rfl (fun _ => rfl) (fun r3 m3 h => ?_) (fun _ h => h)
    refine b_fgt [true, true, false, true, true, false, true, true] (ls' := [vR 582, vI x1, vU, vI x3, vI x4, vU, vI x6, vI x7]) rfl rfl ?_
    exact pl_X10_smallDet_41 hf _ _ _ _ _ _ h
theorem dX10_adjoin_0 : decode cX10_adjoin 0 = .ok (.aload_n 0, 1) := by decide +kernel
theorem dX10_adjoin_1 : decode cX10_adjoin 1 = .ok (.ldc_w 703, 3) := by decide +kernel
theorem dX10_adjoin_4 : decode cX10_adjoin 4 = .ok (.sipush 882, 3) := by decide +kernel
theorem dX10_adjoin_7 : decode cX10_adjoin 7 = .ok (.invokevirtual 685, 3) := by decide +kernel
theorem dX10_adjoin_10 : decode cX10_adjoin 10 = .ok (.iload 5, 2) := by decide +kernel
theorem dX10_adjoin_12 : decode cX10_adjoin 12 = .ok (.iconst 1, 1) := by decide +kernel
theorem dX10_adjoin_13 : decode cX10_adjoin 13 = .ok (.if_icmp .ne 11, 3) := by decide +kernel
theorem dX10_adjoin_16 : decode cX10_adjoin 16 = .ok (.aload_n 0, 1) := by decide +kernel
theorem dX10_adjoin_17 : decode cX10_adjoin 17 = .ok (.ldc_w 703, 3) := by decide +kernel
theorem dX10_adjoin_20 : decode cX10_adjoin 20 = .ok (.lconst 1, 1) := by decide +kernel
theorem dX10_adjoin_21 : decode cX10_adjoin 21 = .ok (.invokevirtual 633, 3) := by decide +kernel
theorem dX10_adjoin_24 : decode cX10_adjoin 24 = .ok (.iconst 0, 1) := by decide +kernel
theorem dX10_adjoin_25 : decode cX10_adjoin 25 = .ok (.istore 6, 2) := by decide +kernel
theorem dX10_adjoin_27 : decode cX10_adjoin 27 = .ok (.iload 6, 2) := by decide +kernel
theorem dX10_adjoin_29 : decode cX10_adjoin 29 = .ok (.iload 5, 2) := by decide +kernel
theorem dX10_adjoin_31 : decode cX10_adjoin 31 = .ok (.if_icmp .ge 211, 3) := by decide +kernel
theorem dX10_adjoin_34 : decode cX10_adjoin 34 = .ok (.iload 5, 2) := by decide +kernel
theorem dX10_adjoin_36 : decode cX10_adjoin 36 = .ok (.iconst 1, 1) := by decide +kernel
theorem dX10_adjoin_37 : decode cX10_adjoin 37 = .ok (.if_icmp .le 205, 3) := by decide +kernel
theorem dX10_adjoin_40 : decode cX10_adjoin 40 = .ok (.iconst 0, 1) := by decide +kernel
theorem dX10_adjoin_41 : decode cX10_adjoin 41 = .ok (.istore 7, 2) := by decide +kernel
theorem dX10_adjoin_43 : decode cX10_adjoin 43 = .ok (.iload 7, 2) := by decide +kernel
theorem dX10_adjoin_45 : decode cX10_adjoin 45 = .ok (.iload 5, 2) := by decide +kernel
theorem dX10_adjoin_47 : decode cX10_adjoin 47 = .ok (.if_icmp .ge 189, 3) := by decide +kernel
theorem dX10_adjoin_50 : decode cX10_adjoin 50 = .ok (.aload_n 0, 1) := by decide +kernel
theorem dX10_adjoin_51 : decode cX10_adjoin 51 = .ok (.getfield 601, 3) := by decide +kernel
theorem dX10_adjoin_54 : decode cX10_adjoin 54 = .ok (.ifCond .ne 182, 3) := by decide +kernel
theorem dX10_adjoin_57 : decode cX10_adjoin 57 = .ok (.ldc_w 703, 3) := by decide +kernel
theorem dX10_adjoin_60 : decode cX10_adjoin 60 = .ok (.iload 6, 2) := by decide +kernel
theorem dX10_adjoin_62 : decode cX10_adjoin 62 = .ok (.iload 7, 2) := by decide +kernel
theorem dX10_adjoin_64 : decode cX10_adjoin 64 = .ok (.invokestatic 677, 3) := by decide +kernel
theorem dX10_adjoin_67 : decode cX10_adjoin 67 = .ok (.istore 8, 2) := by decide +kernel
theorem dX10_adjoin_69 : decode cX10_adjoin 69 = .ok (.iload 5, 2) := by decide +kernel
theorem dX10_adjoin_71 : decode cX10_adjoin 71 = .ok (.iconst 2, 1) := by decide +kernel
theorem dX10_adjoin_72 : decode cX10_adjoin 72 = .ok (.if_icmp .ne 26, 3) := by decide +kernel
theorem dX10_adjoin_75 : decode cX10_adjoin 75 = .ok (.aload_n 0, 1) := by decide +kernel
theorem dX10_adjoin_76 : decode cX10_adjoin 76 = .ok (.iload 8, 2) := by decide +kernel
theorem dX10_adjoin_78 : decode cX10_adjoin 78 = .ok (.iload_n 2, 1) := by decide +kernel
theorem dX10_adjoin_79 : decode cX10_adjoin 79 = .ok (.iconst 1, 1) := by decide +kernel
theorem dX10_adjoin_80 : decode cX10_adjoin 80 = .ok (.iload 7, 2) := by decide +kernel
theorem dX10_adjoin_82 : decode cX10_adjoin 82 = .ok (.isub, 1) := by decide +kernel
theorem dX10_adjoin_83 : decode cX10_adjoin 83 = .ok (.iconst 1, 1) := by decide +kernel
theorem dX10_adjoin_84 : decode cX10_adjoin 84 = .ok (.iload 6, 2) := by decide +kernel
theorem dX10_adjoin_86 : decode cX10_adjoin 86 = .ok (.isub, 1) := by decide +kernel
theorem dX10_adjoin_87 : decode cX10_adjoin 87 = .ok (.invokestatic 677, 3) := by decide +kernel
theorem dX10_adjoin_90 : decode cX10_adjoin 90 = .ok (.bipush 98, 2) := by decide +kernel
theorem dX10_adjoin_92 : decode cX10_adjoin 92 = .ok (.invokevirtual 658, 3) := by decide +kernel
theorem dX10_adjoin_95 : decode cX10_adjoin 95 = .ok (.goto 94, 3) := by decide +kernel
theorem dX10_adjoin_98 : decode cX10_adjoin 98 = .ok (.iload 7, 2) := by decide +kernel
theorem dX10_adjoin_100 : decode cX10_adjoin 100 = .ok (.ifCond .ne 7, 3) := by decide +kernel
theorem dX10_adjoin_103 : decode cX10_adjoin 103 = .ok (.iconst 1, 1) := by decide +kernel
theorem dX10_adjoin_104 : decode cX10_adjoin 104 = .ok (.goto 4, 3) := by decide +kernel
theorem dX10_adjoin_107 : decode cX10_adjoin 107 = .ok (.iconst 0, 1) := by decide +kernel
theorem dX10_adjoin_108 : decode cX10_adjoin 108 = .ok (.istore 9, 2) := by decide +kernel
theorem dX10_adjoin_110 : decode cX10_adjoin 110 = .ok (.iload 7, 2) := by decide +kernel
theorem dX10_adjoin_112 : decode cX10_adjoin 112 = .ok (.iconst 2, 1) := by decide +kernel
theorem dX10_adjoin_113 : decode cX10_adjoin 113 = .ok (.if_icmp .ne 7, 3) := by decide +kernel
theorem dX10_adjoin_116 : decode cX10_adjoin 116 = .ok (.iconst 1, 1) := by decide +kernel
theorem dX10_adjoin_117 : decode cX10_adjoin 117 = .ok (.goto 4, 3) := by decide +kernel
theorem dX10_adjoin_120 : decode cX10_adjoin 120 = .ok (.iconst 2, 1) := by decide +kernel
theorem dX10_adjoin_121 : decode cX10_adjoin 121 = .ok (.istore 10, 2) := by decide +kernel
theorem dX10_adjoin_123 : decode cX10_adjoin 123 = .ok (.iload 6, 2) := by decide +kernel
theorem dX10_adjoin_125 : decode cX10_adjoin 125 = .ok (.ifCond .ne 7, 3) := by decide +kernel
theorem dX10_adjoin_128 : decode cX10_adjoin 128 = .ok (.iconst 1, 1) := by decide +kernel
theorem dX10_adjoin_129 : decode cX10_adjoin 129 = .ok (.goto 4, 3) := by decide +kernel
theorem dX10_adjoin_132 : decode cX10_adjoin 132 = .ok (.iconst 0, 1) := by decide +kernel
theorem dX10_adjoin_133 : decode cX10_adjoin 133 = .ok (.istore 11, 2) := by decide +kernel
theorem dX10_adjoin_135 : decode cX10_adjoin 135 = .ok (.iload 6, 2) := by decide +kernel
theorem dX10_adjoin_137 : decode cX10_adjoin 137 = .ok (.iconst 2, 1) := by decide +kernel
theorem dX10_adjoin_138 : decode cX10_adjoin 138 = .ok (.if_icmp .ne 7, 3) := by decide +kernel
theorem dX10_adjoin_141 : decode cX10_adjoin 141 = .ok (.iconst 1, 1) := by decide +kernel
theorem dX10_adjoin_142 : decode cX10_adjoin 142 = .ok (.goto 4, 3) := by decide +kernel
theorem dX10_adjoin_145 : decode cX10_adjoin 145 = .ok (.iconst 2, 1) := by decide +kernel
theorem dX10_adjoin_146 : decode cX10_adjoin 146 = .ok (.istore 12, 2) := by decide +kernel
theorem dX10_adjoin_148 : decode cX10_adjoin 148 = .ok (.aload_n 0, 1) := by decide +kernel
theorem dX10_adjoin_149 : decode cX10_adjoin 149 = .ok (.iload 8, 2) := by decide +kernel
theorem dX10_adjoin_151 : decode cX10_adjoin 151 = .ok (.iload_n 2, 1) := by decide +kernel
theorem dX10_adjoin_152 : decode cX10_adjoin 152 = .ok (.iload 9, 2) := by decide +kernel
theorem dX10_adjoin_154 : decode cX10_adjoin 154 = .ok (.iload 11, 2) := by decide +kernel
theorem dX10_adjoin_156 : decode cX10_adjoin 156 = .ok (.invokestatic 677, 3) := by decide +kernel
theorem dX10_adjoin_159 : decode cX10_adjoin 159 = .ok (.iload_n 2, 1) := by decide +kernel
theorem dX10_adjoin_160 : decode cX10_adjoin 160 = .ok (.iload 9, 2) := by decide +kernel
theorem dX10_adjoin_162 : decode cX10_adjoin 162 = .ok (.iload 12, 2) := by decide +kernel
theorem dX10_adjoin_164 : decode cX10_adjoin 164 = .ok (.invokestatic 677, 3) := by decide +kernel
theorem dX10_adjoin_167 : decode cX10_adjoin 167 = .ok (.iload_n 2, 1) := by decide +kernel
theorem dX10_adjoin_168 : decode cX10_adjoin 168 = .ok (.iload 10, 2) := by decide +kernel
theorem dX10_adjoin_170 : decode cX10_adjoin 170 = .ok (.iload 11, 2) := by decide +kernel
theorem dX10_adjoin_172 : decode cX10_adjoin 172 = .ok (.invokestatic 677, 3) := by decide +kernel
theorem dX10_adjoin_175 : decode cX10_adjoin 175 = .ok (.iload_n 2, 1) := by decide +kernel
theorem dX10_adjoin_176 : decode cX10_adjoin 176 = .ok (.iload 10, 2) := by decide +kernel
theorem dX10_adjoin_178 : decode cX10_adjoin 178 = .ok (.iload 12, 2) := by decide +kernel
theorem dX10_adjoin_180 : decode cX10_adjoin 180 = .ok (.invokestatic 677, 3) := by decide +kernel
theorem dX10_adjoin_183 : decode cX10_adjoin 183 = .ok (.iload_n 3, 1) := by decide +kernel
theorem dX10_adjoin_184 : decode cX10_adjoin 184 = .ok (.iload 4, 2) := by decide +kernel
theorem dX10_adjoin_186 : decode cX10_adjoin 186 = .ok (.invokevirtual 698, 3) := by decide +kernel
theorem dX10_adjoin_189 : decode cX10_adjoin 189 = .ok (.iload 6, 2) := by decide +kernel
theorem dX10_adjoin_191 : decode cX10_adjoin 191 = .ok (.iload 7, 2) := by decide +kernel
theorem dX10_adjoin_193 : decode cX10_adjoin 193 = .ok (.iadd, 1) := by decide +kernel
theorem dX10_adjoin_194 : decode cX10_adjoin 194 = .ok (.iconst 2, 1) := by decide +kernel
theorem dX10_adjoin_195 : decode cX10_adjoin 195 = .ok (.irem, 1) := by decide +kernel
theorem dX10_adjoin_196 : decode cX10_adjoin 196 = .ok (.iconst 1, 1) := by decide +kernel
theorem dX10_adjoin_197 : decode cX10_adjoin 197 = .ok (.if_icmp .ne 33, 3) := by decide +kernel
theorem dX10_adjoin_200 : decode cX10_adjoin 200 = .ok (.aload_n 0, 1) := by decide +kernel
theorem dX10_adjoin_201 : decode cX10_adjoin 201 = .ok (.getfield 601, 3) := by decide +kernel
theorem dX10_adjoin_204 : decode cX10_adjoin 204 = .ok (.ifCond .ne 26, 3) := by decide +kernel
theorem dX10_adjoin_207 : decode cX10_adjoin 207 = .ok (.aload_n 0, 1) := by decide +kernel
theorem dX10_adjoin_208 : decode cX10_adjoin 208 = .ok (.ldc_w 702, 3) := by decide +kernel
theorem dX10_adjoin_211 : decode cX10_adjoin 211 = .ok (.bipush 98, 2) := by decide +kernel
theorem dX10_adjoin_213 : decode cX10_adjoin 213 = .ok (.invokevirtual 685, 3) := by decide +kernel
theorem dX10_adjoin_216 : decode cX10_adjoin 216 = .ok (.aload_n 0, 1) := by decide +kernel
theorem dX10_adjoin_217 : decode cX10_adjoin 217 = .ok (.iload 8, 2) := by decide +kernel
theorem dX10_adjoin_219 : decode cX10_adjoin 219 = .ok (.ldc_w 702, 3) := by decide +kernel
theorem dX10_adjoin_222 : decode cX10_adjoin 222 = .ok (.iload 8, 2) := by decide +kernel
theorem dX10_adjoin_224 : decode cX10_adjoin 224 = .ok (.iload_n 3, 1) := by decide +kernel
theorem dX10_adjoin_225 : decode cX10_adjoin 225 = .ok (.iload 4, 2) := by decide +kernel
theorem dX10_adjoin_227 : decode cX10_adjoin 227 = .ok (.invokevirtual 681, 3) := by decide +kernel
theorem dX10_adjoin_230 : decode cX10_adjoin 230 = .ok (.iinc 7 1, 3) := by decide +kernel
theorem dX10_adjoin_233 : decode cX10_adjoin 233 = .ok (.goto (-190), 3) := by decide +kernel
theorem dX10_adjoin_236 : decode cX10_adjoin 236 = .ok (.iinc 6 1, 3) := by decide +kernel
theorem dX10_adjoin_239 : decode cX10_adjoin 239 = .ok (.goto (-212), 3) := by decide +kernel
theorem dX10_adjoin_242 : decode cX10_adjoin 242 = .ok (.aload_n 0, 1) := by decide +kernel
theorem dX10_adjoin_243 : decode cX10_adjoin 243 = .ok (.getfield 601, 3) := by decide +kernel
theorem dX10_adjoin_246 : decode cX10_adjoin 246 = .ok (.ifCond .ne 14, 3) := by decide +kernel
theorem dX10_adjoin_249 : decode cX10_adjoin 249 = .ok (.aload_n 0, 1) := by decide +kernel
theorem dX10_adjoin_250 : decode cX10_adjoin 250 = .ok (.iload_n 1, 1) := by decide +kernel
theorem dX10_adjoin_251 : decode cX10_adjoin 251 = .ok (.ldc_w 703, 3) := by decide +kernel
theorem dX10_adjoin_254 : decode cX10_adjoin 254 = .ok (.sipush 882, 3) := by decide +kernel
theorem dX10_adjoin_257 : decode cX10_adjoin 257 = .ok (.invokevirtual 658, 3) := by decide +kernel
theorem dX10_adjoin_260 : decode cX10_adjoin 260 = .ok (.return_, 1) := by decide +kernel
/-! AlgebraHouseModel.adjoin(IIIII)V -/
def P_X10_adjoin_189 (Q : Int → MM → Prop) (K27 : Int → Int → Int → Int → Int → Int → MM → Prop) (K43 : Int → Int → Int → Int → Int → Int → Int → MM → Prop) (x1 : Int) (x2 : Int) (x3 : Int) (x4 : Int) (x5 : Int) (x6 : Int) (x7 : Int) (x8 : Int) (m : MM) : Prop := (RI (x6 + x7)) ∧ (RI (Int.tmod (x6 + x7) 2)) ∧ (if (Int.tmod (x6 + x7) 2) = 1 then (RI (m 582 84)) ∧ (if (m 582 84) = 0 then P_X10_clear 1590500 98 m (fun r1 m1 => P_X10_takeBlocks x8 1590500 x8 x3 x4 m1 (fun r2 m2 => K43 x1 x2 x3 x4 x5 x6 (x7 + 1) m2)) else K43 x1 x2 x3 x4 x5 x6 (x7 + 1) m) else K43 x1 x2 x3 x4 x5 x6 (x7 + 1) m)
def P_X10_adjoin_43 (Q : Int → MM → Prop) (K27 : Int → Int → Int → Int → Int → Int → MM → Prop) : Nat → Int → Int → Int → Int → Int → Int → Int → MM → Prop
  | 0, _, _, _, _, _, _, _, _ => False
  | n + 1, x1, x2, x3, x4, x5, x6, x7, m => (RI x7) ∧ (RI x5) ∧ (if x5 ≤ x7 then K27 x1 x2 x3 x4 x5 (x6 + 1) m else (RI (m 582 84)) ∧ (if (m 582 84) = 0 then P_X10_entryAt 1592000 x6 x7 m (fun r1 m1 => (if x5 = 2 then P_X10_entryAt x2 (1 - x7) (1 - x6) m1 (fun r7 m7 => P_X10_copy r1 r7 98 m7 (fun r8 m8 => P_X10_adjoin_189 Q K27 (fun z0 z1 z2 z3 z4 z5 z6 z7 => P_X10_adjoin_43 Q K27 n z0 z1 z2 z3 z4 z5 z6 z7) x1 x2 x3 x4 x5 x6 x7 r1 m8)) else ((RI x6)) ∧ ((RI x6)) ∧ P_X10_entryAt x2 (if x7 = 0 then 1 else 0 : Int) (if x6 = 0 then 1 else 0 : Int) m1 (fun r2 m2 => P_X10_entryAt x2 (if x7 = 0 then 1 else 0 : Int) (if x6 = 2 then 1 else 2 : Int) m2 (fun r3 m3 => P_X10_entryAt x2 (if x7 = 2 then 1 else 2 : Int) (if x6 = 0 then 1 else 0 : Int) m3 (fun r4 m4 => P_X10_entryAt x2 (if x7 = 2 then 1 else 2 : Int) (if x6 = 2 then 1 else 2 : Int) m4 (fun r5 m5 => P_X10_smallDet r1 r2 r3 r4 r5 x3 x4 m5 (fun r6 m6 => P_X10_adjoin_189 Q K27 (fun z0 z1 z2 z3 z4 z5 z6 z7 => P_X10_adjoin_43 Q K27 n z0 z1 z2 z3 z4 z5 z6 z7) x1 x2 x3 x4 x5 x6 x7 r1 m6))))))) else K27 x1 x2 x3 x4 x5 (x6 + 1) m))
def P_X10_adjoin_242 (Q : Int → MM → Prop) (x1 : Int) (m : MM) : Prop := (RI (m 582 84)) ∧ (if (m 582 84) = 0 then P_X10_copy x1 1592000 882 m (fun r1 m1 => Q 0 m1) else Q 0 m)
def P_X10_adjoin_27 (Q : Int → MM → Prop) : Nat → Int → Int → Int → Int → Int → Int → MM → Prop
  | 0, _, _, _, _, _, _, _ => False
  | n + 1, x1, x2, x3, x4, x5, x6, m => (RI x6) ∧ (RI x5) ∧ (if x5 ≤ x6 then P_X10_adjoin_242 Q x1 m else (if x5 ≤ 1 then P_X10_adjoin_242 Q x1 m else ∃ nn, P_X10_adjoin_43 Q (fun z0 z1 z2 z3 z4 z5 z6 => P_X10_adjoin_27 Q n z0 z1 z2 z3 z4 z5 z6) nn x1 x2 x3 x4 x5 x6 0 m))
def P_X10_adjoin (x1 : Int) (x2 : Int) (x3 : Int) (x4 : Int) (x5 : Int) (m : MM) (Q : Int → MM → Prop) : Prop := P_X10_clear 1592000 882 m (fun r1 m1 => (RI x5) ∧ (if x5 = 1 then P_X10_set 1592000 1 m1 (fun r2 m2 => ∃ nn, P_X10_adjoin_27 Q nn x1 x2 x3 x4 x5 0 m2) else ∃ nn, P_X10_adjoin_27 Q nn x1 x2 x3 x4 x5 0 m1))
theorem pl_X10_adjoin_189 {f : Nat} {Q : Int → MM → Prop} {T : MM → Prop} (hf : 7 ≤ f) {K27 : Int → Int → Int → Int → Int → Int → MM → Prop} {K43 : Int → Int → Int → Int → Int → Int → Int → MM → Prop} (hK27 : ∀ (x1 : Int) (x2 : Int) (x3 : Int) (x4 : Int) (x5 : Int) (x6 : Int) (m : MM), K27 x1 x2 x3 x4 x5 x6 m → B f M_X10_adjoin 27 [vR 582, vI x1, vI x2, vI x3, vI x4, vI x5, vI x6, vU, vU, vU, vU, vU, vU] [] m Q T) (hK43 : ∀ (x1 : Int) (x2 : Int) (x3 : Int) (x4 : Int) (x5 : Int) (x6 : Int) (x7 : Int) (m : MM), K43 x1 x2 x3 x4 x5 x6 x7 m → B f M_X10_adjoin 43 [vR 582, vI x1, vI x2, vI x3, vI x4, vI x5, vI x6, vI x7, vU, vU, vU, vU, vU] [] m Q T) : ∀ (x1 : Int) (x2 : Int) (x3 : Int) (x4 : Int) (x5 : Int) (x6 : Int) (x7 : Int) (x8 : Int) (m : MM), P_X10_adjoin_189 Q K27 K43 x1 x2 x3 x4 x5 x6 x7 x8 m → B f M_X10_adjoin 189 [vR 582, vI x1, vI x2, vI x3, vI x4, vI x5, vI x6, vI x7, vI x8, vU, vU, vU, vU] [] m Q T := by
  intro x1 x2 x3 x4 x5 x6 x7 x8 m h
  have h : (RI (x6 + x7)) ∧ (RI (Int.tmod (x6 + x7) 2)) ∧ (if (Int.tmod (x6 + x7) 2) = 1 then (RI (m 582 84)) ∧ (if (m 582 84) = 0 then P_X10_clear 1590500 98 m (fun r1 m1 => P_X10_takeBlocks x8 1590500 x8 x3 x4 m1 (fun r2 m2 => K43 x1 x2 x3 x4 x5 x6 (x7 + 1) m2)) else K43 x1 x2 x3 x4 x5 x6 (x7 + 1) m) else K43 x1 x2 x3 x4 x5 x6 (x7 + 1) m) := h
  refine b_iload dX10_adjoin_189 rfl ?_
  refine b_iload dX10_adjoin_191 rfl ?_
  refine b_iadd dX10_adjoin_193 ?_
  refine b_iconst dX10_adjoin_194 ?_
  obtain ⟨g1, h⟩ := h
  refine b_irem dX10_adjoin_195 g1 (by decide) (by decide) ?_
  refine b_iconst dX10_adjoin_196 ?_
  obtain ⟨g2, h⟩ := h
  refine b_icmp_ne 230 dX10_adjoin_197 g2 (by decide) (by decide) (fun c1 => ?_) (fun c1 => ?_)
  · have h := ifF c1 h
    refine b_iinc (ls' := [vR 582, vI x1, vI x2, vI x3, vI x4, vI x5, vI x6, vI (x7 + 1), vI x8, vU, vU, vU, vU]) dX10_adjoin_230 rfl rfl ?_
    refine b_goto 43 dX10_adjoin_233 (by decide) ?_
    refine b_fgt [true, true, true, true, true, true, true, true, false, false, false, false, false] (ls' := [vR 582, vI x1, vI x2, vI x3, vI x4, vI x5, vI x6, vI (x7 + 1), vU, vU, vU, vU, vU]) rfl rfl ?_
    exact hK43 _ _ _ _ _ _ _ _ h
  · have h := ifT (Decidable.of_not_not c1) h
    refine b_aload_n dX10_adjoin_200 rfl ?_
    refine b_getI dX10_adjoin_201 fk_X10_601 ly_582 ?_
    obtain ⟨g3, h⟩ := h
    refine b_if_ne 230 dX10_adjoin_204 g3 (by decide) (fun c2 => ?_) (fun c2 => ?_)
    · have h := ifF c2 h
      refine b_iinc (ls' := [vR 582, vI x1, vI x2, vI x3, vI x4, vI x5, vI x6, vI (x7 + 1), vI x8, vU, vU, vU, vU]) dX10_adjoin_230 rfl rfl ?_
      refine b_goto 43 dX10_adjoin_233 (by decide) ?_
      refine b_fgt [true, true, true, true, true, true, true, true, false, false, false, false, false] (ls' := [vR 582, vI x1, vI x2, vI x3, vI x4, vI x5, vI x6, vI (x7 + 1), vU, vU, vU, vU, vU]) rfl rfl ?_
      exact hK43 _ _ _ _ _ _ _ _ h
    · have h := ifT (Decidable.of_not_not c2) h
      refine b_aload_n dX10_adjoin_207 rfl ?_
      refine b_ldcw (1590500) dX10_adjoin_208 q2527 (by decide) ?_
      refine b_bipush dX10_adjoin_211 (by decide) ?_
      refine b_cVv (as := [vI 1590500, vI 98]) (st := []) dX10_adjoin_213 mf_X10_clear qs162 lk_X10_685 ly_582 rfl (p_X10_clear (f := 2) (Nat.le_refl _) _ _ _ h) (by omega) rfl rfl (Nat.le_of_ble_eq_true rfl) (by decide) rfl (fun _ => rfl) (fun r1 m1 h => ?_) (fun _ h => h)
      refine b_aload_n dX10_adjoin_216 rfl ?_
      refine b_iload dX10_adjoin_217 rfl ?_
      refine b_ldcw (1590500) dX10_adjoin_219 q2527 (by decide) ?_
      refine b_iload dX10_adjoin_222 rfl ?_
      refine b_iload_n dX10_adjoin_224 rfl ?_
      refine b_iload dX10_adjoin_225 rfl ?_
      refine b_cVv (as := [vI x8, vI 1590500, vI x8, vI x3, vI x4]) (st := []) dX10_adjoin_227 mf_X10_takeBlocks qs187 lk_X10_681 ly_582 rfl (p_X10_takeBlocks (f := 4) (Nat.le_refl _) _ _ _ _ _ _ h) (by omega) rfl rfl (Nat.le_of_ble_eq_true rfl) (by decide) rfl (fun _ => rfl) (fun r2 m2 h => ?_) (fun _ h => h)
      refine b_iinc (ls' := [vR 582, vI x1, vI x2, vI x3, vI x4, vI x5, vI x6, vI (x7 + 1), vI x8, vU, vU, vU, vU]) dX10_adjoin_230 rfl rfl ?_
      refine b_goto 43 dX10_adjoin_233 (by decide) ?_
      refine b_fgt [true, true, true, true, true, true, true, true, false, false, false, false, false] (ls' := [vR 582, vI x1, vI x2, vI x3, vI x4, vI x5, vI x6, vI (x7 + 1), vU, vU, vU, vU, vU]) rfl rfl ?_
      exact hK43 _ _ _ _ _ _ _ _ h
theorem pl_X10_adjoin_43 {f : Nat} {Q : Int → MM → Prop} {T : MM → Prop} (hf : 7 ≤ f) {K27 : Int → Int → Int → Int → Int → Int → MM → Prop} (hK27 : ∀ (x1 : Int) (x2 : Int) (x3 : Int) (x4 : Int) (x5 : Int) (x6 : Int) (m : MM), K27 x1 x2 x3 x4 x5 x6 m → B f M_X10_adjoin 27 [vR 582, vI x1, vI x2, vI x3, vI x4, vI x5, vI x6, vU, vU, vU, vU, vU, vU] [] m Q T) : ∀ (n : Nat) (x1 : Int) (x2 : Int) (x3 : Int) (x4 : Int) (x5 : Int) (x6 : Int) (x7 : Int) (m : MM), P_X10_adjoin_43 Q K27 n x1 x2 x3 x4 x5 x6 x7 m → B f M_X10_adjoin 43 [vR 582, vI x1, vI x2, vI x3, vI x4, vI x5, vI x6, vI x7, vU, vU, vU, vU, vU] [] m Q T := by
  intro n
  induction n with
  | zero => intro x1 x2 x3 x4 x5 x6 x7 m h; exact h.elim
  | succ n ih =>
    intro x1 x2 x3 x4 x5 x6 x7 m h
    have h : (RI x7) ∧ (RI x5) ∧ (if x5 ≤ x7 then K27 x1 x2 x3 x4 x5 (x6 + 1) m else (RI (m 582 84)) ∧ (if (m 582 84) = 0 then P_X10_entryAt 1592000 x6 x7 m (fun r1 m1 => (if x5 = 2 then P_X10_entryAt x2 (1 - x7) (1 - x6) m1 (fun r7 m7 => P_X10_copy r1 r7 98 m7 (fun r8 m8 => P_X10_adjoin_189 Q K27 (fun z0 z1 z2 z3 z4 z5 z6 z7 => P_X10_adjoin_43 Q K27 n z0 z1 z2 z3 z4 z5 z6 z7) x1 x2 x3 x4 x5 x6 x7 r1 m8)) else ((RI x6)) ∧ ((RI x6)) ∧ P_X10_entryAt x2 (if x7 = 0 then 1 else 0 : Int) (if x6 = 0 then 1 else 0 : Int) m1 (fun r2 m2 => P_X10_entryAt x2 (if x7 = 0 then 1 else 0 : Int) (if x6 = 2 then 1 else 2 : Int) m2 (fun r3 m3 => P_X10_entryAt x2 (if x7 = 2 then 1 else 2 : Int) (if x6 = 0 then 1 else 0 : Int) m3 (fun r4 m4 => P_X10_entryAt x2 (if x7 = 2 then 1 else 2 : Int) (if x6 = 2 then 1 else 2 : Int) m4 (fun r5 m5 => P_X10_smallDet r1 r2 r3 r4 r5 x3 x4 m5 (fun r6 m6 => P_X10_adjoin_189 Q K27 (fun z0 z1 z2 z3 z4 z5 z6 z7 => P_X10_adjoin_43 Q K27 n z0 z1 z2 z3 z4 z5 z6 z7) x1 x2 x3 x4 x5 x6 x7 r1 m6))))))) else K27 x1 x2 x3 x4 x5 (x6 + 1) m)) := h
    refine b_iload dX10_adjoin_43 rfl ?_
    refine b_iload dX10_adjoin_45 rfl ?_
    obtain ⟨g1, h⟩ := h
    obtain ⟨g2, h⟩ := h
    refine b_icmp_ge 236 dX10_adjoin_47 g1 g2 (by decide) (fun c1 => ?_) (fun c1 => ?_)
    · have h := ifT c1 h
      refine b_iinc (ls' := [vR 582, vI x1, vI x2, vI x3, vI x4, vI x5, vI (x6 + 1), vI x7, vU, vU, vU, vU, vU]) dX10_adjoin_236 rfl rfl ?_
      refine b_goto 27 dX10_adjoin_239 (by decide) ?_
      refine b_fgt [true, true, true, true, true, true, true, false, false, false, false, false, false] (ls' := [vR 582, vI x1, vI x2, vI x3, vI x4, vI x5, vI (x6 + 1), vU, vU, vU, vU, vU, vU]) rfl rfl ?_
      exact hK27 _ _ _ _ _ _ _ h
    · have h := ifF c1 h
      refine b_aload_n dX10_adjoin_50 rfl ?_
      refine b_getI dX10_adjoin_51 fk_X10_601 ly_582 ?_
      obtain ⟨g3, h⟩ := h
      refine b_if_ne 236 dX10_adjoin_54 g3 (by decide) (fun c2 => ?_) (fun c2 => ?_)
      · have h := ifF c2 h
        refine b_iinc (ls' := [vR 582, vI x1, vI x2, vI x3, vI x4, vI x5, vI (x6 + 1), vI x7, vU, vU, vU, vU, vU]) dX10_adjoin_236 rfl rfl ?_
        refine b_goto 27 dX10_adjoin_239 (by decide) ?_
        refine b_fgt [true, true, true, true, true, true, true, false, false, false, false, false, false] (ls' := [vR 582, vI x1, vI x2, vI x3, vI x4, vI x5, vI (x6 + 1), vU, vU, vU, vU, vU, vU]) rfl rfl ?_
        exact hK27 _ _ _ _ _ _ _ h
      · have h := ifT (Decidable.of_not_not c2) h
        refine b_ldcw (1592000) dX10_adjoin_57 q2466 (by decide) ?_
        refine b_iload dX10_adjoin_60 rfl ?_
        refine b_iload dX10_adjoin_62 rfl ?_
        refine b_cSi (as := [vI 1592000, vI x6, vI x7]) (st := []) dX10_adjoin_64 mf_X10_entryAt lk_X10_677 (p_X10_entryAt (f := 1) (Nat.le_refl _) _ _ _ _ h) (by omega) rfl rfl (Nat.le_of_ble_eq_true rfl) (by decide) rfl (fun _ => rfl) (fun r1 m1 h => ?_) (fun _ h => h)
        refine b_istore (ls' := [vR 582, vI x1, vI x2, vI x3, vI x4, vI x5, vI x6, vI x7, vI r1, vU, vU, vU, vU]) dX10_adjoin_67 (Nat.le_of_ble_eq_true rfl) rfl ?_
        refine b_iload dX10_adjoin_69 rfl ?_
        refine b_iconst dX10_adjoin_71 ?_
        refine b_icmp_ne 98 dX10_adjoin_72 g2 (by decide) (by decide) (fun c3 => ?_) (fun c3 => ?_)
        · have h := ifF c3 h
          refine b_iload dX10_adjoin_98 rfl ?_
          have K : B f M_X10_adjoin 108 [vR 582, vI x1, vI x2, vI x3, vI x4, vI x5, vI x6, vI x7, vI r1, vU, vU, vU, vU] [vI (if x7 = 0 then 1 else 0 : Int)] m1 Q T := by
            refine b_istore (ls' := [vR 582, vI x1, vI x2, vI x3, vI x4, vI x5, vI x6, vI x7, vI r1, vI (if x7 = 0 then 1 else 0 : Int), vU, vU, vU]) dX10_adjoin_108 (Nat.le_of_ble_eq_true rfl) rfl ?_
            refine b_iload dX10_adjoin_110 rfl ?_
            refine b_iconst dX10_adjoin_112 ?_
            have K : B f M_X10_adjoin 121 [vR 582, vI x1, vI x2, vI x3, vI x4, vI x5, vI x6, vI x7, vI r1, vI (if x7 = 0 then 1 else 0 : Int), vU, vU, vU] [vI (if x7 = 2 then 1 else 2 : Int)] m1 Q T := by
              refine b_istore (ls' := [vR 582, vI x1, vI x2, vI x3, vI x4, vI x5, vI x6, vI x7, vI r1, vI (if x7 = 0 then 1 else 0 : Int), vI (if x7 = 2 then 1 else 2 : Int), vU, vU]) dX10_adjoin_121 (Nat.le_of_ble_eq_true rfl) rfl ?_
              refine b_iload dX10_adjoin_123 rfl ?_
              obtain ⟨hs, h⟩ := h
              have K : B f M_X10_adjoin 133 [vR 582, vI x1, vI x2, vI x3, vI x4, vI x5, vI x6, vI x7, vI r1, vI (if x7 = 0 then 1 else 0 : Int), vI (if x7 = 2 then 1 else 2 : Int), vU, vU] [vI (if x6 = 0 then 1 else 0 : Int)] m1 Q T := by
                clear hs
                refine b_istore (ls' := [vR 582, vI x1, vI x2, vI x3, vI x4, vI x5, vI x6, vI x7, vI r1, vI (if x7 = 0 then 1 else 0 : Int), vI (if x7 = 2 then 1 else 2 : Int), vI (if x6 = 0 then 1 else 0 : Int), vU]) dX10_adjoin_133 (Nat.le_of_ble_eq_true rfl) rfl ?_
                refine b_iload dX10_adjoin_135 rfl ?_
                refine b_iconst dX10_adjoin_137 ?_
                obtain ⟨hs, h⟩ := h
                have K : B f M_X10_adjoin 146 [vR 582, vI x1, vI x2, vI x3, vI x4, vI x5, vI x6, vI x7, vI r1, vI (if x7 = 0 then 1 else 0 : Int), vI (if x7 = 2 then 1 else 2 : Int), vI (if x6 = 0 then 1 else 0 : Int), vU] [vI (if x6 = 2 then 1 else 2 : Int)] m1 Q T := by
                  clear hs
                  refine b_istore (ls' := [vR 582, vI x1, vI x2, vI x3, vI x4, vI x5, vI x6, vI x7, vI r1, vI (if x7 = 0 then 1 else 0 : Int), vI (if x7 = 2 then 1 else 2 : Int), vI (if x6 = 0 then 1 else 0 : Int), vI (if x6 = 2 then 1 else 2 : Int)]) dX10_adjoin_146 (Nat.le_of_ble_eq_true rfl) rfl ?_
                  refine b_aload_n dX10_adjoin_148 rfl ?_
                  refine b_iload dX10_adjoin_149 rfl ?_
                  refine b_iload_n dX10_adjoin_151 rfl ?_
                  refine b_iload dX10_adjoin_152 rfl ?_
                  refine b_iload dX10_adjoin_154 rfl ?_
                  refine b_cSi (as := [vI x2, vI (if x7 = 0 then 1 else 0 : Int), vI (if x6 = 0 then 1 else 0 : Int)]) (st := [vI r1, vR 582]) dX10_adjoin_156 mf_X10_entryAt lk_X10_677 (p_X10_entryAt (f := 1) (Nat.le_refl _) _ _ _ _ h) (by omega) rfl rfl (Nat.le_of_ble_eq_true rfl) (by decide) rfl (fun _ => rfl) (fun r2 m2 h => ?_) (fun _ h => h)
                  refine b_iload_n dX10_adjoin_159 rfl ?_
                  refine b_iload dX10_adjoin_160 rfl ?_
                  refine b_iload dX10_adjoin_162 rfl ?_
                  refine b_cSi (as := [vI x2, vI (if x7 = 0 then 1 else 0 : Int), vI (if x6 = 2 then 1 else 2 : Int)]) (st := [vI r2, vI r1, vR 582]) dX10_adjoin_164 mf_X10_entryAt lk_X10_677 (p_X10_entryAt (f := 1) (Nat.le_refl _) _ _ _ _ h) (by omega) rfl rfl (Nat.le_of_ble_eq_true rfl) (by decide) rfl (fun _ => rfl) (fun r3 m3 h => ?_) (fun _ h => h)
                  refine b_iload_n dX10_adjoin_167 rfl ?_
                  refine b_iload dX10_adjoin_168 rfl ?_
                  refine b_iload dX10_adjoin_170 rfl ?_
                  refine b_cSi (as := [vI x2, vI (if x7 = 2 then 1 else 2 : Int), vI (if x6 = 0 then 1 else 0 : Int)]) (st := [vI r3, vI r2, vI r1, vR 582]) dX10_adjoin_172 mf_X10_entryAt lk_X10_677 (p_X10_entryAt (f := 1) (Nat.le_refl _) _ _ _ _ h) (by omega) rfl rfl (Nat.le_of_ble_eq_true rfl) (by decide) rfl (fun _ => rfl) (fun r4 m4 h => ?_) (fun _ h => h)
                  refine b_iload_n dX10_adjoin_175 rfl ?_
                  refine b_iload dX10_adjoin_176 rfl ?_
                  refine b_iload dX10_adjoin_178 rfl ?_
                  refine b_cSi (as := [vI x2, vI (if x7 = 2 then 1 else 2 : Int), vI (if x6 = 2 then 1 else 2 : Int)]) (st := [vI r4, vI r3, vI r2, vI r1, vR 582]) dX10_adjoin_180 mf_X10_entryAt lk_X10_677 (p_X10_entryAt (f := 1) (Nat.le_refl _) _ _ _ _ h) (by omega) rfl rfl (Nat.le_of_ble_eq_true rfl) (by decide) rfl (fun _ => rfl) (fun r5 m5 h => ?_) (fun _ h => h)
                  refine b_iload_n dX10_adjoin_183 rfl ?_
                  refine b_iload dX10_adjoin_184 rfl ?_
                  refine b_cVv (as := [vI r1, vI r2, vI r3, vI r4, vI r5, vI x3, vI x4]) (st := []) dX10_adjoin_186 mf_X10_smallDet qs204 lk_X10_698 ly_582 rfl (p_X10_smallDet (f := 6) (Nat.le_refl _) _ _ _ _ _ _ _ _ h) (by omega) rfl rfl (Nat.le_of_ble_eq_true rfl) (by decide) rfl (fun _ => rfl) (fun r6 m6 h => ?_) (fun _ h => h)
                  refine b_fgt [true, true, true, true, true, true, true, true, true, false, false, false, false] (ls' := [vR 582, vI x1, vI x2, vI x3, vI x4, vI x5, vI x6, vI x7, vI r1, vU, vU, vU, vU]) rfl rfl ?_
                  exact pl_X10_adjoin_189 hf hK27 (fun _ _ _ _ _ _ _ _ h => ih _ _ _ _ _ _ _ _ h) _ _ _ _ _ _ _ _ _ h
                have g5 := hs
                refine b_icmp_ne 145 dX10_adjoin_138 g5 (by decide) (by decide) (fun c4 => ?_) (fun c4 => ?_)
                ·
                  refine b_iconst dX10_adjoin_145 ?_
                  rw [if_neg c4] at K
                  exact K
                ·
                  have c4 := Decidable.of_not_not c4
                  refine b_iconst dX10_adjoin_141 ?_
                  refine b_goto 146 dX10_adjoin_142 (by decide) ?_
                  rw [if_pos c4] at K
                  exact K
              have g4 := hs
              refine b_if_ne 132 dX10_adjoin_125 g4 (by decide) (fun c5 => ?_) (fun c5 => ?_)
              ·
                refine b_iconst dX10_adjoin_132 ?_
                rw [if_neg c5] at K
                exact K
              ·
                have c5 := Decidable.of_not_not c5
                refine b_iconst dX10_adjoin_128 ?_
                refine b_goto 133 dX10_adjoin_129 (by decide) ?_
                rw [if_pos c5] at K
                exact K
            refine b_icmp_ne 120 dX10_adjoin_113 g1 (by decide) (by decide) (fun c6 => ?_) (fun c6 => ?_)
            ·
              refine b_iconst dX10_adjoin_120 ?_
              rw [if_neg c6] at K
              exact K
            ·
              have c6 := Decidable.of_not_not c6
              refine b_iconst dX10_adjoin_116 ?_
              refine b_goto 121 dX10_adjoin_117 (by decide) ?_
              rw [if_pos c6] at K
              exact K
          refine b_if_ne 107 dX10_adjoin_100 g1 (by decide) (fun c7 => ?_) (fun c7 => ?_)
          ·
            refine b_iconst dX10_adjoin_107 ?_
            rw [if_neg c7] at K
            exact K
          ·
            have c7 := Decidable.of_not_not c7
            refine b_iconst dX10_adjoin_103 ?_
            refine b_goto 108 dX10_adjoin_104 (by decide) ?_
            rw [if_pos c7] at K
            exact K
        · have h := ifT (Decidable.of_not_not c3) h
          refine b_aload_n dX10_adjoin_75 rfl ?_
          refine b_iload dX10_adjoin_76 rfl ?_
          refine b_iload_n dX10_adjoin_78 rfl ?_
          refine b_iconst dX10_adjoin_79 ?_
          refine b_iload dX10_adjoin_80 rfl ?_
          refine b_isub dX10_adjoin_82 ?_
          refine b_iconst dX10_adjoin_83 ?_
          refine b_iload dX10_adjoin_84 rfl ?_
          refine b_isub dX10_adjoin_86 ?_
          refine b_cSi (as := [vI x2, vI (1 - x7), vI (1 - x6)]) (st := [vI r1, vR 582]) dX10_adjoin_87 mf_X10_entryAt lk_X10_677 (p_X10_entryAt (f := 1) (Nat.le_refl _) _ _ _ _ h) (by omega) rfl rfl (Nat.le_of_ble_eq_true rfl) (by decide) rfl (fun _ => rfl) (fun r7 m7 h => ?_) (fun _ h => h)
          refine b_bipush dX10_adjoin_90 (by decide) ?_
          refine b_cVv (as := [vI r1, vI r7, vI 98]) (st := []) dX10_adjoin_92 mf_X10_copy qs164 lk_X10_658 ly_582 rfl (p_X10_copy (f := 1) (Nat.le_refl _) _ _ _ _ h) (by omega) rfl rfl (Nat.le_of_ble_eq_true rfl) (by decide) rfl (fun _ => rfl) (fun r8 m8 h => ?_) (fun _ h => h)
          refine b_goto 189 dX10_adjoin_95 (by decide) ?_
          exact pl_X10_adjoin_189 hf hK27 (fun _ _ _ _ _ _ _ _ h => ih _ _ _ _ _ _ _ _ h) _ _ _ _ _ _ _ _ _ h
theorem pl_X10_adjoin_242 {f : Nat} {Q : Int → MM → Prop} {T : MM → Prop} (hf : 7 ≤ f) : ∀ (x1 : Int) (m : MM), P_X10_adjoin_242 Q x1 m → B f M_X10_adjoin 242 [vR 582, vI x1, vU, vU, vU, vU, vU, vU, vU, vU, vU, vU, vU] [] m Q T := by
  intro x1 m h
  have h : (RI (m 582 84)) ∧ (if (m 582 84) = 0 then P_X10_copy x1 1592000 882 m (fun r1 m1 => Q 0 m1) else Q 0 m) := h
  refine b_aload_n dX10_adjoin_242 rfl ?_
  refine b_getI dX10_adjoin_243 fk_X10_601 ly_582 ?_
  obtain ⟨g1, h⟩ := h
  refine b_if_ne 260 dX10_adjoin_246 g1 (by decide) (fun c1 => ?_) (fun c1 => ?_)
  · have h := ifF c1 h
    exact b_vret dX10_adjoin_260 rfl h
  · have h := ifT (Decidable.of_not_not c1) h
    refine b_aload_n dX10_adjoin_249 rfl ?_
    refine b_iload_n dX10_adjoin_250 rfl ?_
    refine b_ldcw (1592000) dX10_adjoin_251 q2466 (by decide) ?_
    refine b_sipush dX10_adjoin_254 (by decide) ?_
    refine b_cVv (as := [vI x1, vI 1592000, vI 882]) (st := []) dX10_adjoin_257 mf_X10_copy qs164 lk_X10_658 ly_582 rfl (p_X10_copy (f := 1) (Nat.le_refl _) _ _ _ _ h) (by omega) rfl rfl (Nat.le_of_ble_eq_true rfl) (by decide) rfl (fun _ => rfl) (fun r1 m1 h => ?_) (fun _ h => h)
    exact b_vret dX10_adjoin_260 rfl h
theorem pl_X10_adjoin_27 {f : Nat} {Q : Int → MM → Prop} {T : MM → Prop} (hf : 7 ≤ f) : ∀ (n : Nat) (x1 : Int) (x2 : Int) (x3 : Int) (x4 : Int) (x5 : Int) (x6 : Int) (m : MM), P_X10_adjoin_27 Q n x1 x2 x3 x4 x5 x6 m → B f M_X10_adjoin 27 [vR 582, vI x1, vI x2, vI x3, vI x4, vI x5, vI x6, vU, vU, vU, vU, vU, vU] [] m Q T := by
  intro n
  induction n with
  | zero => intro x1 x2 x3 x4 x5 x6 m h; exact h.elim
  | succ n ih =>
    intro x1 x2 x3 x4 x5 x6 m h
    have h : (RI x6) ∧ (RI x5) ∧ (if x5 ≤ x6 then P_X10_adjoin_242 Q x1 m else (if x5 ≤ 1 then P_X10_adjoin_242 Q x1 m else ∃ nn, P_X10_adjoin_43 Q (fun z0 z1 z2 z3 z4 z5 z6 => P_X10_adjoin_27 Q n z0 z1 z2 z3 z4 z5 z6) nn x1 x2 x3 x4 x5 x6 0 m)) := h
    refine b_iload dX10_adjoin_27 rfl ?_
    refine b_iload dX10_adjoin_29 rfl ?_
    obtain ⟨g1, h⟩ := h
    obtain ⟨g2, h⟩ := h
    refine b_icmp_ge 242 dX10_adjoin_31 g1 g2 (by decide) (fun c1 => ?_) (fun c1 => ?_)
    · have h := ifT c1 h
      refine b_fgt [true, true, false, false, false, false, false, false, false, false, false, false, false] (ls' := [vR 582, vI x1, vU, vU, vU, vU, vU, vU, vU, vU, vU, vU, vU]) rfl rfl ?_
      exact pl_X10_adjoin_242 hf _ _ h
    · have h := ifF c1 h
      refine b_iload dX10_adjoin_34 rfl ?_
      refine b_iconst dX10_adjoin_36 ?_
      refine b_icmp_le 242 dX10_adjoin_37 g2 (by decide) (by decide) (fun c2 => ?_) (fun c2 => ?_)
      · have h := ifT c2 h
        refine b_fgt [true, true, false, false, false, false, false, false, false, false, false, false, false] (ls' := [vR 582, vI x1, vU, vU, vU, vU, vU, vU, vU, vU, vU, vU, vU]) rfl rfl ?_
        exact pl_X10_adjoin_242 hf _ _ h
      · have h := ifF c2 h
        refine b_iconst dX10_adjoin_40 ?_
        refine b_istore (ls' := [vR 582, vI x1, vI x2, vI x3, vI x4, vI x5, vI x6, vI 0, vU, vU, vU, vU, vU]) dX10_adjoin_41 (Nat.le_of_ble_eq_true rfl) rfl ?_
        obtain ⟨nn, h⟩ := h
        exact pl_X10_adjoin_43 hf (fun _ _ _ _ _ _ _ h => ih _ _ _ _ _ _ _ h) nn _ _ _ _ _ _ _ _ h
theorem p_X10_adjoin {f : Nat} {Q : Int → MM → Prop} {T : MM → Prop} (hf : 7 ≤ f) (x1 : Int) (x2 : Int) (x3 : Int) (x4 : Int) (x5 : Int) (m : MM) (h : P_X10_adjoin x1 x2 x3 x4 x5 m Q) : CC f M_X10_adjoin [vR 582, vI x1, vI x2, vI x3, vI x4, vI x5] m Q T := by
  refine CC.of (plainFor_of_name (by decide)) (Nat.le_of_ble_eq_true rfl) (ls := [vR 582, vI x1, vI x2, vI x3, vI x4, vI x5, vU, vU, vU, vU, vU, vU, vU]) rfl ?_
  have h : P_X10_clear 1592000 882 m (fun r1 m1 => (RI x5) ∧ (if x5 = 1 then P_X10_set 1592000 1 m1 (fun r2 m2 => ∃ nn, P_X10_adjoin_27 Q nn x1 x2 x3 x4 x5 0 m2) else ∃ nn, P_X10_adjoin_27 Q nn x1 x2 x3 x4 x5 0 m1)) := h
  refine b_aload_n dX10_adjoin_0 rfl ?_
  refine b_ldcw (1592000) dX10_adjoin_1 q2466 (by decide) ?_
  refine b_sipush dX10_adjoin_4 (by decide) ?_
  refine b_cVv (as := [vI 1592000, vI 882]) (st := []) dX10_adjoin_7 mf_X10_clear qs162 lk_X10_685 ly_582 rfl (p_X10_clear (f := 2) (Nat.le_refl _) _ _ _ h) (by omega) rfl rfl (Nat.le_of_ble_eq_true rfl) (by decide) rfl (fun _ => rfl) (fun r1 m1 h => ?_) (fun _ h => h)
  refine b_iload dX10_adjoin_10 rfl ?_
  refine b_iconst dX10_adjoin_12 ?_
  obtain ⟨g1, h⟩ := h
  refine b_icmp_ne 24 dX10_adjoin_13 g1 (by decide) (by decide) (fun c1 => ?_) (fun c1 => ?_)
  · have h := ifF c1 h
    refine b_iconst dX10_adjoin_24 ?_
    refine b_istore (ls' := [vR 582, vI x1, vI x2, vI x3, vI x4, vI x5, vI 0, vU, vU, vU, vU, vU, vU]) dX10_adjoin_25 (Nat.le_of_ble_eq_true rfl) rfl ?_
    obtain ⟨nn, h⟩ := h
    exact pl_X10_adjoin_27 hf nn _ _ _ _ _ _ _ h
  · have h := ifT (Decidable.of_not_not c1) h
    refine b_aload_n dX10_adjoin_16 rfl ?_
    refine b_ldcw (1592000) dX10_adjoin_17 q2466 (by decide) ?_
    refine b_lconst 1 dX10_adjoin_20 (by decide) ?_
    refine b_cVv (as := [vI 1592000, vL 1]) (st := []) dX10_adjoin_21 mf_X10_set qs163 lk_X10_633 ly_582 rfl (p_X10_set (f := 1) (Nat.le_refl _) _ _ _ h) (by omega) rfl rfl (Nat.le_of_ble_eq_true rfl) (by decide) rfl (fun _ => rfl) (fun r2 m2 h => ?_) (fun _ h => h)
    refine b_iconst dX10_adjoin_24 ?_
    refine b_istore (ls' := [vR 582, vI x1, vI x2, vI x3, vI x4, vI x5, vI 0, vU, vU, vU, vU, vU, vU]) dX10_adjoin_25 (Nat.le_of_ble_eq_true rfl) rfl ?_
    obtain ⟨nn, h⟩ := h
    exact pl_X10_adjoin_27 hf nn _ _ _ _ _ _ _ h
theorem dX10_isField_0 : decode cX10_isField 0 = .ok (.iload_n 0, 1) := by decide +kernel
theorem dX10_isField_1 : decode cX10_isField 1 = .ok (.iconst 1, 1) := by decide +kernel
theorem dX10_isField_2 : decode cX10_isField 2 = .ok (.if_icmp .ne 5, 3) := by decide +kernel
theorem dX10_isField_5 : decode cX10_isField 5 = .ok (.iconst 1, 1) := by decide +kernel
theorem dX10_isField_6 : decode cX10_isField 6 = .ok (.ireturn, 1) := by decide +kernel
theorem dX10_isField_7 : decode cX10_isField 7 = .ok (.iload_n 0, 1) := by decide +kernel
theorem dX10_isField_8 : decode cX10_isField 8 = .ok (.iconst 2, 1) := by decide +kernel
theorem dX10_isField_9 : decode cX10_isField 9 = .ok (.if_icmp .lt 10, 3) := by decide +kernel
theorem dX10_isField_12 : decode cX10_isField 12 = .ok (.iload_n 0, 1) := by decide +kernel
theorem dX10_isField_13 : decode cX10_isField 13 = .ok (.sipush 10000, 3) := by decide +kernel
theorem dX10_isField_16 : decode cX10_isField 16 = .ok (.if_icmp .ne 5, 3) := by decide +kernel
theorem dX10_isField_19 : decode cX10_isField 19 = .ok (.iconst 0, 1) := by decide +kernel
theorem dX10_isField_20 : decode cX10_isField 20 = .ok (.ireturn, 1) := by decide +kernel
theorem dX10_isField_21 : decode cX10_isField 21 = .ok (.iconst 2, 1) := by decide +kernel
theorem dX10_isField_22 : decode cX10_isField 22 = .ok (.istore_n 1, 1) := by decide +kernel
theorem dX10_isField_23 : decode cX10_isField 23 = .ok (.iload_n 1, 1) := by decide +kernel
theorem dX10_isField_24 : decode cX10_isField 24 = .ok (.iload_n 1, 1) := by decide +kernel
theorem dX10_isField_25 : decode cX10_isField 25 = .ok (.imul, 1) := by decide +kernel
theorem dX10_isField_26 : decode cX10_isField 26 = .ok (.iload_n 0, 1) := by decide +kernel
theorem dX10_isField_27 : decode cX10_isField 27 = .ok (.if_icmp .gt 17, 3) := by decide +kernel
theorem dX10_isField_30 : decode cX10_isField 30 = .ok (.iload_n 0, 1) := by decide +kernel
theorem dX10_isField_31 : decode cX10_isField 31 = .ok (.iload_n 1, 1) := by decide +kernel
theorem dX10_isField_32 : decode cX10_isField 32 = .ok (.irem, 1) := by decide +kernel
theorem dX10_isField_33 : decode cX10_isField 33 = .ok (.ifCond .ne 5, 3) := by decide +kernel
theorem dX10_isField_36 : decode cX10_isField 36 = .ok (.iconst 0, 1) := by decide +kernel
theorem dX10_isField_37 : decode cX10_isField 37 = .ok (.ireturn, 1) := by decide +kernel
theorem dX10_isField_38 : decode cX10_isField 38 = .ok (.iinc 1 1, 3) := by decide +kernel
theorem dX10_isField_41 : decode cX10_isField 41 = .ok (.goto (-18), 3) := by decide +kernel
theorem dX10_isField_44 : decode cX10_isField 44 = .ok (.iconst 1, 1) := by decide +kernel
theorem dX10_isField_45 : decode cX10_isField 45 = .ok (.ireturn, 1) := by decide +kernel
/-! AlgebraHouseModel.isField(I)Z -/
def P_X10_isField_23 (Q : Int → MM → Prop) : Nat → Int → Int → MM → Prop
  | 0, _, _, _ => False
  | n + 1, x0, x1, m => (RI (x1 * x1)) ∧ (RI x0) ∧ (if x0 < (x1 * x1) then Q 1 m else (RI x1) ∧ (x1 ≠ 0) ∧ (RI (Int.tmod x0 x1)) ∧ (if (Int.tmod x0 x1) = 0 then Q 0 m else P_X10_isField_23 Q n x0 (x1 + 1) m))
def P_X10_isField (x0 : Int) (m : MM) (Q : Int → MM → Prop) : Prop := (RI x0) ∧ (if x0 = 1 then Q 1 m else (if x0 < 2 then Q 0 m else (if x0 = 10000 then Q 0 m else ∃ nn, P_X10_isField_23 Q nn x0 2 m)))
theorem pl_X10_isField_23 {f : Nat} {Q : Int → MM → Prop} {T : MM → Prop} (hf : 1 ≤ f) : ∀ (n : Nat) (x0 : Int) (x1 : Int) (m : MM), P_X10_isField_23 Q n x0 x1 m → B f M_X10_isField 23 [vI x0, vI x1] [] m Q T := by
  intro n
  induction n with
  | zero => intro x0 x1 m h; exact h.elim
  | succ n ih =>
    intro x0 x1 m h
    have h : (RI (x1 * x1)) ∧ (RI x0) ∧ (if x0 < (x1 * x1) then Q 1 m else (RI x1) ∧ (x1 ≠ 0) ∧ (RI (Int.tmod x0 x1)) ∧ (if (Int.tmod x0 x1) = 0 then Q 0 m else P_X10_isField_23 Q n x0 (x1 + 1) m)) := h
    refine b_iload_n dX10_isField_23 rfl ?_
    refine b_iload_n dX10_isField_24 rfl ?_
    refine b_imul dX10_isField_25 ?_
    refine b_iload_n dX10_isField_26 rfl ?_
    obtain ⟨g1, h⟩ := h
    obtain ⟨g2, h⟩ := h
    refine b_icmp_gt 44 dX10_isField_27 g1 g2 (by decide) (fun c1 => ?_) (fun c1 => ?_)
    · have h := ifT c1 h
      refine b_iconst dX10_isField_44 ?_
      exact b_zret dX10_isField_45 rfl (Or.inr rfl) h
    · have h := ifF c1 h
      refine b_iload_n dX10_isField_30 rfl ?_
      refine b_iload_n dX10_isField_31 rfl ?_
      obtain ⟨g3, h⟩ := h
      obtain ⟨g4, h⟩ := h
      refine b_irem dX10_isField_32 g2 g3 g4 ?_
      obtain ⟨g5, h⟩ := h
      refine b_if_ne 38 dX10_isField_33 g5 (by decide) (fun c2 => ?_) (fun c2 => ?_)
      · have h := ifF c2 h
        refine b_iinc (ls' := [vI x0, vI (x1 + 1)]) dX10_isField_38 rfl rfl ?_
        refine b_goto 23 dX10_isField_41 (by decide) ?_
        exact ih _ _ _ h
      · have h := ifT (Decidable.of_not_not c2) h
        refine b_iconst dX10_isField_36 ?_
        exact b_zret dX10_isField_37 rfl (Or.inl rfl) h
theorem p_X10_isField {f : Nat} {Q : Int → MM → Prop} {T : MM → Prop} (hf : 1 ≤ f) (x0 : Int) (m : MM) (h : P_X10_isField x0 m Q) : CC f M_X10_isField [vI x0] m Q T := by
  refine CC.of (plainFor_of_name (by decide)) (Nat.le_of_ble_eq_true rfl) (ls := [vI x0, vU]) rfl ?_
  have h : (RI x0) ∧ (if x0 = 1 then Q 1 m else (if x0 < 2 then Q 0 m else (if x0 = 10000 then Q 0 m else ∃ nn, P_X10_isField_23 Q nn x0 2 m))) := h
  refine b_iload_n dX10_isField_0 rfl ?_
  refine b_iconst dX10_isField_1 ?_
  obtain ⟨g1, h⟩ := h
  refine b_icmp_ne 7 dX10_isField_2 g1 (by decide) (by decide) (fun c1 => ?_) (fun c1 => ?_)
  · have h := ifF c1 h
    refine b_iload_n dX10_isField_7 rfl ?_
    refine b_iconst dX10_isField_8 ?_
    refine b_icmp_lt 19 dX10_isField_9 g1 (by decide) (by decide) (fun c2 => ?_) (fun c2 => ?_)
    · have h := ifT c2 h
      refine b_iconst dX10_isField_19 ?_
      exact b_zret dX10_isField_20 rfl (Or.inl rfl) h
    · have h := ifF c2 h
      refine b_iload_n dX10_isField_12 rfl ?_
      refine b_sipush dX10_isField_13 (by decide) ?_
      refine b_icmp_ne 21 dX10_isField_16 g1 (by decide) (by decide) (fun c3 => ?_) (fun c3 => ?_)
      · have h := ifF c3 h
        refine b_iconst dX10_isField_21 ?_
        refine b_istore_n (ls' := [vI x0, vI 2]) dX10_isField_22 (Nat.le_of_ble_eq_true rfl) rfl ?_
        obtain ⟨nn, h⟩ := h
        exact pl_X10_isField_23 hf nn _ _ _ h
      · have h := ifT (Decidable.of_not_not c3) h
        refine b_iconst dX10_isField_19 ?_
        exact b_zret dX10_isField_20 rfl (Or.inl rfl) h
  · have h := ifT (Decidable.of_not_not c1) h
    refine b_iconst dX10_isField_5 ?_
    exact b_zret dX10_isField_6 rfl (Or.inr rfl) h
theorem dX10_later_2_0 : decode cX10_later_2 0 = .ok (.aload_n 0, 1) := by decide +kernel
theorem dX10_later_2_1 : decode cX10_later_2 1 = .ok (.getfield 256, 3) := by decide +kernel
theorem dX10_later_2_4 : decode cX10_later_2 4 = .ok (.aload_n 0, 1) := by decide +kernel
theorem dX10_later_2_5 : decode cX10_later_2 5 = .ok (.getfield 727, 3) := by decide +kernel
theorem dX10_later_2_8 : decode cX10_later_2 8 = .ok (.iload_n 1, 1) := by decide +kernel
theorem dX10_later_2_9 : decode cX10_later_2 9 = .ok (.iastore, 1) := by decide +kernel
theorem dX10_later_2_10 : decode cX10_later_2 10 = .ok (.aload_n 0, 1) := by decide +kernel
theorem dX10_later_2_11 : decode cX10_later_2 11 = .ok (.getfield 259, 3) := by decide +kernel
theorem dX10_later_2_14 : decode cX10_later_2 14 = .ok (.aload_n 0, 1) := by decide +kernel
theorem dX10_later_2_15 : decode cX10_later_2 15 = .ok (.getfield 727, 3) := by decide +kernel
theorem dX10_later_2_18 : decode cX10_later_2 18 = .ok (.iload_n 2, 1) := by decide +kernel
theorem dX10_later_2_19 : decode cX10_later_2 19 = .ok (.iastore, 1) := by decide +kernel
theorem dX10_later_2_20 : decode cX10_later_2 20 = .ok (.aload_n 0, 1) := by decide +kernel
theorem dX10_later_2_21 : decode cX10_later_2 21 = .ok (.getfield 262, 3) := by decide +kernel
theorem dX10_later_2_24 : decode cX10_later_2 24 = .ok (.aload_n 0, 1) := by decide +kernel
theorem dX10_later_2_25 : decode cX10_later_2 25 = .ok (.getfield 727, 3) := by decide +kernel
theorem dX10_later_2_28 : decode cX10_later_2 28 = .ok (.iload_n 3, 1) := by decide +kernel
theorem dX10_later_2_29 : decode cX10_later_2 29 = .ok (.iastore, 1) := by decide +kernel
theorem dX10_later_2_30 : decode cX10_later_2 30 = .ok (.aload_n 0, 1) := by decide +kernel
theorem dX10_later_2_31 : decode cX10_later_2 31 = .ok (.getfield 265, 3) := by decide +kernel
theorem dX10_later_2_34 : decode cX10_later_2 34 = .ok (.aload_n 0, 1) := by decide +kernel
theorem dX10_later_2_35 : decode cX10_later_2 35 = .ok (.getfield 727, 3) := by decide +kernel
theorem dX10_later_2_38 : decode cX10_later_2 38 = .ok (.iload 4, 2) := by decide +kernel
theorem dX10_later_2_40 : decode cX10_later_2 40 = .ok (.iastore, 1) := by decide +kernel
theorem dX10_later_2_41 : decode cX10_later_2 41 = .ok (.aload_n 0, 1) := by decide +kernel
theorem dX10_later_2_42 : decode cX10_later_2 42 = .ok (.getfield 268, 3) := by decide +kernel
theorem dX10_later_2_45 : decode cX10_later_2 45 = .ok (.aload_n 0, 1) := by decide +kernel
theorem dX10_later_2_46 : decode cX10_later_2 46 = .ok (.getfield 727, 3) := by decide +kernel
theorem dX10_later_2_49 : decode cX10_later_2 49 = .ok (.iload 5, 2) := by decide +kernel
theorem dX10_later_2_51 : decode cX10_later_2 51 = .ok (.iastore, 1) := by decide +kernel
theorem dX10_later_2_52 : decode cX10_later_2 52 = .ok (.aload_n 0, 1) := by decide +kernel
theorem dX10_later_2_53 : decode cX10_later_2 53 = .ok (.dup, 1) := by decide +kernel
theorem dX10_later_2_54 : decode cX10_later_2 54 = .ok (.getfield 727, 3) := by decide +kernel
theorem dX10_later_2_57 : decode cX10_later_2 57 = .ok (.iconst 1, 1) := by decide +kernel
theorem dX10_later_2_58 : decode cX10_later_2 58 = .ok (.iadd, 1) := by decide +kernel
theorem dX10_later_2_59 : decode cX10_later_2 59 = .ok (.putfield 727, 3) := by decide +kernel
theorem dX10_later_2_62 : decode cX10_later_2 62 = .ok (.return_, 1) := by decide +kernel
/-! AlgebraHouseModel.later(IIIII)V -/
def P_X10_later_2 (x1 : Int) (x2 : Int) (x3 : Int) (x4 : Int) (x5 : Int) (m : MM) (Q : Int → MM → Prop) : Prop := (0 ≤ (m 582 99) ∧ (m 582 99) < 12000) ∧ ∀ m1 : MM, m1 = up m 636 (m 582 99) x1 → (0 ≤ (m1 582 99) ∧ (m1 582 99) < 12000) ∧ ∀ m2 : MM, m2 = up m1 637 (m1 582 99) x2 → (0 ≤ (m2 582 99) ∧ (m2 582 99) < 12000) ∧ ∀ m3 : MM, m3 = up m2 638 (m2 582 99) x3 → (0 ≤ (m3 582 99) ∧ (m3 582 99) < 12000) ∧ ∀ m4 : MM, m4 = up m3 639 (m3 582 99) x4 → (0 ≤ (m4 582 99) ∧ (m4 582 99) < 12000) ∧ ∀ m5 : MM, m5 = up m4 640 (m4 582 99) x5 → ∀ m6 : MM, m6 = up m5 582 99 ((m5 582 99) + 1) → Q 0 m6
theorem p_X10_later_2 {f : Nat} {Q : Int → MM → Prop} {T : MM → Prop} (hf : 1 ≤ f) (x1 : Int) (x2 : Int) (x3 : Int) (x4 : Int) (x5 : Int) (m : MM) (h : P_X10_later_2 x1 x2 x3 x4 x5 m Q) : CC f M_X10_later_2 [vR 582, vI x1, vI x2, vI x3, vI x4, vI x5] m Q T := by
  refine CC.of (plainFor_of_name (by decide)) (Nat.le_of_ble_eq_true rfl) (ls := [vR 582, vI x1, vI x2, vI x3, vI x4, vI x5]) rfl ?_
  have h : (0 ≤ (m 582 99) ∧ (m 582 99) < 12000) ∧ ∀ m1 : MM, m1 = up m 636 (m 582 99) x1 → (0 ≤ (m1 582 99) ∧ (m1 582 99) < 12000) ∧ ∀ m2 : MM, m2 = up m1 637 (m1 582 99) x2 → (0 ≤ (m2 582 99) ∧ (m2 582 99) < 12000) ∧ ∀ m3 : MM, m3 = up m2 638 (m2 582 99) x3 → (0 ≤ (m3 582 99) ∧ (m3 582 99) < 12000) ∧ ∀ m4 : MM, m4 = up m3 639 (m3 582 99) x4 → (0 ≤ (m4 582 99) ∧ (m4 582 99) < 12000) ∧ ∀ m5 : MM, m5 = up m4 640 (m4 582 99) x5 → ∀ m6 : MM, m6 = up m5 582 99 ((m5 582 99) + 1) → Q 0 m6 := h
  refine b_aload_n dX10_later_2_0 rfl ?_
  refine b_getR dX10_later_2_1 fk_X10_256 ly_582 gg_582_94 ?_
  refine b_aload_n dX10_later_2_4 rfl ?_
  refine b_getI dX10_later_2_5 fk_X10_727 ly_582 ?_
  refine b_iload_n dX10_later_2_8 rfl ?_
  obtain ⟨g1, h⟩ := h
  refine b_iast dX10_later_2_9 ly_636 g1 (fun m1 em1 => ?_)
  have h := h m1 em1
  refine b_aload_n dX10_later_2_10 rfl ?_
  refine b_getR dX10_later_2_11 fk_X10_259 ly_582 gg_582_95 ?_
  refine b_aload_n dX10_later_2_14 rfl ?_
  refine b_getI dX10_later_2_15 fk_X10_727 ly_582 ?_
  refine b_iload_n dX10_later_2_18 rfl ?_
  obtain ⟨g2, h⟩ := h
  refine b_iast dX10_later_2_19 ly_637 g2 (fun m2 em2 => ?_)
  have h := h m2 em2
  refine b_aload_n dX10_later_2_20 rfl ?_
  refine b_getR dX10_later_2_21 fk_X10_262 ly_582 gg_582_96 ?_
  refine b_aload_n dX10_later_2_24 rfl ?_
  refine b_getI dX10_later_2_25 fk_X10_727 ly_582 ?_
  refine b_iload_n dX10_later_2_28 rfl ?_
  obtain ⟨g3, h⟩ := h
  refine b_iast dX10_later_2_29 ly_638 g3 (fun m3 em3 => ?_)
  have h := h m3 em3
  refine b_aload_n dX10_later_2_30 rfl ?_
  refine b_getR dX10_later_2_31 fk_X10_265 ly_582 gg_582_97 ?_
  refine b_aload_n dX10_later_2_34 rfl ?_
  refine b_getI dX10_later_2_35 fk_X10_727 ly_582 ?_
  refine b_iload dX10_later_2_38 rfl ?_
  obtain ⟨g4, h⟩ := h
  refine b_iast dX10_later_2_40 ly_639 g4 (fun m4 em4 => ?_)
  have h := h m4 em4
  refine b_aload_n dX10_later_2_41 rfl ?_
  refine b_getR dX10_later_2_42 fk_X10_268 ly_582 gg_582_98 ?_
  refine b_aload_n dX10_later_2_45 rfl ?_
  refine b_getI dX10_later_2_46 fk_X10_727 ly_582 ?_
  refine b_iload dX10_later_2_49 rfl ?_
  obtain ⟨g5, h⟩ := h
  refine b_iast dX10_later_2_51 ly_640 g5 (fun m5 em5 => ?_)
  have h := h m5 em5
  refine b_aload_n dX10_later_2_52 rfl ?_
  refine b_dup dX10_later_2_53 rfl ?_
  refine b_getI dX10_later_2_54 fk_X10_727 ly_582 ?_
  refine b_iconst dX10_later_2_57 ?_
  refine b_iadd dX10_later_2_58 ?_
  refine b_putI dX10_later_2_59 fk_X10_727 ly_582 (fun m6 em6 => ?_)
  have h := h m6 em6
  exact b_vret dX10_later_2_62 rfl h
theorem dX10_later_0 : decode cX10_later 0 = .ok (.aload_n 0, 1) := by decide +kernel
theorem dX10_later_1 : decode cX10_later 1 = .ok (.iconst 0, 1) := by decide +kernel
theorem dX10_later_2 : decode cX10_later 2 = .ok (.iload_n 1, 1) := by decide +kernel
theorem dX10_later_3 : decode cX10_later 3 = .ok (.iconst 0, 1) := by decide +kernel
theorem dX10_later_4 : decode cX10_later 4 = .ok (.iconst 0, 1) := by decide +kernel
theorem dX10_later_5 : decode cX10_later 5 = .ok (.iconst 0, 1) := by decide +kernel
theorem dX10_later_6 : decode cX10_later 6 = .ok (.invokevirtual 730, 3) := by decide +kernel
theorem dX10_later_9 : decode cX10_later 9 = .ok (.return_, 1) := by decide +kernel
/-! AlgebraHouseModel.later(I)V -/
def P_X10_later (x1 : Int) (m : MM) (Q : Int → MM → Prop) : Prop := P_X10_later_2 0 x1 0 0 0 m (fun r1 m1 => Q 0 m1)
theorem p_X10_later {f : Nat} {Q : Int → MM → Prop} {T : MM → Prop} (hf : 2 ≤ f) (x1 : Int) (m : MM) (h : P_X10_later x1 m Q) : CC f M_X10_later [vR 582, vI x1] m Q T := by
  refine CC.of (plainFor_of_name (by decide)) (Nat.le_of_ble_eq_true rfl) (ls := [vR 582, vI x1]) rfl ?_
  have h : P_X10_later_2 0 x1 0 0 0 m (fun r1 m1 => Q 0 m1) := h
  refine b_aload_n dX10_later_0 rfl ?_
  refine b_iconst dX10_later_1 ?_
  refine b_iload_n dX10_later_2 rfl ?_
  refine b_iconst dX10_later_3 ?_
  refine b_iconst dX10_later_4 ?_
  refine b_iconst dX10_later_5 ?_
  refine b_cVv (as := [vI 0, vI x1, vI 0, vI 0, vI 0]) (st := []) dX10_later_6 mf_X10_later_2 qs155 lk_X10_730 ly_582 rfl (p_X10_later_2 (f := 1) (Nat.le_refl _) _ _ _ _ _ _ h) (by omega) rfl rfl (Nat.le_of_ble_eq_true rfl) (by decide) rfl (fun _ => rfl) (fun r1 m1 h => ?_) (fun _ h => h)
  exact b_vret dX10_later_9 rfl h
theorem dX10_isLeft_0 : decode cX10_isLeft 0 = .ok (.iload_n 0, 1) := by decide +kernel
theorem dX10_isLeft_1 : decode cX10_isLeft 1 = .ok (.bipush 11, 2) := by decide +kernel
theorem dX10_isLeft_3 : decode cX10_isLeft 3 = .ok (.if_icmp .lt 13, 3) := by decide +kernel
theorem dX10_isLeft_6 : decode cX10_isLeft 6 = .ok (.iload_n 0, 1) := by decide +kernel
theorem dX10_isLeft_7 : decode cX10_isLeft 7 = .ok (.bipush 25, 2) := by decide +kernel
theorem dX10_isLeft_9 : decode cX10_isLeft 9 = .ok (.if_icmp .gt 7, 3) := by decide +kernel
theorem dX10_isLeft_12 : decode cX10_isLeft 12 = .ok (.iconst 1, 1) := by decide +kernel
theorem dX10_isLeft_13 : decode cX10_isLeft 13 = .ok (.goto 4, 3) := by decide +kernel
theorem dX10_isLeft_16 : decode cX10_isLeft 16 = .ok (.iconst 0, 1) := by decide +kernel
theorem dX10_isLeft_17 : decode cX10_isLeft 17 = .ok (.ireturn, 1) := by decide +kernel
/-! AlgebraHouseModel.isLeft(I)Z -/
def P_X10_isLeft (x0 : Int) (m : MM) (Q : Int → MM → Prop) : Prop := (RI x0) ∧ (if x0 < 11 then Q 0 m else (if 25 < x0 then Q 0 m else Q 1 m))
theorem p_X10_isLeft {f : Nat} {Q : Int → MM → Prop} {T : MM → Prop} (hf : 1 ≤ f) (x0 : Int) (m : MM) (h : P_X10_isLeft x0 m Q) : CC f M_X10_isLeft [vI x0] m Q T := by
  refine CC.of (plainFor_of_name (by decide)) (Nat.le_of_ble_eq_true rfl) (ls := [vI x0]) rfl ?_
  have h : (RI x0) ∧ (if x0 < 11 then Q 0 m else (if 25 < x0 then Q 0 m else Q 1 m)) := h
  refine b_iload_n dX10_isLeft_0 rfl ?_
  refine b_bipush dX10_isLeft_1 (by decide) ?_
  obtain ⟨g1, h⟩ := h
  refine b_icmp_lt 16 dX10_isLeft_3 g1 (by decide) (by decide) (fun c1 => ?_) (fun c1 => ?_)
  · have h := ifT c1 h
    refine b_iconst dX10_isLeft_16 ?_
    exact b_zret dX10_isLeft_17 rfl (Or.inl rfl) h
  · have h := ifF c1 h
    refine b_iload_n dX10_isLeft_6 rfl ?_
    refine b_bipush dX10_isLeft_7 (by decide) ?_
    refine b_icmp_gt 16 dX10_isLeft_9 g1 (by decide) (by decide) (fun c2 => ?_) (fun c2 => ?_)
    · have h := ifT c2 h
      refine b_iconst dX10_isLeft_16 ?_
      exact b_zret dX10_isLeft_17 rfl (Or.inl rfl) h
    · have h := ifF c2 h
      refine b_iconst dX10_isLeft_12 ?_
      refine b_goto 17 dX10_isLeft_13 (by decide) ?_
      exact b_zret dX10_isLeft_17 rfl (Or.inr rfl) h
theorem dX10_joins_0 : decode cX10_joins 0 = .ok (.iload_n 1, 1) := by decide +kernel
theorem dX10_joins_1 : decode cX10_joins 1 = .ok (.bipush (-2), 2) := by decide +kernel
theorem dX10_joins_3 : decode cX10_joins 3 = .ok (.if_icmp .eq 10, 3) := by decide +kernel
theorem dX10_joins_6 : decode cX10_joins 6 = .ok (.iload 4, 2) := by decide +kernel
theorem dX10_joins_8 : decode cX10_joins 8 = .ok (.bipush (-2), 2) := by decide +kernel
theorem dX10_joins_10 : decode cX10_joins 10 = .ok (.if_icmp .ne 7, 3) := by decide +kernel
theorem dX10_joins_13 : decode cX10_joins 13 = .ok (.iconst 1, 1) := by decide +kernel
theorem dX10_joins_14 : decode cX10_joins 14 = .ok (.goto 4, 3) := by decide +kernel
theorem dX10_joins_17 : decode cX10_joins 17 = .ok (.iconst 0, 1) := by decide +kernel
theorem dX10_joins_18 : decode cX10_joins 18 = .ok (.istore 7, 2) := by decide +kernel
theorem dX10_joins_20 : decode cX10_joins 20 = .ok (.iload_n 1, 1) := by decide +kernel
theorem dX10_joins_21 : decode cX10_joins 21 = .ok (.iload 4, 2) := by decide +kernel
theorem dX10_joins_23 : decode cX10_joins 23 = .ok (.if_icmp .eq 17, 3) := by decide +kernel
theorem dX10_joins_26 : decode cX10_joins 26 = .ok (.iload 7, 2) := by decide +kernel
theorem dX10_joins_28 : decode cX10_joins 28 = .ok (.ifCond .ne 16, 3) := by decide +kernel
theorem dX10_joins_31 : decode cX10_joins 31 = .ok (.iload_n 1, 1) := by decide +kernel
theorem dX10_joins_32 : decode cX10_joins 32 = .ok (.ifCond .eq 8, 3) := by decide +kernel
theorem dX10_joins_35 : decode cX10_joins 35 = .ok (.iload 4, 2) := by decide +kernel
theorem dX10_joins_37 : decode cX10_joins 37 = .ok (.ifCond .ne 7, 3) := by decide +kernel
theorem dX10_joins_40 : decode cX10_joins 40 = .ok (.iconst 1, 1) := by decide +kernel
theorem dX10_joins_41 : decode cX10_joins 41 = .ok (.goto 4, 3) := by decide +kernel
theorem dX10_joins_44 : decode cX10_joins 44 = .ok (.iconst 0, 1) := by decide +kernel
theorem dX10_joins_45 : decode cX10_joins 45 = .ok (.istore 8, 2) := by decide +kernel
theorem dX10_joins_47 : decode cX10_joins 47 = .ok (.iload_n 3, 1) := by decide +kernel
theorem dX10_joins_48 : decode cX10_joins 48 = .ok (.iload 6, 2) := by decide +kernel
theorem dX10_joins_50 : decode cX10_joins 50 = .ok (.if_icmp .eq 12, 3) := by decide +kernel
theorem dX10_joins_53 : decode cX10_joins 53 = .ok (.iload_n 3, 1) := by decide +kernel
theorem dX10_joins_54 : decode cX10_joins 54 = .ok (.ifCond .eq 8, 3) := by decide +kernel
theorem dX10_joins_57 : decode cX10_joins 57 = .ok (.iload 6, 2) := by decide +kernel
theorem dX10_joins_59 : decode cX10_joins 59 = .ok (.ifCond .ne 7, 3) := by decide +kernel
theorem dX10_joins_62 : decode cX10_joins 62 = .ok (.iconst 1, 1) := by decide +kernel
theorem dX10_joins_63 : decode cX10_joins 63 = .ok (.goto 4, 3) := by decide +kernel
theorem dX10_joins_66 : decode cX10_joins 66 = .ok (.iconst 0, 1) := by decide +kernel
theorem dX10_joins_67 : decode cX10_joins 67 = .ok (.istore 9, 2) := by decide +kernel
theorem dX10_joins_69 : decode cX10_joins 69 = .ok (.aload_n 0, 1) := by decide +kernel
theorem dX10_joins_70 : decode cX10_joins 70 = .ok (.iload_n 1, 1) := by decide +kernel
theorem dX10_joins_71 : decode cX10_joins 71 = .ok (.ifCond .ne 8, 3) := by decide +kernel
theorem dX10_joins_74 : decode cX10_joins 74 = .ok (.iload 4, 2) := by decide +kernel
theorem dX10_joins_76 : decode cX10_joins 76 = .ok (.goto 4, 3) := by decide +kernel
theorem dX10_joins_79 : decode cX10_joins 79 = .ok (.iload_n 1, 1) := by decide +kernel
theorem dX10_joins_80 : decode cX10_joins 80 = .ok (.putfield 442, 3) := by decide +kernel
theorem dX10_joins_83 : decode cX10_joins 83 = .ok (.aload_n 0, 1) := by decide +kernel
theorem dX10_joins_84 : decode cX10_joins 84 = .ok (.iload_n 2, 1) := by decide +kernel
theorem dX10_joins_85 : decode cX10_joins 85 = .ok (.iload 5, 2) := by decide +kernel
theorem dX10_joins_87 : decode cX10_joins 87 = .ok (.invokestatic 445, 3) := by decide +kernel
theorem dX10_joins_90 : decode cX10_joins 90 = .ok (.putfield 450, 3) := by decide +kernel
theorem dX10_joins_93 : decode cX10_joins 93 = .ok (.aload_n 0, 1) := by decide +kernel
theorem dX10_joins_94 : decode cX10_joins 94 = .ok (.iload_n 3, 1) := by decide +kernel
theorem dX10_joins_95 : decode cX10_joins 95 = .ok (.iload 6, 2) := by decide +kernel
theorem dX10_joins_97 : decode cX10_joins 97 = .ok (.invokestatic 445, 3) := by decide +kernel
theorem dX10_joins_100 : decode cX10_joins 100 = .ok (.putfield 453, 3) := by decide +kernel
theorem dX10_joins_103 : decode cX10_joins 103 = .ok (.iload_n 1, 1) := by decide +kernel
theorem dX10_joins_104 : decode cX10_joins 104 = .ok (.bipush (-9), 2) := by decide +kernel
theorem dX10_joins_106 : decode cX10_joins 106 = .ok (.if_icmp .eq 24, 3) := by decide +kernel
theorem dX10_joins_109 : decode cX10_joins 109 = .ok (.iload 4, 2) := by decide +kernel
theorem dX10_joins_111 : decode cX10_joins 111 = .ok (.bipush (-9), 2) := by decide +kernel
theorem dX10_joins_113 : decode cX10_joins 113 = .ok (.if_icmp .eq 17, 3) := by decide +kernel
theorem dX10_joins_116 : decode cX10_joins 116 = .ok (.iload 8, 2) := by decide +kernel
theorem dX10_joins_118 : decode cX10_joins 118 = .ok (.ifCond .eq 12, 3) := by decide +kernel
theorem dX10_joins_121 : decode cX10_joins 121 = .ok (.iload 9, 2) := by decide +kernel
theorem dX10_joins_123 : decode cX10_joins 123 = .ok (.ifCond .eq 7, 3) := by decide +kernel
theorem dX10_joins_126 : decode cX10_joins 126 = .ok (.iconst 1, 1) := by decide +kernel
theorem dX10_joins_127 : decode cX10_joins 127 = .ok (.goto 4, 3) := by decide +kernel
theorem dX10_joins_130 : decode cX10_joins 130 = .ok (.iconst 0, 1) := by decide +kernel
theorem dX10_joins_131 : decode cX10_joins 131 = .ok (.ireturn, 1) := by decide +kernel
/-! AlgebraHouseModel.joins(IIIIII)Z -/
def P_X10_joins (x1 : Int) (x2 : Int) (x3 : Int) (x4 : Int) (x5 : Int) (x6 : Int) (m : MM) (Q : Int → MM → Prop) : Prop := ((RI x1) ∧ (if x1 = (-2) then True else ((RI x4)))) ∧ ((RI x1) ∧ (RI x4) ∧ (if x1 = x4 then True else ((RI (if x1 = (-2) then 1 else (if x4 = (-2) then 1 else 0 : Int) : Int))))) ∧ ((RI x3) ∧ (RI x6)) ∧ ((RI x1)) ∧ ∀ m1 : MM, m1 = up m 582 65 (if x1 = 0 then x4 else x1 : Int) → P_J4_max x2 x5 m1 (fun r1 m2 => ∀ m3 : MM, m3 = up m2 582 66 r1 → P_J4_max x3 x6 m3 (fun r2 m4 => ∀ m5 : MM, m5 = up m4 582 67 r2 → (RI x1) ∧ (if x1 = (-9) then Q 0 m5 else (RI x4) ∧ (if x4 = (-9) then Q 0 m5 else (RI (if x1 = x4 then 1 else (if (if x1 = (-2) then 1 else (if x4 = (-2) then 1 else 0 : Int) : Int) = 0 then (if x1 = 0 then 1 else (if x4 = 0 then 1 else 0 : Int) : Int) else 0 : Int) : Int)) ∧ (if (if x1 = x4 then 1 else (if (if x1 = (-2) then 1 else (if x4 = (-2) then 1 else 0 : Int) : Int) = 0 then (if x1 = 0 then 1 else (if x4 = 0 then 1 else 0 : Int) : Int) else 0 : Int) : Int) = 0 then Q 0 m5 else (RI (if x3 = x6 then 1 else (if x3 = 0 then 1 else (if x6 = 0 then 1 else 0 : Int) : Int) : Int)) ∧ (if (if x3 = x6 then 1 else (if x3 = 0 then 1 else (if x6 = 0 then 1 else 0 : Int) : Int) : Int) = 0 then Q 0 m5 else Q 1 m5))))))
theorem p_X10_joins {f : Nat} {Q : Int → MM → Prop} {T : MM → Prop} (hf : 2 ≤ f) (x1 : Int) (x2 : Int) (x3 : Int) (x4 : Int) (x5 : Int) (x6 : Int) (m : MM) (h : P_X10_joins x1 x2 x3 x4 x5 x6 m Q) : CC f M_X10_joins [vR 582, vI x1, vI x2, vI x3, vI x4, vI x5, vI x6] m Q T := by
  refine CC.of (plainFor_of_name (by decide)) (Nat.le_of_ble_eq_true rfl) (ls := [vR 582, vI x1, vI x2, vI x3, vI x4, vI x5, vI x6, vU, vU, vU]) rfl ?_
  have h : ((RI x1) ∧ (if x1 = (-2) then True else ((RI x4)))) ∧ ((RI x1) ∧ (RI x4) ∧ (if x1 = x4 then True else ((RI (if x1 = (-2) then 1 else (if x4 = (-2) then 1 else 0 : Int) : Int))))) ∧ ((RI x3) ∧ (RI x6)) ∧ ((RI x1)) ∧ ∀ m1 : MM, m1 = up m 582 65 (if x1 = 0 then x4 else x1 : Int) → P_J4_max x2 x5 m1 (fun r1 m2 => ∀ m3 : MM, m3 = up m2 582 66 r1 → P_J4_max x3 x6 m3 (fun r2 m4 => ∀ m5 : MM, m5 = up m4 582 67 r2 → (RI x1) ∧ (if x1 = (-9) then Q 0 m5 else (RI x4) ∧ (if x4 = (-9) then Q 0 m5 else (RI (if x1 = x4 then 1 else (if (if x1 = (-2) then 1 else (if x4 = (-2) then 1 else 0 : Int) : Int) = 0 then (if x1 = 0 then 1 else (if x4 = 0 then 1 else 0 : Int) : Int) else 0 : Int) : Int)) ∧ (if (if x1 = x4 then 1 else (if (if x1 = (-2) then 1 else (if x4 = (-2) then 1 else 0 : Int) : Int) = 0 then (if x1 = 0 then 1 else (if x4 = 0 then 1 else 0 : Int) : Int) else 0 : Int) : Int) = 0 then Q 0 m5 else (RI (if x3 = x6 then 1 else (if x3 = 0 then 1 else (if x6 = 0 then 1 else 0 : Int) : Int) : Int)) ∧ (if (if x3 = x6 then 1 else (if x3 = 0 then 1 else (if x6 = 0 then 1 else 0 : Int) : Int) : Int) = 0 then Q 0 m5 else Q 1 m5)))))) := h
  refine b_iload_n dX10_joins_0 rfl ?_
  refine b_bipush dX10_joins_1 (by decide) ?_
  obtain ⟨hs, h⟩ := h
  have K : B f M_X10_joins 18 [vR 582, vI x1, vI x2, vI x3, vI x4, vI x5, vI x6, vU, vU, vU] [vI (if x1 = (-2) then 1 else (if x4 = (-2) then 1 else 0 : Int) : Int)] m Q T := by
    clear hs
    refine b_istore (ls' := [vR 582, vI x1, vI x2, vI x3, vI x4, vI x5, vI x6, vI (if x1 = (-2) then 1 else (if x4 = (-2) then 1 else 0 : Int) : Int), vU, vU]) dX10_joins_18 (Nat.le_of_ble_eq_true rfl) rfl ?_
    refine b_iload_n dX10_joins_20 rfl ?_
    refine b_iload dX10_joins_21 rfl ?_
    obtain ⟨hs, h⟩ := h
    have K : B f M_X10_joins 45 [vR 582, vI x1, vI x2, vI x3, vI x4, vI x5, vI x6, vI (if x1 = (-2) then 1 else (if x4 = (-2) then 1 else 0 : Int) : Int), vU, vU] [vI (if x1 = x4 then 1 else (if (if x1 = (-2) then 1 else (if x4 = (-2) then 1 else 0 : Int) : Int) = 0 then (if x1 = 0 then 1 else (if x4 = 0 then 1 else 0 : Int) : Int) else 0 : Int) : Int)] m Q T := by
      clear hs
      refine b_istore (ls' := [vR 582, vI x1, vI x2, vI x3, vI x4, vI x5, vI x6, vI (if x1 = (-2) then 1 else (if x4 = (-2) then 1 else 0 : Int) : Int), vI (if x1 = x4 then 1 else (if (if x1 = (-2) then 1 else (if x4 = (-2) then 1 else 0 : Int) : Int) = 0 then (if x1 = 0 then 1 else (if x4 = 0 then 1 else 0 : Int) : Int) else 0 : Int) : Int), vU]) dX10_joins_45 (Nat.le_of_ble_eq_true rfl) rfl ?_
      refine b_iload_n dX10_joins_47 rfl ?_
      refine b_iload dX10_joins_48 rfl ?_
      obtain ⟨hs, h⟩ := h
      have K : B f M_X10_joins 67 [vR 582, vI x1, vI x2, vI x3, vI x4, vI x5, vI x6, vI (if x1 = (-2) then 1 else (if x4 = (-2) then 1 else 0 : Int) : Int), vI (if x1 = x4 then 1 else (if (if x1 = (-2) then 1 else (if x4 = (-2) then 1 else 0 : Int) : Int) = 0 then (if x1 = 0 then 1 else (if x4 = 0 then 1 else 0 : Int) : Int) else 0 : Int) : Int), vU] [vI (if x3 = x6 then 1 else (if x3 = 0 then 1 else (if x6 = 0 then 1 else 0 : Int) : Int) : Int)] m Q T := by
        clear hs
        refine b_istore (ls' := [vR 582, vI x1, vI x2, vI x3, vI x4, vI x5, vI x6, vI (if x1 = (-2) then 1 else (if x4 = (-2) then 1 else 0 : Int) : Int), vI (if x1 = x4 then 1 else (if (if x1 = (-2) then 1 else (if x4 = (-2) then 1 else 0 : Int) : Int) = 0 then (if x1 = 0 then 1 else (if x4 = 0 then 1 else 0 : Int) : Int) else 0 : Int) : Int), vI (if x3 = x6 then 1 else (if x3 = 0 then 1 else (if x6 = 0 then 1 else 0 : Int) : Int) : Int)]) dX10_joins_67 (Nat.le_of_ble_eq_true rfl) rfl ?_
        refine b_aload_n dX10_joins_69 rfl ?_
        refine b_iload_n dX10_joins_70 rfl ?_
        obtain ⟨hs, h⟩ := h
        have K : B f M_X10_joins 80 [vR 582, vI x1, vI x2, vI x3, vI x4, vI x5, vI x6, vI (if x1 = (-2) then 1 else (if x4 = (-2) then 1 else 0 : Int) : Int), vI (if x1 = x4 then 1 else (if (if x1 = (-2) then 1 else (if x4 = (-2) then 1 else 0 : Int) : Int) = 0 then (if x1 = 0 then 1 else (if x4 = 0 then 1 else 0 : Int) : Int) else 0 : Int) : Int), vI (if x3 = x6 then 1 else (if x3 = 0 then 1 else (if x6 = 0 then 1 else 0 : Int) : Int) : Int)] [vI (if x1 = 0 then x4 else x1 : Int), vR 582] m Q T := by
          clear hs
          refine b_putI dX10_joins_80 fk_X10_442 ly_582 (fun m1 em1 => ?_)
          have h := h m1 em1
          refine b_aload_n dX10_joins_83 rfl ?_
          refine b_iload_n dX10_joins_84 rfl ?_
          refine b_iload dX10_joins_85 rfl ?_
          refine b_cSi (as := [vI x2, vI x5]) (st := [vR 582]) dX10_joins_87 mf_J4_max lk_X10_445 (p_J4_max (f := 1) (Nat.le_refl _) _ _ _ h) (by omega) rfl rfl (Nat.le_of_ble_eq_true rfl) (by decide) rfl (fun _ => rfl) (fun r1 m2 h => ?_) (fun _ h => h)
          refine b_putI dX10_joins_90 fk_X10_450 ly_582 (fun m3 em3 => ?_)
          have h := h m3 em3
          refine b_aload_n dX10_joins_93 rfl ?_
          refine b_iload_n dX10_joins_94 rfl ?_
          refine b_iload dX10_joins_95 rfl ?_
          refine b_cSi (as := [vI x3, vI x6]) (st := [vR 582]) dX10_joins_97 mf_J4_max lk_X10_445 (p_J4_max (f := 1) (Nat.le_refl _) _ _ _ h) (by omega) rfl rfl (Nat.le_of_ble_eq_true rfl) (by decide) rfl (fun _ => rfl) (fun r2 m4 h => ?_) (fun _ h => h)
          refine b_putI dX10_joins_100 fk_X10_453 ly_582 (fun m5 em5 => ?_)
          have h := h m5 em5
          refine b_iload_n dX10_joins_103 rfl ?_
          refine b_bipush dX10_joins_104 (by decide) ?_
          obtain ⟨g9, h⟩ := h
          refine b_icmp_eq 130 dX10_joins_106 g9 (by decide) (by decide) (fun c1 => ?_) (fun c1 => ?_)
          · have h := ifT c1 h
            refine b_iconst dX10_joins_130 ?_
            exact b_zret dX10_joins_131 rfl (Or.inl rfl) h
          · have h := ifF c1 h
            refine b_iload dX10_joins_109 rfl ?_
            refine b_bipush dX10_joins_111 (by decide) ?_
            obtain ⟨g10, h⟩ := h
            refine b_icmp_eq 130 dX10_joins_113 g10 (by decide) (by decide) (fun c2 => ?_) (fun c2 => ?_)
            · have h := ifT c2 h
              refine b_iconst dX10_joins_130 ?_
              exact b_zret dX10_joins_131 rfl (Or.inl rfl) h
            · have h := ifF c2 h
              refine b_iload dX10_joins_116 rfl ?_
              obtain ⟨g11, h⟩ := h
              refine b_if_eq 130 dX10_joins_118 g11 (by decide) (fun c3 => ?_) (fun c3 => ?_)
              · have h := ifT c3 h
                refine b_iconst dX10_joins_130 ?_
                exact b_zret dX10_joins_131 rfl (Or.inl rfl) h
              · have h := ifF c3 h
                refine b_iload dX10_joins_121 rfl ?_
                obtain ⟨g12, h⟩ := h
                refine b_if_eq 130 dX10_joins_123 g12 (by decide) (fun c4 => ?_) (fun c4 => ?_)
                · have h := ifT c4 h
                  refine b_iconst dX10_joins_130 ?_
                  exact b_zret dX10_joins_131 rfl (Or.inl rfl) h
                · have h := ifF c4 h
                  refine b_iconst dX10_joins_126 ?_
                  refine b_goto 131 dX10_joins_127 (by decide) ?_
                  exact b_zret dX10_joins_131 rfl (Or.inr rfl) h
        have g8 := hs
        refine b_if_ne 79 dX10_joins_71 g8 (by decide) (fun c5 => ?_) (fun c5 => ?_)
        ·
          refine b_iload_n dX10_joins_79 rfl ?_
          exact Eq.mp (congrArg (fun z => B f M_X10_joins 80 [vR 582, vI x1, vI x2, vI x3, vI x4, vI x5, vI x6, vI (if x1 = (-2) then 1 else (if x4 = (-2) then 1 else 0 : Int) : Int), vI (if x1 = x4 then 1 else (if (if x1 = (-2) then 1 else (if x4 = (-2) then 1 else 0 : Int) : Int) = 0 then (if x1 = 0 then 1 else (if x4 = 0 then 1 else 0 : Int) : Int) else 0 : Int) : Int), vI (if x3 = x6 then 1 else (if x3 = 0 then 1 else (if x6 = 0 then 1 else 0 : Int) : Int) : Int)] (vI z :: [vR 582]) m Q T) (show (if x1 = 0 then x4 else x1 : Int) = x1 by rw [if_neg c5])) K
        ·
          have c5 := Decidable.of_not_not c5
          refine b_iload dX10_joins_74 rfl ?_
          refine b_goto 80 dX10_joins_76 (by decide) ?_
          exact Eq.mp (congrArg (fun z => B f M_X10_joins 80 [vR 582, vI x1, vI x2, vI x3, vI x4, vI x5, vI x6, vI (if x1 = (-2) then 1 else (if x4 = (-2) then 1 else 0 : Int) : Int), vI (if x1 = x4 then 1 else (if (if x1 = (-2) then 1 else (if x4 = (-2) then 1 else 0 : Int) : Int) = 0 then (if x1 = 0 then 1 else (if x4 = 0 then 1 else 0 : Int) : Int) else 0 : Int) : Int), vI (if x3 = x6 then 1 else (if x3 = 0 then 1 else (if x6 = 0 then 1 else 0 : Int) : Int) : Int)] (vI z :: [vR 582]) m Q T) (show (if x1 = 0 then x4 else x1 : Int) = x4 by rw [if_pos c5])) K
      obtain ⟨g6, g7⟩ := hs
      refine b_icmp_eq 62 dX10_joins_50 g6 g7 (by decide) (fun c6 => ?_) (fun c6 => ?_)
      ·
        refine b_iconst dX10_joins_62 ?_
        refine b_goto 67 dX10_joins_63 (by decide) ?_
        exact Eq.mp (congrArg (fun z => B f M_X10_joins 67 [vR 582, vI x1, vI x2, vI x3, vI x4, vI x5, vI x6, vI (if x1 = (-2) then 1 else (if x4 = (-2) then 1 else 0 : Int) : Int), vI (if x1 = x4 then 1 else (if (if x1 = (-2) then 1 else (if x4 = (-2) then 1 else 0 : Int) : Int) = 0 then (if x1 = 0 then 1 else (if x4 = 0 then 1 else 0 : Int) : Int) else 0 : Int) : Int), vU] (vI z :: []) m Q T) (show (if x3 = x6 then 1 else (if x3 = 0 then 1 else (if x6 = 0 then 1 else 0 : Int) : Int) : Int) = 1 by rw [if_pos c6])) K
      ·
        refine b_iload_n dX10_joins_53 rfl ?_
        refine b_if_eq 62 dX10_joins_54 g6 (by decide) (fun c7 => ?_) (fun c7 => ?_)
        ·
          refine b_iconst dX10_joins_62 ?_
          refine b_goto 67 dX10_joins_63 (by decide) ?_
          exact Eq.mp (congrArg (fun z => B f M_X10_joins 67 [vR 582, vI x1, vI x2, vI x3, vI x4, vI x5, vI x6, vI (if x1 = (-2) then 1 else (if x4 = (-2) then 1 else 0 : Int) : Int), vI (if x1 = x4 then 1 else (if (if x1 = (-2) then 1 else (if x4 = (-2) then 1 else 0 : Int) : Int) = 0 then (if x1 = 0 then 1 else (if x4 = 0 then 1 else 0 : Int) : Int) else 0 : Int) : Int), vU] (vI z :: []) m Q T) (show (if x3 = x6 then 1 else (if x3 = 0 then 1 else (if x6 = 0 then 1 else 0 : Int) : Int) : Int) = 1 by rw [if_neg c6, if_pos c7])) K
        ·
          refine b_iload dX10_joins_57 rfl ?_
          refine b_if_ne 66 dX10_joins_59 g7 (by decide) (fun c8 => ?_) (fun c8 => ?_)
          ·
            refine b_iconst dX10_joins_66 ?_
            exact Eq.mp (congrArg (fun z => B f M_X10_joins 67 [vR 582, vI x1, vI x2, vI x3, vI x4, vI x5, vI x6, vI (if x1 = (-2) then 1 else (if x4 = (-2) then 1 else 0 : Int) : Int), vI (if x1 = x4 then 1 else (if (if x1 = (-2) then 1 else (if x4 = (-2) then 1 else 0 : Int) : Int) = 0 then (if x1 = 0 then 1 else (if x4 = 0 then 1 else 0 : Int) : Int) else 0 : Int) : Int), vU] (vI z :: []) m Q T) (show (if x3 = x6 then 1 else (if x3 = 0 then 1 else (if x6 = 0 then 1 else 0 : Int) : Int) : Int) = 0 by rw [if_neg c6, if_neg c7, if_neg c8])) K
          ·
            have c8 := Decidable.of_not_not c8
            refine b_iconst dX10_joins_62 ?_
            refine b_goto 67 dX10_joins_63 (by decide) ?_
            exact Eq.mp (congrArg (fun z => B f M_X10_joins 67 [vR 582, vI x1, vI x2, vI x3, vI x4, vI x5, vI x6, vI (if x1 = (-2) then 1 else (if x4 = (-2) then 1 else 0 : Int) : Int), vI (if x1 = x4 then 1 else (if (if x1 = (-2) then 1 else (if x4 = (-2) then 1 else 0 : Int) : Int) = 0 then (if x1 = 0 then 1 else (if x4 = 0 then 1 else 0 : Int) : Int) else 0 : Int) : Int), vU] (vI z :: []) m Q T) (show (if x3 = x6 then 1 else (if x3 = 0 then 1 else (if x6 = 0 then 1 else 0 : Int) : Int) : Int) = 1 by rw [if_neg c6, if_neg c7, if_pos c8])) K
    obtain ⟨g3, g4, hs⟩ := hs
    refine b_icmp_eq 40 dX10_joins_23 g3 g4 (by decide) (fun c9 => ?_) (fun c9 => ?_)
    ·
      refine b_iconst dX10_joins_40 ?_
      refine b_goto 45 dX10_joins_41 (by decide) ?_
      exact Eq.mp (congrArg (fun z => B f M_X10_joins 45 [vR 582, vI x1, vI x2, vI x3, vI x4, vI x5, vI x6, vI (if x1 = (-2) then 1 else (if x4 = (-2) then 1 else 0 : Int) : Int), vU, vU] (vI z :: []) m Q T) (show (if x1 = x4 then 1 else (if (if x1 = (-2) then 1 else (if x4 = (-2) then 1 else 0 : Int) : Int) = 0 then (if x1 = 0 then 1 else (if x4 = 0 then 1 else 0 : Int) : Int) else 0 : Int) : Int) = 1 by rw [if_pos c9])) K
    ·
      have hs := ifF c9 hs
      have g5 := hs
      refine b_iload dX10_joins_26 rfl ?_
      refine b_if_ne 44 dX10_joins_28 g5 (by decide) (fun c10 => ?_) (fun c10 => ?_)
      ·
        refine b_iconst dX10_joins_44 ?_
        exact Eq.mp (congrArg (fun z => B f M_X10_joins 45 [vR 582, vI x1, vI x2, vI x3, vI x4, vI x5, vI x6, vI (if x1 = (-2) then 1 else (if x4 = (-2) then 1 else 0 : Int) : Int), vU, vU] (vI z :: []) m Q T) (show (if x1 = x4 then 1 else (if (if x1 = (-2) then 1 else (if x4 = (-2) then 1 else 0 : Int) : Int) = 0 then (if x1 = 0 then 1 else (if x4 = 0 then 1 else 0 : Int) : Int) else 0 : Int) : Int) = 0 by rw [if_neg c9, if_neg c10])) K
      ·
        have c10 := Decidable.of_not_not c10
        refine b_iload_n dX10_joins_31 rfl ?_
        refine b_if_eq 40 dX10_joins_32 g3 (by decide) (fun c11 => ?_) (fun c11 => ?_)
        ·
          refine b_iconst dX10_joins_40 ?_
          refine b_goto 45 dX10_joins_41 (by decide) ?_
          exact Eq.mp (congrArg (fun z => B f M_X10_joins 45 [vR 582, vI x1, vI x2, vI x3, vI x4, vI x5, vI x6, vI (if x1 = (-2) then 1 else (if x4 = (-2) then 1 else 0 : Int) : Int), vU, vU] (vI z :: []) m Q T) (show (if x1 = x4 then 1 else (if (if x1 = (-2) then 1 else (if x4 = (-2) then 1 else 0 : Int) : Int) = 0 then (if x1 = 0 then 1 else (if x4 = 0 then 1 else 0 : Int) : Int) else 0 : Int) : Int) = 1 by rw [if_neg c9, if_pos c10, if_pos c11])) K
        ·
          refine b_iload dX10_joins_35 rfl ?_
          refine b_if_ne 44 dX10_joins_37 g4 (by decide) (fun c12 => ?_) (fun c12 => ?_)
          ·
            refine b_iconst dX10_joins_44 ?_
            exact Eq.mp (congrArg (fun z => B f M_X10_joins 45 [vR 582, vI x1, vI x2, vI x3, vI x4, vI x5, vI x6, vI (if x1 = (-2) then 1 else (if x4 = (-2) then 1 else 0 : Int) : Int), vU, vU] (vI z :: []) m Q T) (show (if x1 = x4 then 1 else (if (if x1 = (-2) then 1 else (if x4 = (-2) then 1 else 0 : Int) : Int) = 0 then (if x1 = 0 then 1 else (if x4 = 0 then 1 else 0 : Int) : Int) else 0 : Int) : Int) = 0 by rw [if_neg c9, if_pos c10, if_neg c11, if_neg c12])) K
          ·
            have c12 := Decidable.of_not_not c12
            refine b_iconst dX10_joins_40 ?_
            refine b_goto 45 dX10_joins_41 (by decide) ?_
            exact Eq.mp (congrArg (fun z => B f M_X10_joins 45 [vR 582, vI x1, vI x2, vI x3, vI x4, vI x5, vI x6, vI (if x1 = (-2) then 1 else (if x4 = (-2) then 1 else 0 : Int) : Int), vU, vU] (vI z :: []) m Q T) (show (if x1 = x4 then 1 else (if (if x1 = (-2) then 1 else (if x4 = (-2) then 1 else 0 : Int) : Int) = 0 then (if x1 = 0 then 1 else (if x4 = 0 then 1 else 0 : Int) : Int) else 0 : Int) : Int) = 1 by rw [if_neg c9, if_pos c10, if_neg c11, if_pos c12])) K
  obtain ⟨g1, hs⟩ := hs
  refine b_icmp_eq 13 dX10_joins_3 g1 (by decide) (by decide) (fun c13 => ?_) (fun c13 => ?_)
  ·
    refine b_iconst dX10_joins_13 ?_
    refine b_goto 18 dX10_joins_14 (by decide) ?_
    exact Eq.mp (congrArg (fun z => B f M_X10_joins 18 [vR 582, vI x1, vI x2, vI x3, vI x4, vI x5, vI x6, vU, vU, vU] (vI z :: []) m Q T) (show (if x1 = (-2) then 1 else (if x4 = (-2) then 1 else 0 : Int) : Int) = 1 by rw [if_pos c13])) K
  ·
    have hs := ifF c13 hs
    have g2 := hs
    refine b_iload dX10_joins_6 rfl ?_
    refine b_bipush dX10_joins_8 (by decide) ?_
    refine b_icmp_ne 17 dX10_joins_10 g2 (by decide) (by decide) (fun c14 => ?_) (fun c14 => ?_)
    ·
      refine b_iconst dX10_joins_17 ?_
      exact Eq.mp (congrArg (fun z => B f M_X10_joins 18 [vR 582, vI x1, vI x2, vI x3, vI x4, vI x5, vI x6, vU, vU, vU] (vI z :: []) m Q T) (show (if x1 = (-2) then 1 else (if x4 = (-2) then 1 else 0 : Int) : Int) = 0 by rw [if_neg c13, if_neg c14])) K
    ·
      have c14 := Decidable.of_not_not c14
      refine b_iconst dX10_joins_13 ?_
      refine b_goto 18 dX10_joins_14 (by decide) ?_
      exact Eq.mp (congrArg (fun z => B f M_X10_joins 18 [vR 582, vI x1, vI x2, vI x3, vI x4, vI x5, vI x6, vU, vU, vU] (vI z :: []) m Q T) (show (if x1 = (-2) then 1 else (if x4 = (-2) then 1 else 0 : Int) : Int) = 1 by rw [if_neg c13, if_pos c14])) K
theorem dX10_goes_0 : decode cX10_goes 0 = .ok (.aload_n 0, 1) := by decide +kernel
theorem dX10_goes_1 : decode cX10_goes 1 = .ok (.iload_n 1, 1) := by decide +kernel
theorem dX10_goes_2 : decode cX10_goes 2 = .ok (.iload_n 2, 1) := by decide +kernel
theorem dX10_goes_3 : decode cX10_goes 3 = .ok (.iload_n 3, 1) := by decide +kernel
theorem dX10_goes_4 : decode cX10_goes 4 = .ok (.iload 4, 2) := by decide +kernel
theorem dX10_goes_6 : decode cX10_goes 6 = .ok (.iload 5, 2) := by decide +kernel
theorem dX10_goes_8 : decode cX10_goes 8 = .ok (.iload 6, 2) := by decide +kernel
theorem dX10_goes_10 : decode cX10_goes 10 = .ok (.invokevirtual 456, 3) := by decide +kernel
theorem dX10_goes_13 : decode cX10_goes 13 = .ok (.ifCond .eq 34, 3) := by decide +kernel
theorem dX10_goes_16 : decode cX10_goes 16 = .ok (.aload_n 0, 1) := by decide +kernel
theorem dX10_goes_17 : decode cX10_goes 17 = .ok (.getfield 442, 3) := by decide +kernel
theorem dX10_goes_20 : decode cX10_goes 20 = .ok (.iload 4, 2) := by decide +kernel
theorem dX10_goes_22 : decode cX10_goes 22 = .ok (.if_icmp .ne 25, 3) := by decide +kernel
theorem dX10_goes_25 : decode cX10_goes 25 = .ok (.aload_n 0, 1) := by decide +kernel
theorem dX10_goes_26 : decode cX10_goes 26 = .ok (.getfield 450, 3) := by decide +kernel
theorem dX10_goes_29 : decode cX10_goes 29 = .ok (.iload 5, 2) := by decide +kernel
theorem dX10_goes_31 : decode cX10_goes 31 = .ok (.if_icmp .ne 16, 3) := by decide +kernel
theorem dX10_goes_34 : decode cX10_goes 34 = .ok (.aload_n 0, 1) := by decide +kernel
theorem dX10_goes_35 : decode cX10_goes 35 = .ok (.getfield 453, 3) := by decide +kernel
theorem dX10_goes_38 : decode cX10_goes 38 = .ok (.iload 6, 2) := by decide +kernel
theorem dX10_goes_40 : decode cX10_goes 40 = .ok (.if_icmp .ne 7, 3) := by decide +kernel
theorem dX10_goes_43 : decode cX10_goes 43 = .ok (.iconst 1, 1) := by decide +kernel
theorem dX10_goes_44 : decode cX10_goes 44 = .ok (.goto 4, 3) := by decide +kernel
theorem dX10_goes_47 : decode cX10_goes 47 = .ok (.iconst 0, 1) := by decide +kernel
theorem dX10_goes_48 : decode cX10_goes 48 = .ok (.ireturn, 1) := by decide +kernel
/-! AlgebraHouseModel.goes(IIIIII)Z -/
def P_X10_goes (x1 : Int) (x2 : Int) (x3 : Int) (x4 : Int) (x5 : Int) (x6 : Int) (m : MM) (Q : Int → MM → Prop) : Prop := P_X10_joins x1 x2 x3 x4 x5 x6 m (fun r1 m1 => (RI r1) ∧ (if r1 = 0 then Q 0 m1 else (RI (m1 582 65)) ∧ (RI x4) ∧ (if (m1 582 65) = x4 then (RI (m1 582 66)) ∧ (RI x5) ∧ (if (m1 582 66) = x5 then (RI (m1 582 67)) ∧ (RI x6) ∧ (if (m1 582 67) = x6 then Q 1 m1 else Q 0 m1) else Q 0 m1) else Q 0 m1)))
theorem p_X10_goes {f : Nat} {Q : Int → MM → Prop} {T : MM → Prop} (hf : 3 ≤ f) (x1 : Int) (x2 : Int) (x3 : Int) (x4 : Int) (x5 : Int) (x6 : Int) (m : MM) (h : P_X10_goes x1 x2 x3 x4 x5 x6 m Q) : CC f M_X10_goes [vR 582, vI x1, vI x2, vI x3, vI x4, vI x5, vI x6] m Q T := by
  refine CC.of (plainFor_of_name (by decide)) (Nat.le_of_ble_eq_true rfl) (ls := [vR 582, vI x1, vI x2, vI x3, vI x4, vI x5, vI x6]) rfl ?_
  have h : P_X10_joins x1 x2 x3 x4 x5 x6 m (fun r1 m1 => (RI r1) ∧ (if r1 = 0 then Q 0 m1 else (RI (m1 582 65)) ∧ (RI x4) ∧ (if (m1 582 65) = x4 then (RI (m1 582 66)) ∧ (RI x5) ∧ (if (m1 582 66) = x5 then (RI (m1 582 67)) ∧ (RI x6) ∧ (if (m1 582 67) = x6 then Q 1 m1 else Q 0 m1) else Q 0 m1) else Q 0 m1))) := h
  refine b_aload_n dX10_goes_0 rfl ?_
  refine b_iload_n dX10_goes_1 rfl ?_
  refine b_iload_n dX10_goes_2 rfl ?_
  refine b_iload_n dX10_goes_3 rfl ?_
  refine b_iload dX10_goes_4 rfl ?_
  refine b_iload dX10_goes_6 rfl ?_
  refine b_iload dX10_goes_8 rfl ?_
  refine b_cVi (as := [vI x1, vI x2, vI x3, vI x4, vI x5, vI x6]) (st := []) dX10_goes_10 mf_X10_joins qs143 lk_X10_456 ly_582 rfl (p_X10_joins (f := 2) (Nat.le_refl _) _ _ _ _ _ _ _ h) (by omega) rfl rfl (Nat.le_of_ble_eq_true rfl) (by decide) rfl (fun _ => rfl) (fun r1 m1 h => ?_) (fun _ h => h)
  obtain ⟨g1, h⟩ := h
  refine b_if_eq 47 dX10_goes_13 g1 (by decide) (fun c1 => ?_) (fun c1 => ?_)
  · have h := ifT c1 h
    refine b_iconst dX10_goes_47 ?_
    exact b_zret dX10_goes_48 rfl (Or.inl rfl) h
  · have h := ifF c1 h
    refine b_aload_n dX10_goes_16 rfl ?_
    refine b_getI dX10_goes_17 fk_X10_442 ly_582 ?_
    refine b_iload dX10_goes_20 rfl ?_
    obtain ⟨g2, h⟩ := h
    obtain ⟨g3, h⟩ := h
    refine b_icmp_ne 47 dX10_goes_22 g2 g3 (by decide) (fun c2 => ?_) (fun c2 => ?_)
    · have h := ifF c2 h
      refine b_iconst dX10_goes_47 ?_
      exact b_zret dX10_goes_48 rfl (Or.inl rfl) h
    · have h := ifT (Decidable.of_not_not c2) h
      refine b_aload_n dX10_goes_25 rfl ?_
      refine b_getI dX10_goes_26 fk_X10_450 ly_582 ?_
      refine b_iload dX10_goes_29 rfl ?_
      obtain ⟨g4, h⟩ := h
      obtain ⟨g5, h⟩ := h
      refine b_icmp_ne 47 dX10_goes_31 g4 g5 (by decide) (fun c3 => ?_) (fun c3 => ?_)
      · have h := ifF c3 h
        refine b_iconst dX10_goes_47 ?_
        exact b_zret dX10_goes_48 rfl (Or.inl rfl) h
      · have h := ifT (Decidable.of_not_not c3) h
        refine b_aload_n dX10_goes_34 rfl ?_
        refine b_getI dX10_goes_35 fk_X10_453 ly_582 ?_
        refine b_iload dX10_goes_38 rfl ?_
        obtain ⟨g6, h⟩ := h
        obtain ⟨g7, h⟩ := h
        refine b_icmp_ne 47 dX10_goes_40 g6 g7 (by decide) (fun c4 => ?_) (fun c4 => ?_)
        · have h := ifF c4 h
          refine b_iconst dX10_goes_47 ?_
          exact b_zret dX10_goes_48 rfl (Or.inl rfl) h
        · have h := ifT (Decidable.of_not_not c4) h
          refine b_iconst dX10_goes_43 ?_
          refine b_goto 48 dX10_goes_44 (by decide) ?_
          exact b_zret dX10_goes_48 rfl (Or.inr rfl) h
theorem dX10_isDivided_0 : decode cX10_isDivided 0 = .ok (.aload_n 0, 1) := by decide +kernel
theorem dX10_isDivided_1 : decode cX10_isDivided 1 = .ok (.getfield 453, 3) := by decide +kernel
theorem dX10_isDivided_4 : decode cX10_isDivided 4 = .ok (.ifCond .ne 39, 3) := by decide +kernel
theorem dX10_isDivided_7 : decode cX10_isDivided 7 = .ok (.aload_n 0, 1) := by decide +kernel
theorem dX10_isDivided_8 : decode cX10_isDivided 8 = .ok (.getfield 442, 3) := by decide +kernel
theorem dX10_isDivided_11 : decode cX10_isDivided 11 = .ok (.ifCond .ne 10, 3) := by decide +kernel
theorem dX10_isDivided_14 : decode cX10_isDivided 14 = .ok (.aload_n 0, 1) := by decide +kernel
theorem dX10_isDivided_15 : decode cX10_isDivided 15 = .ok (.getfield 450, 3) := by decide +kernel
theorem dX10_isDivided_18 : decode cX10_isDivided 18 = .ok (.ifCond .eq 21, 3) := by decide +kernel
theorem dX10_isDivided_21 : decode cX10_isDivided 21 = .ok (.aload_n 0, 1) := by decide +kernel
theorem dX10_isDivided_22 : decode cX10_isDivided 22 = .ok (.getfield 450, 3) := by decide +kernel
theorem dX10_isDivided_25 : decode cX10_isDivided 25 = .ok (.iconst 1, 1) := by decide +kernel
theorem dX10_isDivided_26 : decode cX10_isDivided 26 = .ok (.if_icmp .ne 17, 3) := by decide +kernel
theorem dX10_isDivided_29 : decode cX10_isDivided 29 = .ok (.aload_n 0, 1) := by decide +kernel
theorem dX10_isDivided_30 : decode cX10_isDivided 30 = .ok (.getfield 442, 3) := by decide +kernel
theorem dX10_isDivided_33 : decode cX10_isDivided 33 = .ok (.invokestatic 493, 3) := by decide +kernel
theorem dX10_isDivided_36 : decode cX10_isDivided 36 = .ok (.ifCond .eq 7, 3) := by decide +kernel
theorem dX10_isDivided_39 : decode cX10_isDivided 39 = .ok (.iconst 1, 1) := by decide +kernel
theorem dX10_isDivided_40 : decode cX10_isDivided 40 = .ok (.goto 4, 3) := by decide +kernel
theorem dX10_isDivided_43 : decode cX10_isDivided 43 = .ok (.iconst 0, 1) := by decide +kernel
theorem dX10_isDivided_44 : decode cX10_isDivided 44 = .ok (.ireturn, 1) := by decide +kernel
/-! AlgebraHouseModel.isDivided()Z -/
def P_X10_isDivided_21 (Q : Int → MM → Prop) (m : MM) : Prop := (RI (m 582 66)) ∧ (if (m 582 66) = 1 then P_X10_isField (m 582 65) m (fun r1 m1 => (RI r1) ∧ (if r1 = 0 then Q 0 m1 else Q 1 m1)) else Q 0 m)
def P_X10_isDivided (m : MM) (Q : Int → MM → Prop) : Prop := (RI (m 582 67)) ∧ (if (m 582 67) = 0 then (RI (m 582 65)) ∧ (if (m 582 65) = 0 then (RI (m 582 66)) ∧ (if (m 582 66) = 0 then Q 1 m else P_X10_isDivided_21 Q m) else P_X10_isDivided_21 Q m) else Q 0 m)
theorem pl_X10_isDivided_21 {f : Nat} {Q : Int → MM → Prop} {T : MM → Prop} (hf : 2 ≤ f) : ∀ (m : MM), P_X10_isDivided_21 Q m → B f M_X10_isDivided 21 [vR 582] [] m Q T := by
  intro m h
  have h : (RI (m 582 66)) ∧ (if (m 582 66) = 1 then P_X10_isField (m 582 65) m (fun r1 m1 => (RI r1) ∧ (if r1 = 0 then Q 0 m1 else Q 1 m1)) else Q 0 m) := h
  refine b_aload_n dX10_isDivided_21 rfl ?_
  refine b_getI dX10_isDivided_22 fk_X10_450 ly_582 ?_
  refine b_iconst dX10_isDivided_25 ?_
  obtain ⟨g1, h⟩ := h
  refine b_icmp_ne 43 dX10_isDivided_26 g1 (by decide) (by decide) (fun c1 => ?_) (fun c1 => ?_)
  · have h := ifF c1 h
    refine b_iconst dX10_isDivided_43 ?_
    exact b_zret dX10_isDivided_44 rfl (Or.inl rfl) h
  · have h := ifT (Decidable.of_not_not c1) h
    refine b_aload_n dX10_isDivided_29 rfl ?_
    refine b_getI dX10_isDivided_30 fk_X10_442 ly_582 ?_
    refine b_cSi (as := [vI (m 582 65)]) (st := []) dX10_isDivided_33 mf_X10_isField lk_X10_493 (p_X10_isField (f := 1) (Nat.le_refl _) _ _ h) (by omega) rfl rfl (Nat.le_of_ble_eq_true rfl) (by decide) rfl (fun _ => rfl) (fun r1 m1 h => ?_) (fun _ h => h)
    obtain ⟨g2, h⟩ := h
    refine b_if_eq 43 dX10_isDivided_36 g2 (by decide) (fun c2 => ?_) (fun c2 => ?_)
    · have h := ifT c2 h
      refine b_iconst dX10_isDivided_43 ?_
      exact b_zret dX10_isDivided_44 rfl (Or.inl rfl) h
    · have h := ifF c2 h
      refine b_iconst dX10_isDivided_39 ?_
      refine b_goto 44 dX10_isDivided_40 (by decide) ?_
      exact b_zret dX10_isDivided_44 rfl (Or.inr rfl) h
theorem p_X10_isDivided {f : Nat} {Q : Int → MM → Prop} {T : MM → Prop} (hf : 2 ≤ f) (m : MM) (h : P_X10_isDivided m Q) : CC f M_X10_isDivided [vR 582] m Q T := by
  refine CC.of (plainFor_of_name (by decide)) (Nat.le_of_ble_eq_true rfl) (ls := [vR 582]) rfl ?_
  have h : (RI (m 582 67)) ∧ (if (m 582 67) = 0 then (RI (m 582 65)) ∧ (if (m 582 65) = 0 then (RI (m 582 66)) ∧ (if (m 582 66) = 0 then Q 1 m else P_X10_isDivided_21 Q m) else P_X10_isDivided_21 Q m) else Q 0 m) := h
  refine b_aload_n dX10_isDivided_0 rfl ?_
  refine b_getI dX10_isDivided_1 fk_X10_453 ly_582 ?_
  obtain ⟨g1, h⟩ := h
  refine b_if_ne 43 dX10_isDivided_4 g1 (by decide) (fun c1 => ?_) (fun c1 => ?_)
  · have h := ifF c1 h
    refine b_iconst dX10_isDivided_43 ?_
    exact b_zret dX10_isDivided_44 rfl (Or.inl rfl) h
  · have h := ifT (Decidable.of_not_not c1) h
    refine b_aload_n dX10_isDivided_7 rfl ?_
    refine b_getI dX10_isDivided_8 fk_X10_442 ly_582 ?_
    obtain ⟨g2, h⟩ := h
    refine b_if_ne 21 dX10_isDivided_11 g2 (by decide) (fun c2 => ?_) (fun c2 => ?_)
    · have h := ifF c2 h
      exact pl_X10_isDivided_21 hf _ h
    · have h := ifT (Decidable.of_not_not c2) h
      refine b_aload_n dX10_isDivided_14 rfl ?_
      refine b_getI dX10_isDivided_15 fk_X10_450 ly_582 ?_
      obtain ⟨g3, h⟩ := h
      refine b_if_eq 39 dX10_isDivided_18 g3 (by decide) (fun c3 => ?_) (fun c3 => ?_)
      · have h := ifT c3 h
        refine b_iconst dX10_isDivided_39 ?_
        refine b_goto 44 dX10_isDivided_40 (by decide) ?_
        exact b_zret dX10_isDivided_44 rfl (Or.inr rfl) h
      · have h := ifF c3 h
        exact pl_X10_isDivided_21 hf _ h
theorem dX10_joinsParts_0 : decode cX10_joinsParts 0 = .ok (.aload_n 0, 1) := by decide +kernel
theorem dX10_joinsParts_1 : decode cX10_joinsParts 1 = .ok (.aload_n 0, 1) := by decide +kernel
theorem dX10_joinsParts_2 : decode cX10_joinsParts 2 = .ok (.getfield 130, 3) := by decide +kernel
theorem dX10_joinsParts_5 : decode cX10_joinsParts 5 = .ok (.iload_n 1, 1) := by decide +kernel
theorem dX10_joinsParts_6 : decode cX10_joinsParts 6 = .ok (.iaload, 1) := by decide +kernel
theorem dX10_joinsParts_7 : decode cX10_joinsParts 7 = .ok (.aload_n 0, 1) := by decide +kernel
theorem dX10_joinsParts_8 : decode cX10_joinsParts 8 = .ok (.getfield 133, 3) := by decide +kernel
theorem dX10_joinsParts_11 : decode cX10_joinsParts 11 = .ok (.iload_n 1, 1) := by decide +kernel
theorem dX10_joinsParts_12 : decode cX10_joinsParts 12 = .ok (.iaload, 1) := by decide +kernel
theorem dX10_joinsParts_13 : decode cX10_joinsParts 13 = .ok (.aload_n 0, 1) := by decide +kernel
theorem dX10_joinsParts_14 : decode cX10_joinsParts 14 = .ok (.getfield 136, 3) := by decide +kernel
theorem dX10_joinsParts_17 : decode cX10_joinsParts 17 = .ok (.iload_n 1, 1) := by decide +kernel
theorem dX10_joinsParts_18 : decode cX10_joinsParts 18 = .ok (.iaload, 1) := by decide +kernel
theorem dX10_joinsParts_19 : decode cX10_joinsParts 19 = .ok (.aload_n 0, 1) := by decide +kernel
theorem dX10_joinsParts_20 : decode cX10_joinsParts 20 = .ok (.getfield 130, 3) := by decide +kernel
theorem dX10_joinsParts_23 : decode cX10_joinsParts 23 = .ok (.iload_n 2, 1) := by decide +kernel
theorem dX10_joinsParts_24 : decode cX10_joinsParts 24 = .ok (.iaload, 1) := by decide +kernel
theorem dX10_joinsParts_25 : decode cX10_joinsParts 25 = .ok (.aload_n 0, 1) := by decide +kernel
theorem dX10_joinsParts_26 : decode cX10_joinsParts 26 = .ok (.getfield 133, 3) := by decide +kernel
theorem dX10_joinsParts_29 : decode cX10_joinsParts 29 = .ok (.iload_n 2, 1) := by decide +kernel
theorem dX10_joinsParts_30 : decode cX10_joinsParts 30 = .ok (.iaload, 1) := by decide +kernel
theorem dX10_joinsParts_31 : decode cX10_joinsParts 31 = .ok (.aload_n 0, 1) := by decide +kernel
theorem dX10_joinsParts_32 : decode cX10_joinsParts 32 = .ok (.getfield 136, 3) := by decide +kernel
theorem dX10_joinsParts_35 : decode cX10_joinsParts 35 = .ok (.iload_n 2, 1) := by decide +kernel
theorem dX10_joinsParts_36 : decode cX10_joinsParts 36 = .ok (.iaload, 1) := by decide +kernel
theorem dX10_joinsParts_37 : decode cX10_joinsParts 37 = .ok (.invokevirtual 456, 3) := by decide +kernel
theorem dX10_joinsParts_40 : decode cX10_joinsParts 40 = .ok (.ireturn, 1) := by decide +kernel
/-! AlgebraHouseModel.joinsParts(II)Z -/
def P_X10_joinsParts (x1 : Int) (x2 : Int) (m : MM) (Q : Int → MM → Prop) : Prop := (0 ≤ x1 ∧ x1 < 12000) ∧ (0 ≤ x2 ∧ x2 < 12000) ∧ P_X10_joins (m 598 x1) (m 599 x1) (m 600 x1) (m 598 x2) (m 599 x2) (m 600 x2) m (fun r1 m1 => (r1 = 0 ∨ r1 = 1) ∧ Q r1 m1)
theorem p_X10_joinsParts {f : Nat} {Q : Int → MM → Prop} {T : MM → Prop} (hf : 3 ≤ f) (x1 : Int) (x2 : Int) (m : MM) (h : P_X10_joinsParts x1 x2 m Q) : CC f M_X10_joinsParts [vR 582, vI x1, vI x2] m Q T := by
  refine CC.of (plainFor_of_name (by decide)) (Nat.le_of_ble_eq_true rfl) (ls := [vR 582, vI x1, vI x2]) rfl ?_
  have h : (0 ≤ x1 ∧ x1 < 12000) ∧ (0 ≤ x2 ∧ x2 < 12000) ∧ P_X10_joins (m 598 x1) (m 599 x1) (m 600 x1) (m 598 x2) (m 599 x2) (m 600 x2) m (fun r1 m1 => (r1 = 0 ∨ r1 = 1) ∧ Q r1 m1) := h
  refine b_aload_n dX10_joinsParts_0 rfl ?_
  refine b_aload_n dX10_joinsParts_1 rfl ?_
  refine b_getR dX10_joinsParts_2 fk_X10_130 ly_582 gg_582_24 ?_
  refine b_iload_n dX10_joinsParts_5 rfl ?_
  obtain ⟨g1, h⟩ := h
  refine b_iald dX10_joinsParts_6 ly_598 g1 ?_
  refine b_aload_n dX10_joinsParts_7 rfl ?_
  refine b_getR dX10_joinsParts_8 fk_X10_133 ly_582 gg_582_25 ?_
  refine b_iload_n dX10_joinsParts_11 rfl ?_
  refine b_iald dX10_joinsParts_12 ly_599 g1 ?_
  refine b_aload_n dX10_joinsParts_13 rfl ?_
  refine b_getR dX10_joinsParts_14 fk_X10_136 ly_582 gg_582_26 ?_
  refine b_iload_n dX10_joinsParts_17 rfl ?_
  refine b_iald dX10_joinsParts_18 ly_600 g1 ?_
  refine b_aload_n dX10_joinsParts_19 rfl ?_
  refine b_getR dX10_joinsParts_20 fk_X10_130 ly_582 gg_582_24 ?_
  refine b_iload_n dX10_joinsParts_23 rfl ?_
  obtain ⟨g2, h⟩ := h
  refine b_iald dX10_joinsParts_24 ly_598 g2 ?_
  refine b_aload_n dX10_joinsParts_25 rfl ?_
  refine b_getR dX10_joinsParts_26 fk_X10_133 ly_582 gg_582_25 ?_
  refine b_iload_n dX10_joinsParts_29 rfl ?_
  refine b_iald dX10_joinsParts_30 ly_599 g2 ?_
  refine b_aload_n dX10_joinsParts_31 rfl ?_
  refine b_getR dX10_joinsParts_32 fk_X10_136 ly_582 gg_582_26 ?_
  refine b_iload_n dX10_joinsParts_35 rfl ?_
  refine b_iald dX10_joinsParts_36 ly_600 g2 ?_
  refine b_cVi (as := [vI (m 598 x1), vI (m 599 x1), vI (m 600 x1), vI (m 598 x2), vI (m 599 x2), vI (m 600 x2)]) (st := []) dX10_joinsParts_37 mf_X10_joins qs143 lk_X10_456 ly_582 rfl (p_X10_joins (f := 2) (Nat.le_refl _) _ _ _ _ _ _ _ h) (by omega) rfl rfl (Nat.le_of_ble_eq_true rfl) (by decide) rfl (fun _ => rfl) (fun r1 m1 h => ?_) (fun _ h => h)
  obtain ⟨g3, h⟩ := h
  exact b_zret dX10_joinsParts_40 rfl g3 h
theorem dX10_note_0 : decode cX10_note 0 = .ok (.aload_n 0, 1) := by decide +kernel
theorem dX10_note_1 : decode cX10_note 1 = .ok (.getfield 350, 3) := by decide +kernel
theorem dX10_note_4 : decode cX10_note 4 = .ok (.ifCond .lt 27, 3) := by decide +kernel
theorem dX10_note_7 : decode cX10_note 7 = .ok (.iload_n 2, 1) := by decide +kernel
theorem dX10_note_8 : decode cX10_note 8 = .ok (.aload_n 0, 1) := by decide +kernel
theorem dX10_note_9 : decode cX10_note 9 = .ok (.getfield 350, 3) := by decide +kernel
theorem dX10_note_12 : decode cX10_note 12 = .ok (.if_icmp .lt 19, 3) := by decide +kernel
theorem dX10_note_15 : decode cX10_note 15 = .ok (.iload_n 2, 1) := by decide +kernel
theorem dX10_note_16 : decode cX10_note 16 = .ok (.aload_n 0, 1) := by decide +kernel
theorem dX10_note_17 : decode cX10_note 17 = .ok (.getfield 350, 3) := by decide +kernel
theorem dX10_note_20 : decode cX10_note 20 = .ok (.if_icmp .ne 15, 3) := by decide +kernel
theorem dX10_note_23 : decode cX10_note 23 = .ok (.iload_n 1, 1) := by decide +kernel
theorem dX10_note_24 : decode cX10_note 24 = .ok (.aload_n 0, 1) := by decide +kernel
theorem dX10_note_25 : decode cX10_note 25 = .ok (.getfield 353, 3) := by decide +kernel
theorem dX10_note_28 : decode cX10_note 28 = .ok (.if_icmp .ge 7, 3) := by decide +kernel
theorem dX10_note_31 : decode cX10_note 31 = .ok (.iconst 1, 1) := by decide +kernel
theorem dX10_note_32 : decode cX10_note 32 = .ok (.goto 4, 3) := by decide +kernel
theorem dX10_note_35 : decode cX10_note 35 = .ok (.iconst 0, 1) := by decide +kernel
theorem dX10_note_36 : decode cX10_note 36 = .ok (.istore_n 3, 1) := by decide +kernel
theorem dX10_note_37 : decode cX10_note 37 = .ok (.iload_n 3, 1) := by decide +kernel
theorem dX10_note_38 : decode cX10_note 38 = .ok (.ifCond .ne 4, 3) := by decide +kernel
theorem dX10_note_41 : decode cX10_note 41 = .ok (.return_, 1) := by decide +kernel
theorem dX10_note_42 : decode cX10_note 42 = .ok (.aload_n 0, 1) := by decide +kernel
theorem dX10_note_43 : decode cX10_note 43 = .ok (.iload_n 1, 1) := by decide +kernel
theorem dX10_note_44 : decode cX10_note 44 = .ok (.putfield 353, 3) := by decide +kernel
theorem dX10_note_47 : decode cX10_note 47 = .ok (.aload_n 0, 1) := by decide +kernel
theorem dX10_note_48 : decode cX10_note 48 = .ok (.iload_n 2, 1) := by decide +kernel
theorem dX10_note_49 : decode cX10_note 49 = .ok (.putfield 350, 3) := by decide +kernel
theorem dX10_note_52 : decode cX10_note 52 = .ok (.return_, 1) := by decide +kernel
/-! AlgebraHouseModel.note(II)V -/
def P_X10_note (x1 : Int) (x2 : Int) (m : MM) (Q : Int → MM → Prop) : Prop := ((RI (m 582 14)) ∧ (if (m 582 14) < 0 then True else ((RI x2) ∧ (if x2 < (m 582 14) then True else ((if x2 = (m 582 14) then ((RI x1) ∧ (RI (m 582 13))) else True)))))) ∧ (RI (if (m 582 14) < 0 then 1 else (if x2 < (m 582 14) then 1 else (if x2 = (m 582 14) then (if (m 582 13) ≤ x1 then 0 else 1 : Int) else 0 : Int) : Int) : Int)) ∧ (if (if (m 582 14) < 0 then 1 else (if x2 < (m 582 14) then 1 else (if x2 = (m 582 14) then (if (m 582 13) ≤ x1 then 0 else 1 : Int) else 0 : Int) : Int) : Int) = 0 then Q 0 m else ∀ m1 : MM, m1 = up m 582 13 x1 → ∀ m2 : MM, m2 = up m1 582 14 x2 → Q 0 m2)
theorem p_X10_note {f : Nat} {Q : Int → MM → Prop} {T : MM → Prop} (hf : 1 ≤ f) (x1 : Int) (x2 : Int) (m : MM) (h : P_X10_note x1 x2 m Q) : CC f M_X10_note [vR 582, vI x1, vI x2] m Q T := by
  refine CC.of (plainFor_of_name (by decide)) (Nat.le_of_ble_eq_true rfl) (ls := [vR 582, vI x1, vI x2, vU]) rfl ?_
  have h : ((RI (m 582 14)) ∧ (if (m 582 14) < 0 then True else ((RI x2) ∧ (if x2 < (m 582 14) then True else ((if x2 = (m 582 14) then ((RI x1) ∧ (RI (m 582 13))) else True)))))) ∧ (RI (if (m 582 14) < 0 then 1 else (if x2 < (m 582 14) then 1 else (if x2 = (m 582 14) then (if (m 582 13) ≤ x1 then 0 else 1 : Int) else 0 : Int) : Int) : Int)) ∧ (if (if (m 582 14) < 0 then 1 else (if x2 < (m 582 14) then 1 else (if x2 = (m 582 14) then (if (m 582 13) ≤ x1 then 0 else 1 : Int) else 0 : Int) : Int) : Int) = 0 then Q 0 m else ∀ m1 : MM, m1 = up m 582 13 x1 → ∀ m2 : MM, m2 = up m1 582 14 x2 → Q 0 m2) := h
  refine b_aload_n dX10_note_0 rfl ?_
  refine b_getI dX10_note_1 fk_X10_350 ly_582 ?_
  obtain ⟨hs, h⟩ := h
  have K : B f M_X10_note 36 [vR 582, vI x1, vI x2, vU] [vI (if (m 582 14) < 0 then 1 else (if x2 < (m 582 14) then 1 else (if x2 = (m 582 14) then (if (m 582 13) ≤ x1 then 0 else 1 : Int) else 0 : Int) : Int) : Int)] m Q T := by
    clear hs
    refine b_istore_n (ls' := [vR 582, vI x1, vI x2, vI (if (m 582 14) < 0 then 1 else (if x2 < (m 582 14) then 1 else (if x2 = (m 582 14) then (if (m 582 13) ≤ x1 then 0 else 1 : Int) else 0 : Int) : Int) : Int)]) dX10_note_36 (Nat.le_of_ble_eq_true rfl) rfl ?_
    refine b_iload_n dX10_note_37 rfl ?_
    obtain ⟨g5, h⟩ := h
    refine b_if_ne 42 dX10_note_38 g5 (by decide) (fun c1 => ?_) (fun c1 => ?_)
    · have h := ifF c1 h
      refine b_aload_n dX10_note_42 rfl ?_
      refine b_iload_n dX10_note_43 rfl ?_
      refine b_putI dX10_note_44 fk_X10_353 ly_582 (fun m1 em1 => ?_)
      have h := h m1 em1
      refine b_aload_n dX10_note_47 rfl ?_
      refine b_iload_n dX10_note_48 rfl ?_
      refine b_putI dX10_note_49 fk_X10_350 ly_582 (fun m2 em2 => ?_)
      have h := h m2 em2
      exact b_vret dX10_note_52 rfl h
    · have h := ifT (Decidable.of_not_not c1) h
      exact b_vret dX10_note_41 rfl h
  obtain ⟨g1, hs⟩ := hs
  refine b_if_lt 31 dX10_note_4 g1 (by decide) (fun c2 => ?_) (fun c2 => ?_)
  ·
    refine b_iconst dX10_note_31 ?_
    refine b_goto 36 dX10_note_32 (by decide) ?_
    rw [if_pos c2] at K
    exact K
  ·
    have hs := ifF c2 hs
    obtain ⟨g2, hs⟩ := hs
    refine b_iload_n dX10_note_7 rfl ?_
    refine b_aload_n dX10_note_8 rfl ?_
    refine b_getI dX10_note_9 fk_X10_350 ly_582 ?_
    refine b_icmp_lt 31 dX10_note_12 g2 g1 (by decide) (fun c3 => ?_) (fun c3 => ?_)
    ·
      refine b_iconst dX10_note_31 ?_
      refine b_goto 36 dX10_note_32 (by decide) ?_
      rw [if_neg c2, if_pos c3] at K
      exact K
    ·
      have hs := ifF c3 hs
      refine b_iload_n dX10_note_15 rfl ?_
      refine b_aload_n dX10_note_16 rfl ?_
      refine b_getI dX10_note_17 fk_X10_350 ly_582 ?_
      refine b_icmp_ne 35 dX10_note_20 g2 g1 (by decide) (fun c4 => ?_) (fun c4 => ?_)
      ·
        refine b_iconst dX10_note_35 ?_
        rw [if_neg c2, if_neg c3, if_neg c4] at K
        exact K
      ·
        have c4 := Decidable.of_not_not c4
        have hs := ifT c4 hs
        obtain ⟨g3, g4⟩ := hs
        refine b_iload_n dX10_note_23 rfl ?_
        refine b_aload_n dX10_note_24 rfl ?_
        refine b_getI dX10_note_25 fk_X10_353 ly_582 ?_
        refine b_icmp_ge 35 dX10_note_28 g3 g4 (by decide) (fun c5 => ?_) (fun c5 => ?_)
        ·
          refine b_iconst dX10_note_35 ?_
          rw [if_neg c2, if_neg c3, if_pos c4, if_pos c5] at K
          exact K
        ·
          refine b_iconst dX10_note_31 ?_
          refine b_goto 36 dX10_note_32 (by decide) ?_
          rw [if_neg c2, if_neg c3, if_pos c4, if_neg c5] at K
          exact K
theorem dX10_setRing_0 : decode cX10_setRing 0 = .ok (.aload_n 0, 1) := by decide +kernel
theorem dX10_setRing_1 : decode cX10_setRing 1 = .ok (.getfield 130, 3) := by decide +kernel
theorem dX10_setRing_4 : decode cX10_setRing 4 = .ok (.iload_n 1, 1) := by decide +kernel
theorem dX10_setRing_5 : decode cX10_setRing 5 = .ok (.iload_n 2, 1) := by decide +kernel
theorem dX10_setRing_6 : decode cX10_setRing 6 = .ok (.iastore, 1) := by decide +kernel
theorem dX10_setRing_7 : decode cX10_setRing 7 = .ok (.aload_n 0, 1) := by decide +kernel
theorem dX10_setRing_8 : decode cX10_setRing 8 = .ok (.getfield 133, 3) := by decide +kernel
theorem dX10_setRing_11 : decode cX10_setRing 11 = .ok (.iload_n 1, 1) := by decide +kernel
theorem dX10_setRing_12 : decode cX10_setRing 12 = .ok (.iload_n 3, 1) := by decide +kernel
theorem dX10_setRing_13 : decode cX10_setRing 13 = .ok (.iastore, 1) := by decide +kernel
theorem dX10_setRing_14 : decode cX10_setRing 14 = .ok (.aload_n 0, 1) := by decide +kernel
theorem dX10_setRing_15 : decode cX10_setRing 15 = .ok (.getfield 136, 3) := by decide +kernel
theorem dX10_setRing_18 : decode cX10_setRing 18 = .ok (.iload_n 1, 1) := by decide +kernel
theorem dX10_setRing_19 : decode cX10_setRing 19 = .ok (.iload 4, 2) := by decide +kernel
theorem dX10_setRing_21 : decode cX10_setRing 21 = .ok (.iastore, 1) := by decide +kernel
theorem dX10_setRing_22 : decode cX10_setRing 22 = .ok (.return_, 1) := by decide +kernel
/-! AlgebraHouseModel.setRing(IIII)V -/
def P_X10_setRing (x1 : Int) (x2 : Int) (x3 : Int) (x4 : Int) (m : MM) (Q : Int → MM → Prop) : Prop := (0 ≤ x1 ∧ x1 < 12000) ∧ ∀ m1 : MM, m1 = up m 598 x1 x2 → ∀ m2 : MM, m2 = up m1 599 x1 x3 → ∀ m3 : MM, m3 = up m2 600 x1 x4 → Q 0 m3
theorem p_X10_setRing {f : Nat} {Q : Int → MM → Prop} {T : MM → Prop} (hf : 1 ≤ f) (x1 : Int) (x2 : Int) (x3 : Int) (x4 : Int) (m : MM) (h : P_X10_setRing x1 x2 x3 x4 m Q) : CC f M_X10_setRing [vR 582, vI x1, vI x2, vI x3, vI x4] m Q T := by
  refine CC.of (plainFor_of_name (by decide)) (Nat.le_of_ble_eq_true rfl) (ls := [vR 582, vI x1, vI x2, vI x3, vI x4]) rfl ?_
  have h : (0 ≤ x1 ∧ x1 < 12000) ∧ ∀ m1 : MM, m1 = up m 598 x1 x2 → ∀ m2 : MM, m2 = up m1 599 x1 x3 → ∀ m3 : MM, m3 = up m2 600 x1 x4 → Q 0 m3 := h
  refine b_aload_n dX10_setRing_0 rfl ?_
  refine b_getR dX10_setRing_1 fk_X10_130 ly_582 gg_582_24 ?_
  refine b_iload_n dX10_setRing_4 rfl ?_
  refine b_iload_n dX10_setRing_5 rfl ?_
  obtain ⟨g1, h⟩ := h
  refine b_iast dX10_setRing_6 ly_598 g1 (fun m1 em1 => ?_)
  have h := h m1 em1
  refine b_aload_n dX10_setRing_7 rfl ?_
  refine b_getR dX10_setRing_8 fk_X10_133 ly_582 gg_582_25 ?_
  refine b_iload_n dX10_setRing_11 rfl ?_
  refine b_iload_n dX10_setRing_12 rfl ?_
  refine b_iast dX10_setRing_13 ly_599 g1 (fun m2 em2 => ?_)
  have h := h m2 em2
  refine b_aload_n dX10_setRing_14 rfl ?_
  refine b_getR dX10_setRing_15 fk_X10_136 ly_582 gg_582_26 ?_
  refine b_iload_n dX10_setRing_18 rfl ?_
  refine b_iload dX10_setRing_19 rfl ?_
  refine b_iast dX10_setRing_21 ly_600 g1 (fun m3 em3 => ?_)
  have h := h m3 em3
  exact b_vret dX10_setRing_22 rfl h
theorem dX10_judgeOver_0 : decode cX10_judgeOver 0 = .ok (.aload_n 0, 1) := by decide +kernel
theorem dX10_judgeOver_1 : decode cX10_judgeOver 1 = .ok (.getfield 127, 3) := by decide +kernel
theorem dX10_judgeOver_4 : decode cX10_judgeOver 4 = .ok (.iload_n 1, 1) := by decide +kernel
theorem dX10_judgeOver_5 : decode cX10_judgeOver 5 = .ok (.iaload, 1) := by decide +kernel
theorem dX10_judgeOver_6 : decode cX10_judgeOver 6 = .ok (.bipush 6, 2) := by decide +kernel
theorem dX10_judgeOver_8 : decode cX10_judgeOver 8 = .ok (.if_icmp .ne 7, 3) := by decide +kernel
theorem dX10_judgeOver_11 : decode cX10_judgeOver 11 = .ok (.iconst 1, 1) := by decide +kernel
theorem dX10_judgeOver_12 : decode cX10_judgeOver 12 = .ok (.goto 4, 3) := by decide +kernel
theorem dX10_judgeOver_15 : decode cX10_judgeOver 15 = .ok (.iconst 0, 1) := by decide +kernel
theorem dX10_judgeOver_16 : decode cX10_judgeOver 16 = .ok (.istore_n 3, 1) := by decide +kernel
theorem dX10_judgeOver_17 : decode cX10_judgeOver 17 = .ok (.iload_n 3, 1) := by decide +kernel
theorem dX10_judgeOver_18 : decode cX10_judgeOver 18 = .ok (.ifCond .eq 27, 3) := by decide +kernel
theorem dX10_judgeOver_21 : decode cX10_judgeOver 21 = .ok (.aload_n 0, 1) := by decide +kernel
theorem dX10_judgeOver_22 : decode cX10_judgeOver 22 = .ok (.getfield 152, 3) := by decide +kernel
theorem dX10_judgeOver_25 : decode cX10_judgeOver 25 = .ok (.iload_n 1, 1) := by decide +kernel
theorem dX10_judgeOver_26 : decode cX10_judgeOver 26 = .ok (.laload, 1) := by decide +kernel
theorem dX10_judgeOver_27 : decode cX10_judgeOver 27 = .ok (.lconst 1, 1) := by decide +kernel
theorem dX10_judgeOver_28 : decode cX10_judgeOver 28 = .ok (.lcmp, 1) := by decide +kernel
theorem dX10_judgeOver_29 : decode cX10_judgeOver 29 = .ok (.ifCond .lt 20, 3) := by decide +kernel
theorem dX10_judgeOver_32 : decode cX10_judgeOver 32 = .ok (.aload_n 0, 1) := by decide +kernel
theorem dX10_judgeOver_33 : decode cX10_judgeOver 33 = .ok (.getfield 152, 3) := by decide +kernel
theorem dX10_judgeOver_36 : decode cX10_judgeOver 36 = .ok (.iload_n 1, 1) := by decide +kernel
theorem dX10_judgeOver_37 : decode cX10_judgeOver 37 = .ok (.laload, 1) := by decide +kernel
theorem dX10_judgeOver_38 : decode cX10_judgeOver 38 = .ok (.ldc2_w 518, 3) := by decide +kernel
theorem dX10_judgeOver_41 : decode cX10_judgeOver 41 = .ok (.lcmp, 1) := by decide +kernel
theorem dX10_judgeOver_42 : decode cX10_judgeOver 42 = .ok (.ifCond .gt 7, 3) := by decide +kernel
theorem dX10_judgeOver_45 : decode cX10_judgeOver 45 = .ok (.iconst 1, 1) := by decide +kernel
theorem dX10_judgeOver_46 : decode cX10_judgeOver 46 = .ok (.goto 4, 3) := by decide +kernel
theorem dX10_judgeOver_49 : decode cX10_judgeOver 49 = .ok (.iconst 0, 1) := by decide +kernel
theorem dX10_judgeOver_50 : decode cX10_judgeOver 50 = .ok (.istore 4, 2) := by decide +kernel
theorem dX10_judgeOver_52 : decode cX10_judgeOver 52 = .ok (.iload 4, 2) := by decide +kernel
theorem dX10_judgeOver_54 : decode cX10_judgeOver 54 = .ok (.ifCond .ne 14, 3) := by decide +kernel
theorem dX10_judgeOver_57 : decode cX10_judgeOver 57 = .ok (.aload_n 0, 1) := by decide +kernel
theorem dX10_judgeOver_58 : decode cX10_judgeOver 58 = .ok (.iconst 4, 1) := by decide +kernel
theorem dX10_judgeOver_59 : decode cX10_judgeOver 59 = .ok (.aload_n 0, 1) := by decide +kernel
theorem dX10_judgeOver_60 : decode cX10_judgeOver 60 = .ok (.getfield 112, 3) := by decide +kernel
theorem dX10_judgeOver_63 : decode cX10_judgeOver 63 = .ok (.iload_n 1, 1) := by decide +kernel
theorem dX10_judgeOver_64 : decode cX10_judgeOver 64 = .ok (.iaload, 1) := by decide +kernel
theorem dX10_judgeOver_65 : decode cX10_judgeOver 65 = .ok (.invokevirtual 472, 3) := by decide +kernel
theorem dX10_judgeOver_68 : decode cX10_judgeOver 68 = .ok (.aload_n 0, 1) := by decide +kernel
theorem dX10_judgeOver_69 : decode cX10_judgeOver 69 = .ok (.getfield 130, 3) := by decide +kernel
theorem dX10_judgeOver_72 : decode cX10_judgeOver 72 = .ok (.iload_n 2, 1) := by decide +kernel
theorem dX10_judgeOver_73 : decode cX10_judgeOver 73 = .ok (.iaload, 1) := by decide +kernel
theorem dX10_judgeOver_74 : decode cX10_judgeOver 74 = .ok (.bipush (-9), 2) := by decide +kernel
theorem dX10_judgeOver_76 : decode cX10_judgeOver 76 = .ok (.if_icmp .ne 4, 3) := by decide +kernel
theorem dX10_judgeOver_79 : decode cX10_judgeOver 79 = .ok (.return_, 1) := by decide +kernel
theorem dX10_judgeOver_80 : decode cX10_judgeOver 80 = .ok (.aload_n 0, 1) := by decide +kernel
theorem dX10_judgeOver_81 : decode cX10_judgeOver 81 = .ok (.getfield 130, 3) := by decide +kernel
theorem dX10_judgeOver_84 : decode cX10_judgeOver 84 = .ok (.iload_n 2, 1) := by decide +kernel
theorem dX10_judgeOver_85 : decode cX10_judgeOver 85 = .ok (.iaload, 1) := by decide +kernel
theorem dX10_judgeOver_86 : decode cX10_judgeOver 86 = .ok (.bipush (-2), 2) := by decide +kernel
theorem dX10_judgeOver_88 : decode cX10_judgeOver 88 = .ok (.if_icmp .eq 16, 3) := by decide +kernel
theorem dX10_judgeOver_91 : decode cX10_judgeOver 91 = .ok (.aload_n 0, 1) := by decide +kernel
theorem dX10_judgeOver_92 : decode cX10_judgeOver 92 = .ok (.getfield 136, 3) := by decide +kernel
theorem dX10_judgeOver_95 : decode cX10_judgeOver 95 = .ok (.iload_n 2, 1) := by decide +kernel
theorem dX10_judgeOver_96 : decode cX10_judgeOver 96 = .ok (.iaload, 1) := by decide +kernel
theorem dX10_judgeOver_97 : decode cX10_judgeOver 97 = .ok (.ifCond .ne 7, 3) := by decide +kernel
theorem dX10_judgeOver_100 : decode cX10_judgeOver 100 = .ok (.iconst 1, 1) := by decide +kernel
theorem dX10_judgeOver_101 : decode cX10_judgeOver 101 = .ok (.goto 4, 3) := by decide +kernel
theorem dX10_judgeOver_104 : decode cX10_judgeOver 104 = .ok (.iconst 0, 1) := by decide +kernel
theorem dX10_judgeOver_105 : decode cX10_judgeOver 105 = .ok (.istore 5, 2) := by decide +kernel
theorem dX10_judgeOver_107 : decode cX10_judgeOver 107 = .ok (.iload 5, 2) := by decide +kernel
theorem dX10_judgeOver_109 : decode cX10_judgeOver 109 = .ok (.ifCond .ne 17, 3) := by decide +kernel
theorem dX10_judgeOver_112 : decode cX10_judgeOver 112 = .ok (.aload_n 0, 1) := by decide +kernel
theorem dX10_judgeOver_113 : decode cX10_judgeOver 113 = .ok (.iconst 4, 1) := by decide +kernel
theorem dX10_judgeOver_114 : decode cX10_judgeOver 114 = .ok (.aload_n 0, 1) := by decide +kernel
theorem dX10_judgeOver_115 : decode cX10_judgeOver 115 = .ok (.getfield 121, 3) := by decide +kernel
theorem dX10_judgeOver_118 : decode cX10_judgeOver 118 = .ok (.iload_n 2, 1) := by decide +kernel
theorem dX10_judgeOver_119 : decode cX10_judgeOver 119 = .ok (.iaload, 1) := by decide +kernel
theorem dX10_judgeOver_120 : decode cX10_judgeOver 120 = .ok (.invokevirtual 472, 3) := by decide +kernel
theorem dX10_judgeOver_123 : decode cX10_judgeOver 123 = .ok (.goto 78, 3) := by decide +kernel
theorem dX10_judgeOver_126 : decode cX10_judgeOver 126 = .ok (.iload_n 3, 1) := by decide +kernel
theorem dX10_judgeOver_127 : decode cX10_judgeOver 127 = .ok (.ifCond .ne 27, 3) := by decide +kernel
theorem dX10_judgeOver_130 : decode cX10_judgeOver 130 = .ok (.aload_n 0, 1) := by decide +kernel
theorem dX10_judgeOver_131 : decode cX10_judgeOver 131 = .ok (.getfield 133, 3) := by decide +kernel
theorem dX10_judgeOver_134 : decode cX10_judgeOver 134 = .ok (.iload_n 2, 1) := by decide +kernel
theorem dX10_judgeOver_135 : decode cX10_judgeOver 135 = .ok (.iaload, 1) := by decide +kernel
theorem dX10_judgeOver_136 : decode cX10_judgeOver 136 = .ok (.iconst 2, 1) := by decide +kernel
theorem dX10_judgeOver_137 : decode cX10_judgeOver 137 = .ok (.if_icmp .ne 17, 3) := by decide +kernel
theorem dX10_judgeOver_140 : decode cX10_judgeOver 140 = .ok (.aload_n 0, 1) := by decide +kernel
theorem dX10_judgeOver_141 : decode cX10_judgeOver 141 = .ok (.iconst 4, 1) := by decide +kernel
theorem dX10_judgeOver_142 : decode cX10_judgeOver 142 = .ok (.aload_n 0, 1) := by decide +kernel
theorem dX10_judgeOver_143 : decode cX10_judgeOver 143 = .ok (.getfield 121, 3) := by decide +kernel
theorem dX10_judgeOver_146 : decode cX10_judgeOver 146 = .ok (.iload_n 1, 1) := by decide +kernel
theorem dX10_judgeOver_147 : decode cX10_judgeOver 147 = .ok (.iaload, 1) := by decide +kernel
theorem dX10_judgeOver_148 : decode cX10_judgeOver 148 = .ok (.invokevirtual 472, 3) := by decide +kernel
theorem dX10_judgeOver_151 : decode cX10_judgeOver 151 = .ok (.goto 50, 3) := by decide +kernel
theorem dX10_judgeOver_154 : decode cX10_judgeOver 154 = .ok (.iload 4, 2) := by decide +kernel
theorem dX10_judgeOver_156 : decode cX10_judgeOver 156 = .ok (.ifCond .eq 45, 3) := by decide +kernel
theorem dX10_judgeOver_159 : decode cX10_judgeOver 159 = .ok (.aload_n 0, 1) := by decide +kernel
theorem dX10_judgeOver_160 : decode cX10_judgeOver 160 = .ok (.iload_n 1, 1) := by decide +kernel
theorem dX10_judgeOver_161 : decode cX10_judgeOver 161 = .ok (.aload_n 0, 1) := by decide +kernel
theorem dX10_judgeOver_162 : decode cX10_judgeOver 162 = .ok (.getfield 130, 3) := by decide +kernel
theorem dX10_judgeOver_165 : decode cX10_judgeOver 165 = .ok (.iload_n 2, 1) := by decide +kernel
theorem dX10_judgeOver_166 : decode cX10_judgeOver 166 = .ok (.iaload, 1) := by decide +kernel
theorem dX10_judgeOver_167 : decode cX10_judgeOver 167 = .ok (.aload_n 0, 1) := by decide +kernel
theorem dX10_judgeOver_168 : decode cX10_judgeOver 168 = .ok (.getfield 133, 3) := by decide +kernel
theorem dX10_judgeOver_171 : decode cX10_judgeOver 171 = .ok (.iload_n 2, 1) := by decide +kernel
theorem dX10_judgeOver_172 : decode cX10_judgeOver 172 = .ok (.iaload, 1) := by decide +kernel
theorem dX10_judgeOver_173 : decode cX10_judgeOver 173 = .ok (.iload_n 3, 1) := by decide +kernel
theorem dX10_judgeOver_174 : decode cX10_judgeOver 174 = .ok (.ifCond .eq 7, 3) := by decide +kernel
theorem dX10_judgeOver_177 : decode cX10_judgeOver 177 = .ok (.iconst 0, 1) := by decide +kernel
theorem dX10_judgeOver_178 : decode cX10_judgeOver 178 = .ok (.goto 4, 3) := by decide +kernel
theorem dX10_judgeOver_181 : decode cX10_judgeOver 181 = .ok (.iconst 1, 1) := by decide +kernel
theorem dX10_judgeOver_182 : decode cX10_judgeOver 182 = .ok (.iadd, 1) := by decide +kernel
theorem dX10_judgeOver_183 : decode cX10_judgeOver 183 = .ok (.iload_n 3, 1) := by decide +kernel
theorem dX10_judgeOver_184 : decode cX10_judgeOver 184 = .ok (.ifCond .eq 13, 3) := by decide +kernel
theorem dX10_judgeOver_187 : decode cX10_judgeOver 187 = .ok (.aload_n 0, 1) := by decide +kernel
theorem dX10_judgeOver_188 : decode cX10_judgeOver 188 = .ok (.getfield 152, 3) := by decide +kernel
theorem dX10_judgeOver_191 : decode cX10_judgeOver 191 = .ok (.iload_n 1, 1) := by decide +kernel
theorem dX10_judgeOver_192 : decode cX10_judgeOver 192 = .ok (.laload, 1) := by decide +kernel
theorem dX10_judgeOver_193 : decode cX10_judgeOver 193 = .ok (.l2i, 1) := by decide +kernel
theorem dX10_judgeOver_194 : decode cX10_judgeOver 194 = .ok (.goto 4, 3) := by decide +kernel
theorem dX10_judgeOver_197 : decode cX10_judgeOver 197 = .ok (.iconst 0, 1) := by decide +kernel
theorem dX10_judgeOver_198 : decode cX10_judgeOver 198 = .ok (.invokevirtual 482, 3) := by decide +kernel
theorem dX10_judgeOver_201 : decode cX10_judgeOver 201 = .ok (.return_, 1) := by decide +kernel
/-! AlgebraHouseModel.judgeOver(II)V -/
def P_X10_judgeOver_154 (Q : Int → MM → Prop) (x1 : Int) (x2 : Int) (x3 : Int) (x4 : Int) (m : MM) : Prop := (RI x4) ∧ (if x4 = 0 then Q 0 m else (0 ≤ x2 ∧ x2 < 12000) ∧ ((RI x3)) ∧ ((RI x3) ∧ (if x3 = 0 then True else ((0 ≤ x1 ∧ x1 < 12000)))) ∧ P_X10_setRing x1 (m 598 x2) ((m 599 x2) + (if x3 = 0 then 1 else 0 : Int)) (if x3 = 0 then 0 else (m 605 x1) : Int) m (fun r1 m1 => Q 0 m1))
def P_X10_judgeOver_68 (Q : Int → MM → Prop) (x1 : Int) (x2 : Int) (x3 : Int) (x4 : Int) (m : MM) : Prop := (0 ≤ x2 ∧ x2 < 12000) ∧ (RI (m 598 x2)) ∧ (if (m 598 x2) = (-9) then Q 0 m else ((if (m 598 x2) = (-2) then True else ((RI (m 600 x2))))) ∧ (RI (if (m 598 x2) = (-2) then 0 else (if (m 600 x2) = 0 then 1 else 0 : Int) : Int)) ∧ (if (if (m 598 x2) = (-2) then 0 else (if (m 600 x2) = 0 then 1 else 0 : Int) : Int) = 0 then P_X10_note 4 (m 595 x2) m (fun r2 m2 => Q 0 m2) else (RI x3) ∧ (if x3 = 0 then (RI (m 599 x2)) ∧ (if (m 599 x2) = 2 then (0 ≤ x1 ∧ x1 < 12000) ∧ P_X10_note 4 (m 595 x1) m (fun r1 m1 => Q 0 m1) else P_X10_judgeOver_154 Q x1 x2 x3 x4 m) else P_X10_judgeOver_154 Q x1 x2 x3 x4 m)))
def P_X10_judgeOver (x1 : Int) (x2 : Int) (m : MM) (Q : Int → MM → Prop) : Prop := (0 ≤ x1 ∧ x1 < 12000) ∧ ((RI (m 597 x1))) ∧ ((RI (if (m 597 x1) = 6 then 1 else 0 : Int)) ∧ (if (if (m 597 x1) = 6 then 1 else 0 : Int) = 0 then True else ((RL (m 605 x1))))) ∧ (RI (if (if (m 597 x1) = 6 then 1 else 0 : Int) = 0 then 1 else (if (m 605 x1) < 1 then 0 else (if 3 < (m 605 x1) then 0 else 1 : Int) : Int) : Int)) ∧ (if (if (if (m 597 x1) = 6 then 1 else 0 : Int) = 0 then 1 else (if (m 605 x1) < 1 then 0 else (if 3 < (m 605 x1) then 0 else 1 : Int) : Int) : Int) = 0 then P_X10_note 4 (m 592 x1) m (fun r1 m1 => P_X10_judgeOver_68 Q x1 x2 (if (m 597 x1) = 6 then 1 else 0 : Int) (if (if (m 597 x1) = 6 then 1 else 0 : Int) = 0 then 1 else (if (m 605 x1) < 1 then 0 else (if 3 < (m 605 x1) then 0 else 1 : Int) : Int) : Int) m1) else P_X10_judgeOver_68 Q x1 x2 (if (m 597 x1) = 6 then 1 else 0 : Int) (if (if (m 597 x1) = 6 then 1 else 0 : Int) = 0 then 1 else (if (m 605 x1) < 1 then 0 else (if 3 < (m 605 x1) then 0 else 1 : Int) : Int) : Int) m)
theorem pl_X10_judgeOver_154 {f : Nat} {Q : Int → MM → Prop} {T : MM → Prop} (hf : 2 ≤ f) : ∀ (x1 : Int) (x2 : Int) (x3 : Int) (x4 : Int) (m : MM), P_X10_judgeOver_154 Q x1 x2 x3 x4 m → B f M_X10_judgeOver 154 [vR 582, vI x1, vI x2, vI x3, vI x4, vU] [] m Q T := by
  intro x1 x2 x3 x4 m h
  have h : (RI x4) ∧ (if x4 = 0 then Q 0 m else (0 ≤ x2 ∧ x2 < 12000) ∧ ((RI x3)) ∧ ((RI x3) ∧ (if x3 = 0 then True else ((0 ≤ x1 ∧ x1 < 12000)))) ∧ P_X10_setRing x1 (m 598 x2) ((m 599 x2) + (if x3 = 0 then 1 else 0 : Int)) (if x3 = 0 then 0 else (m 605 x1) : Int) m (fun r1 m1 => Q 0 m1)) := h
  refine b_iload dX10_judgeOver_154 rfl ?_
  obtain ⟨g1, h⟩ := h
  refine b_if_eq 201 dX10_judgeOver_156 g1 (by decide) (fun c1 => ?_) (fun c1 => ?_)
  · have h := ifT c1 h
    exact b_vret dX10_judgeOver_201 rfl h
  · have h := ifF c1 h
    refine b_aload_n dX10_judgeOver_159 rfl ?_
    refine b_iload_n dX10_judgeOver_160 rfl ?_
    refine b_aload_n dX10_judgeOver_161 rfl ?_
    refine b_getR dX10_judgeOver_162 fk_X10_130 ly_582 gg_582_24 ?_
    refine b_iload_n dX10_judgeOver_165 rfl ?_
    obtain ⟨g2, h⟩ := h
    refine b_iald dX10_judgeOver_166 ly_598 g2 ?_
    refine b_aload_n dX10_judgeOver_167 rfl ?_
    refine b_getR dX10_judgeOver_168 fk_X10_133 ly_582 gg_582_25 ?_
    refine b_iload_n dX10_judgeOver_171 rfl ?_
    refine b_iald dX10_judgeOver_172 ly_599 g2 ?_
    refine b_iload_n dX10_judgeOver_173 rfl ?_
    obtain ⟨hs, h⟩ := h
    have K : B f M_X10_judgeOver 182 [vR 582, vI x1, vI x2, vI x3, vI x4, vU] [vI (if x3 = 0 then 1 else 0 : Int), vI (m 599 x2), vI (m 598 x2), vI x1, vR 582] m Q T := by
      clear hs
      refine b_iadd dX10_judgeOver_182 ?_
      refine b_iload_n dX10_judgeOver_183 rfl ?_
      obtain ⟨hs, h⟩ := h
      have K : B f M_X10_judgeOver 198 [vR 582, vI x1, vI x2, vI x3, vI x4, vU] [vI (if x3 = 0 then 0 else (m 605 x1) : Int), vI ((m 599 x2) + (if x3 = 0 then 1 else 0 : Int)), vI (m 598 x2), vI x1, vR 582] m Q T := by
        clear hs
        refine b_cVv (as := [vI x1, vI (m 598 x2), vI ((m 599 x2) + (if x3 = 0 then 1 else 0 : Int)), vI (if x3 = 0 then 0 else (m 605 x1) : Int)]) (st := []) dX10_judgeOver_198 mf_X10_setRing qs128 lk_X10_482 ly_582 rfl (p_X10_setRing (f := 1) (Nat.le_refl _) _ _ _ _ _ h) (by omega) rfl rfl (Nat.le_of_ble_eq_true rfl) (by decide) rfl (fun _ => rfl) (fun r1 m1 h => ?_) (fun _ h => h)
        exact b_vret dX10_judgeOver_201 rfl h
      obtain ⟨g4, hs⟩ := hs
      refine b_if_eq 197 dX10_judgeOver_184 g4 (by decide) (fun c2 => ?_) (fun c2 => ?_)
      ·
        refine b_iconst dX10_judgeOver_197 ?_
        rw [if_pos c2] at K
        exact K
      ·
        have hs := ifF c2 hs
        have g5 := hs
        refine b_aload_n dX10_judgeOver_187 rfl ?_
        refine b_getR dX10_judgeOver_188 fk_X10_152 ly_582 gg_582_31 ?_
        refine b_iload_n dX10_judgeOver_191 rfl ?_
        refine b_lald dX10_judgeOver_192 ly_605 g5 ?_
        refine b_l2i dX10_judgeOver_193 ?_
        refine b_goto 198 dX10_judgeOver_194 (by decide) ?_
        rw [if_neg c2] at K
        exact K
    have g3 := hs
    refine b_if_eq 181 dX10_judgeOver_174 g3 (by decide) (fun c3 => ?_) (fun c3 => ?_)
    ·
      refine b_iconst dX10_judgeOver_181 ?_
      rw [if_pos c3] at K
      exact K
    ·
      refine b_iconst dX10_judgeOver_177 ?_
      refine b_goto 182 dX10_judgeOver_178 (by decide) ?_
      rw [if_neg c3] at K
      exact K
theorem pl_X10_judgeOver_68 {f : Nat} {Q : Int → MM → Prop} {T : MM → Prop} (hf : 2 ≤ f) : ∀ (x1 : Int) (x2 : Int) (x3 : Int) (x4 : Int) (m : MM), P_X10_judgeOver_68 Q x1 x2 x3 x4 m → B f M_X10_judgeOver 68 [vR 582, vI x1, vI x2, vI x3, vI x4, vU] [] m Q T := by
  intro x1 x2 x3 x4 m h
  have h : (0 ≤ x2 ∧ x2 < 12000) ∧ (RI (m 598 x2)) ∧ (if (m 598 x2) = (-9) then Q 0 m else ((if (m 598 x2) = (-2) then True else ((RI (m 600 x2))))) ∧ (RI (if (m 598 x2) = (-2) then 0 else (if (m 600 x2) = 0 then 1 else 0 : Int) : Int)) ∧ (if (if (m 598 x2) = (-2) then 0 else (if (m 600 x2) = 0 then 1 else 0 : Int) : Int) = 0 then P_X10_note 4 (m 595 x2) m (fun r2 m2 => Q 0 m2) else (RI x3) ∧ (if x3 = 0 then (RI (m 599 x2)) ∧ (if (m 599 x2) = 2 then (0 ≤ x1 ∧ x1 < 12000) ∧ P_X10_note 4 (m 595 x1) m (fun r1 m1 => Q 0 m1) else P_X10_judgeOver_154 Q x1 x2 x3 x4 m) else P_X10_judgeOver_154 Q x1 x2 x3 x4 m))) := h
  refine b_aload_n dX10_judgeOver_68 rfl ?_
  refine b_getR dX10_judgeOver_69 fk_X10_130 ly_582 gg_582_24 ?_
  refine b_iload_n dX10_judgeOver_72 rfl ?_
  obtain ⟨g1, h⟩ := h
  refine b_iald dX10_judgeOver_73 ly_598 g1 ?_
  refine b_bipush dX10_judgeOver_74 (by decide) ?_
  obtain ⟨g2, h⟩ := h
  refine b_icmp_ne 80 dX10_judgeOver_76 g2 (by decide) (by decide) (fun c1 => ?_) (fun c1 => ?_)
  · have h := ifF c1 h
    refine b_aload_n dX10_judgeOver_80 rfl ?_
    refine b_getR dX10_judgeOver_81 fk_X10_130 ly_582 gg_582_24 ?_
    refine b_iload_n dX10_judgeOver_84 rfl ?_
    refine b_iald dX10_judgeOver_85 ly_598 g1 ?_
    refine b_bipush dX10_judgeOver_86 (by decide) ?_
    obtain ⟨hs, h⟩ := h
    have K : B f M_X10_judgeOver 105 [vR 582, vI x1, vI x2, vI x3, vI x4, vU] [vI (if (m 598 x2) = (-2) then 0 else (if (m 600 x2) = 0 then 1 else 0 : Int) : Int)] m Q T := by
      clear hs
      refine b_istore (ls' := [vR 582, vI x1, vI x2, vI x3, vI x4, vI (if (m 598 x2) = (-2) then 0 else (if (m 600 x2) = 0 then 1 else 0 : Int) : Int)]) dX10_judgeOver_105 (Nat.le_of_ble_eq_true rfl) rfl ?_
      refine b_iload dX10_judgeOver_107 rfl ?_
      obtain ⟨g4, h⟩ := h
      refine b_if_ne 126 dX10_judgeOver_109 g4 (by decide) (fun c2 => ?_) (fun c2 => ?_)
      · have h := ifF c2 h
        refine b_iload_n dX10_judgeOver_126 rfl ?_
        obtain ⟨g5, h⟩ := h
        refine b_if_ne 154 dX10_judgeOver_127 g5 (by decide) (fun c3 => ?_) (fun c3 => ?_)
        · have h := ifF c3 h
          refine b_fgt [true, true, true, true, true, false] (ls' := [vR 582, vI x1, vI x2, vI x3, vI x4, vU]) rfl rfl ?_
          exact pl_X10_judgeOver_154 hf _ _ _ _ _ h
        · have h := ifT (Decidable.of_not_not c3) h
          refine b_aload_n dX10_judgeOver_130 rfl ?_
          refine b_getR dX10_judgeOver_131 fk_X10_133 ly_582 gg_582_25 ?_
          refine b_iload_n dX10_judgeOver_134 rfl ?_
          refine b_iald dX10_judgeOver_135 ly_599 g1 ?_
          refine b_iconst dX10_judgeOver_136 ?_
          obtain ⟨g6, h⟩ := h
          refine b_icmp_ne 154 dX10_judgeOver_137 g6 (by decide) (by decide) (fun c4 => ?_) (fun c4 => ?_)
          · have h := ifF c4 h
            refine b_fgt [true, true, true, true, true, false] (ls' := [vR 582, vI x1, vI x2, vI x3, vI x4, vU]) rfl rfl ?_
            exact pl_X10_judgeOver_154 hf _ _ _ _ _ h
          · have h := ifT (Decidable.of_not_not c4) h
            refine b_aload_n dX10_judgeOver_140 rfl ?_
            refine b_iconst dX10_judgeOver_141 ?_
            refine b_aload_n dX10_judgeOver_142 rfl ?_
            refine b_getR dX10_judgeOver_143 fk_X10_121 ly_582 gg_582_21 ?_
            refine b_iload_n dX10_judgeOver_146 rfl ?_
            obtain ⟨g7, h⟩ := h
            refine b_iald dX10_judgeOver_147 ly_595 g7 ?_
            refine b_cVv (as := [vI 4, vI (m 595 x1)]) (st := []) dX10_judgeOver_148 mf_X10_note qs129 lk_X10_472 ly_582 rfl (p_X10_note (f := 1) (Nat.le_refl _) _ _ _ h) (by omega) rfl rfl (Nat.le_of_ble_eq_true rfl) (by decide) rfl (fun _ => rfl) (fun r1 m1 h => ?_) (fun _ h => h)
            refine b_goto 201 dX10_judgeOver_151 (by decide) ?_
            exact b_vret dX10_judgeOver_201 rfl h
      · have h := ifT (Decidable.of_not_not c2) h
        refine b_aload_n dX10_judgeOver_112 rfl ?_
        refine b_iconst dX10_judgeOver_113 ?_
        refine b_aload_n dX10_judgeOver_114 rfl ?_
        refine b_getR dX10_judgeOver_115 fk_X10_121 ly_582 gg_582_21 ?_
        refine b_iload_n dX10_judgeOver_118 rfl ?_
        refine b_iald dX10_judgeOver_119 ly_595 g1 ?_
        refine b_cVv (as := [vI 4, vI (m 595 x2)]) (st := []) dX10_judgeOver_120 mf_X10_note qs129 lk_X10_472 ly_582 rfl (p_X10_note (f := 1) (Nat.le_refl _) _ _ _ h) (by omega) rfl rfl (Nat.le_of_ble_eq_true rfl) (by decide) rfl (fun _ => rfl) (fun r2 m2 h => ?_) (fun _ h => h)
        refine b_goto 201 dX10_judgeOver_123 (by decide) ?_
        exact b_vret dX10_judgeOver_201 rfl h
    refine b_icmp_eq 104 dX10_judgeOver_88 g2 (by decide) (by decide) (fun c5 => ?_) (fun c5 => ?_)
    ·
      refine b_iconst dX10_judgeOver_104 ?_
      rw [if_pos c5] at K
      exact K
    ·
      have hs := ifF c5 hs
      have g3 := hs
      refine b_aload_n dX10_judgeOver_91 rfl ?_
      refine b_getR dX10_judgeOver_92 fk_X10_136 ly_582 gg_582_26 ?_
      refine b_iload_n dX10_judgeOver_95 rfl ?_
      refine b_iald dX10_judgeOver_96 ly_600 g1 ?_
      refine b_if_ne 104 dX10_judgeOver_97 g3 (by decide) (fun c6 => ?_) (fun c6 => ?_)
      ·
        refine b_iconst dX10_judgeOver_104 ?_
        rw [if_neg c5, if_neg c6] at K
        exact K
      ·
        have c6 := Decidable.of_not_not c6
        refine b_iconst dX10_judgeOver_100 ?_
        refine b_goto 105 dX10_judgeOver_101 (by decide) ?_
        rw [if_neg c5, if_pos c6] at K
        exact K
  · have h := ifT (Decidable.of_not_not c1) h
    exact b_vret dX10_judgeOver_79 rfl h
theorem p_X10_judgeOver {f : Nat} {Q : Int → MM → Prop} {T : MM → Prop} (hf : 2 ≤ f) (x1 : Int) (x2 : Int) (m : MM) (h : P_X10_judgeOver x1 x2 m Q) : CC f M_X10_judgeOver [vR 582, vI x1, vI x2] m Q T := by
  refine CC.of (plainFor_of_name (by decide)) (Nat.le_of_ble_eq_true rfl) (ls := [vR 582, vI x1, vI x2, vU, vU, vU]) rfl ?_
  have h : (0 ≤ x1 ∧ x1 < 12000) ∧ ((RI (m 597 x1))) ∧ ((RI (if (m 597 x1) = 6 then 1 else 0 : Int)) ∧ (if (if (m 597 x1) = 6 then 1 else 0 : Int) = 0 then True else ((RL (m 605 x1))))) ∧ (RI (if (if (m 597 x1) = 6 then 1 else 0 : Int) = 0 then 1 else (if (m 605 x1) < 1 then 0 else (if 3 < (m 605 x1) then 0 else 1 : Int) : Int) : Int)) ∧ (if (if (if (m 597 x1) = 6 then 1 else 0 : Int) = 0 then 1 else (if (m 605 x1) < 1 then 0 else (if 3 < (m 605 x1) then 0 else 1 : Int) : Int) : Int) = 0 then P_X10_note 4 (m 592 x1) m (fun r1 m1 => P_X10_judgeOver_68 Q x1 x2 (if (m 597 x1) = 6 then 1 else 0 : Int) (if (if (m 597 x1) = 6 then 1 else 0 : Int) = 0 then 1 else (if (m 605 x1) < 1 then 0 else (if 3 < (m 605 x1) then 0 else 1 : Int) : Int) : Int) m1) else P_X10_judgeOver_68 Q x1 x2 (if (m 597 x1) = 6 then 1 else 0 : Int) (if (if (m 597 x1) = 6 then 1 else 0 : Int) = 0 then 1 else (if (m 605 x1) < 1 then 0 else (if 3 < (m 605 x1) then 0 else 1 : Int) : Int) : Int) m) := h
  refine b_aload_n dX10_judgeOver_0 rfl ?_
  refine b_getR dX10_judgeOver_1 fk_X10_127 ly_582 gg_582_23 ?_
  refine b_iload_n dX10_judgeOver_4 rfl ?_
  obtain ⟨g1, h⟩ := h
  refine b_iald dX10_judgeOver_5 ly_597 g1 ?_
  refine b_bipush dX10_judgeOver_6 (by decide) ?_
  obtain ⟨hs, h⟩ := h
  have K : B f M_X10_judgeOver 16 [vR 582, vI x1, vI x2, vU, vU, vU] [vI (if (m 597 x1) = 6 then 1 else 0 : Int)] m Q T := by
    clear hs
    refine b_istore_n (ls' := [vR 582, vI x1, vI x2, vI (if (m 597 x1) = 6 then 1 else 0 : Int), vU, vU]) dX10_judgeOver_16 (Nat.le_of_ble_eq_true rfl) rfl ?_
    refine b_iload_n dX10_judgeOver_17 rfl ?_
    obtain ⟨hs, h⟩ := h
    have K : B f M_X10_judgeOver 50 [vR 582, vI x1, vI x2, vI (if (m 597 x1) = 6 then 1 else 0 : Int), vU, vU] [vI (if (if (m 597 x1) = 6 then 1 else 0 : Int) = 0 then 1 else (if (m 605 x1) < 1 then 0 else (if 3 < (m 605 x1) then 0 else 1 : Int) : Int) : Int)] m Q T := by
      clear hs
      refine b_istore (ls' := [vR 582, vI x1, vI x2, vI (if (m 597 x1) = 6 then 1 else 0 : Int), vI (if (if (m 597 x1) = 6 then 1 else 0 : Int) = 0 then 1 else (if (m 605 x1) < 1 then 0 else (if 3 < (m 605 x1) then 0 else 1 : Int) : Int) : Int), vU]) dX10_judgeOver_50 (Nat.le_of_ble_eq_true rfl) rfl ?_
      refine b_iload dX10_judgeOver_52 rfl ?_
      obtain ⟨g5, h⟩ := h
      refine b_if_ne 68 dX10_judgeOver_54 g5 (by decide) (fun c1 => ?_) (fun c1 => ?_)
      · have h := ifF c1 h
        exact pl_X10_judgeOver_68 hf _ _ _ _ _ h
      · have h := ifT (Decidable.of_not_not c1) h
        refine b_aload_n dX10_judgeOver_57 rfl ?_
        refine b_iconst dX10_judgeOver_58 ?_
        refine b_aload_n dX10_judgeOver_59 rfl ?_
        refine b_getR dX10_judgeOver_60 fk_X10_112 ly_582 gg_582_18 ?_
        refine b_iload_n dX10_judgeOver_63 rfl ?_
        refine b_iald dX10_judgeOver_64 ly_592 g1 ?_
        refine b_cVv (as := [vI 4, vI (m 592 x1)]) (st := []) dX10_judgeOver_65 mf_X10_note qs129 lk_X10_472 ly_582 rfl (p_X10_note (f := 1) (Nat.le_refl _) _ _ _ h) (by omega) rfl rfl (Nat.le_of_ble_eq_true rfl) (by decide) rfl (fun _ => rfl) (fun r1 m1 h => ?_) (fun _ h => h)
        exact pl_X10_judgeOver_68 hf _ _ _ _ _ h
    obtain ⟨g3, hs⟩ := hs
    refine b_if_eq 45 dX10_judgeOver_18 g3 (by decide) (fun c2 => ?_) (fun c2 => ?_)
    ·
      refine b_iconst dX10_judgeOver_45 ?_
      refine b_goto 50 dX10_judgeOver_46 (by decide) ?_
      rw [if_pos c2] at K
      exact K
    ·
      have hs := ifF c2 hs
      have g4 := hs
      refine b_aload_n dX10_judgeOver_21 rfl ?_
      refine b_getR dX10_judgeOver_22 fk_X10_152 ly_582 gg_582_31 ?_
      refine b_iload_n dX10_judgeOver_25 rfl ?_
      refine b_lald dX10_judgeOver_26 ly_605 g1 ?_
      refine b_lconst 1 dX10_judgeOver_27 (by decide) ?_
      refine b_lc_lt 49 dX10_judgeOver_28 dX10_judgeOver_29 g4 (by decide) (by decide) (fun c3 => ?_) (fun c3 => ?_)
      ·
        refine b_iconst dX10_judgeOver_49 ?_
        rw [if_neg c2, if_pos c3] at K
        exact K
      ·
        refine b_aload_n dX10_judgeOver_32 rfl ?_
        refine b_getR dX10_judgeOver_33 fk_X10_152 ly_582 gg_582_31 ?_
        refine b_iload_n dX10_judgeOver_36 rfl ?_
        refine b_lald dX10_judgeOver_37 ly_605 g1 ?_
        refine b_ldc2 (3) dX10_judgeOver_38 q2177 (by decide) ?_
        refine b_lc_gt 49 dX10_judgeOver_41 dX10_judgeOver_42 g4 (by decide) (by decide) (fun c4 => ?_) (fun c4 => ?_)
        ·
          refine b_iconst dX10_judgeOver_49 ?_
          rw [if_neg c2, if_neg c3, if_pos c4] at K
          exact K
        ·
          refine b_iconst dX10_judgeOver_45 ?_
          refine b_goto 50 dX10_judgeOver_46 (by decide) ?_
          rw [if_neg c2, if_neg c3, if_neg c4] at K
          exact K
  have g2 := hs
  refine b_icmp_ne 15 dX10_judgeOver_8 g2 (by decide) (by decide) (fun c5 => ?_) (fun c5 => ?_)
  ·
    refine b_iconst dX10_judgeOver_15 ?_
    rw [if_neg c5] at K
    exact K
  ·
    have c5 := Decidable.of_not_not c5
    refine b_iconst dX10_judgeOver_11 ?_
    refine b_goto 16 dX10_judgeOver_12 (by decide) ?_
    rw [if_pos c5] at K
    exact K
theorem dX10_judgeRing_0 : decode cX10_judgeRing 0 = .ok (.aload_n 0, 1) := by decide +kernel
theorem dX10_judgeRing_1 : decode cX10_judgeRing 1 = .ok (.getfield 130, 3) := by decide +kernel
theorem dX10_judgeRing_4 : decode cX10_judgeRing 4 = .ok (.iload_n 1, 1) := by decide +kernel
theorem dX10_judgeRing_5 : decode cX10_judgeRing 5 = .ok (.bipush (-9), 2) := by decide +kernel
theorem dX10_judgeRing_7 : decode cX10_judgeRing 7 = .ok (.iastore, 1) := by decide +kernel
theorem dX10_judgeRing_8 : decode cX10_judgeRing 8 = .ok (.aload_n 0, 1) := by decide +kernel
theorem dX10_judgeRing_9 : decode cX10_judgeRing 9 = .ok (.getfield 109, 3) := by decide +kernel
theorem dX10_judgeRing_12 : decode cX10_judgeRing 12 = .ok (.iload_n 1, 1) := by decide +kernel
theorem dX10_judgeRing_13 : decode cX10_judgeRing 13 = .ok (.iaload, 1) := by decide +kernel
theorem dX10_judgeRing_14 : decode cX10_judgeRing 14 = .ok (.istore_n 2, 1) := by decide +kernel
theorem dX10_judgeRing_15 : decode cX10_judgeRing 15 = .ok (.iload_n 2, 1) := by decide +kernel
theorem dX10_judgeRing_16 : decode cX10_judgeRing 16 = .ok (.ifCond .lt 8, 3) := by decide +kernel
theorem dX10_judgeRing_19 : decode cX10_judgeRing 19 = .ok (.aload_n 0, 1) := by decide +kernel
theorem dX10_judgeRing_20 : decode cX10_judgeRing 20 = .ok (.iload_n 2, 1) := by decide +kernel
theorem dX10_judgeRing_21 : decode cX10_judgeRing 21 = .ok (.invokevirtual 479, 3) := by decide +kernel
theorem dX10_judgeRing_24 : decode cX10_judgeRing 24 = .ok (.aload_n 0, 1) := by decide +kernel
theorem dX10_judgeRing_25 : decode cX10_judgeRing 25 = .ok (.getfield 127, 3) := by decide +kernel
theorem dX10_judgeRing_28 : decode cX10_judgeRing 28 = .ok (.iload_n 1, 1) := by decide +kernel
theorem dX10_judgeRing_29 : decode cX10_judgeRing 29 = .ok (.iaload, 1) := by decide +kernel
theorem dX10_judgeRing_30 : decode cX10_judgeRing 30 = .ok (.tableswitch 168 0 4 #[34, 45, 56, 68, 125], 34) := by decide +kernel
theorem dX10_judgeRing_64 : decode cX10_judgeRing 64 = .ok (.aload_n 0, 1) := by decide +kernel
theorem dX10_judgeRing_65 : decode cX10_judgeRing 65 = .ok (.iload_n 1, 1) := by decide +kernel
theorem dX10_judgeRing_66 : decode cX10_judgeRing 66 = .ok (.iconst 0, 1) := by decide +kernel
theorem dX10_judgeRing_67 : decode cX10_judgeRing 67 = .ok (.iconst 0, 1) := by decide +kernel
theorem dX10_judgeRing_68 : decode cX10_judgeRing 68 = .ok (.iconst 0, 1) := by decide +kernel
theorem dX10_judgeRing_69 : decode cX10_judgeRing 69 = .ok (.invokevirtual 482, 3) := by decide +kernel
theorem dX10_judgeRing_72 : decode cX10_judgeRing 72 = .ok (.goto 132, 3) := by decide +kernel
theorem dX10_judgeRing_75 : decode cX10_judgeRing 75 = .ok (.aload_n 0, 1) := by decide +kernel
theorem dX10_judgeRing_76 : decode cX10_judgeRing 76 = .ok (.iload_n 1, 1) := by decide +kernel
theorem dX10_judgeRing_77 : decode cX10_judgeRing 77 = .ok (.iconst 1, 1) := by decide +kernel
theorem dX10_judgeRing_78 : decode cX10_judgeRing 78 = .ok (.iconst 0, 1) := by decide +kernel
theorem dX10_judgeRing_79 : decode cX10_judgeRing 79 = .ok (.iconst 0, 1) := by decide +kernel
theorem dX10_judgeRing_80 : decode cX10_judgeRing 80 = .ok (.invokevirtual 482, 3) := by decide +kernel
theorem dX10_judgeRing_83 : decode cX10_judgeRing 83 = .ok (.goto 121, 3) := by decide +kernel
theorem dX10_judgeRing_86 : decode cX10_judgeRing 86 = .ok (.aload_n 0, 1) := by decide +kernel
theorem dX10_judgeRing_87 : decode cX10_judgeRing 87 = .ok (.iload_n 1, 1) := by decide +kernel
theorem dX10_judgeRing_88 : decode cX10_judgeRing 88 = .ok (.bipush (-2), 2) := by decide +kernel
theorem dX10_judgeRing_90 : decode cX10_judgeRing 90 = .ok (.iconst 0, 1) := by decide +kernel
theorem dX10_judgeRing_91 : decode cX10_judgeRing 91 = .ok (.iconst 0, 1) := by decide +kernel
theorem dX10_judgeRing_92 : decode cX10_judgeRing 92 = .ok (.invokevirtual 482, 3) := by decide +kernel
theorem dX10_judgeRing_95 : decode cX10_judgeRing 95 = .ok (.goto 109, 3) := by decide +kernel
theorem dX10_judgeRing_98 : decode cX10_judgeRing 98 = .ok (.aload_n 0, 1) := by decide +kernel
theorem dX10_judgeRing_99 : decode cX10_judgeRing 99 = .ok (.getfield 152, 3) := by decide +kernel
theorem dX10_judgeRing_102 : decode cX10_judgeRing 102 = .ok (.iload_n 1, 1) := by decide +kernel
theorem dX10_judgeRing_103 : decode cX10_judgeRing 103 = .ok (.laload, 1) := by decide +kernel
theorem dX10_judgeRing_104 : decode cX10_judgeRing 104 = .ok (.ldc2_w 505, 3) := by decide +kernel
theorem dX10_judgeRing_107 : decode cX10_judgeRing 107 = .ok (.lcmp, 1) := by decide +kernel
theorem dX10_judgeRing_108 : decode cX10_judgeRing 108 = .ok (.ifCond .lt 33, 3) := by decide +kernel
theorem dX10_judgeRing_111 : decode cX10_judgeRing 111 = .ok (.aload_n 0, 1) := by decide +kernel
theorem dX10_judgeRing_112 : decode cX10_judgeRing 112 = .ok (.getfield 152, 3) := by decide +kernel
theorem dX10_judgeRing_115 : decode cX10_judgeRing 115 = .ok (.iload_n 1, 1) := by decide +kernel
theorem dX10_judgeRing_116 : decode cX10_judgeRing 116 = .ok (.laload, 1) := by decide +kernel
theorem dX10_judgeRing_117 : decode cX10_judgeRing 117 = .ok (.ldc2_w 507, 3) := by decide +kernel
theorem dX10_judgeRing_120 : decode cX10_judgeRing 120 = .ok (.lcmp, 1) := by decide +kernel
theorem dX10_judgeRing_121 : decode cX10_judgeRing 121 = .ok (.ifCond .gt 20, 3) := by decide +kernel
theorem dX10_judgeRing_124 : decode cX10_judgeRing 124 = .ok (.aload_n 0, 1) := by decide +kernel
theorem dX10_judgeRing_125 : decode cX10_judgeRing 125 = .ok (.iload_n 1, 1) := by decide +kernel
theorem dX10_judgeRing_126 : decode cX10_judgeRing 126 = .ok (.aload_n 0, 1) := by decide +kernel
theorem dX10_judgeRing_127 : decode cX10_judgeRing 127 = .ok (.getfield 152, 3) := by decide +kernel
theorem dX10_judgeRing_130 : decode cX10_judgeRing 130 = .ok (.iload_n 1, 1) := by decide +kernel
theorem dX10_judgeRing_131 : decode cX10_judgeRing 131 = .ok (.laload, 1) := by decide +kernel
theorem dX10_judgeRing_132 : decode cX10_judgeRing 132 = .ok (.l2i, 1) := by decide +kernel
theorem dX10_judgeRing_133 : decode cX10_judgeRing 133 = .ok (.iconst 0, 1) := by decide +kernel
theorem dX10_judgeRing_134 : decode cX10_judgeRing 134 = .ok (.iconst 0, 1) := by decide +kernel
theorem dX10_judgeRing_135 : decode cX10_judgeRing 135 = .ok (.invokevirtual 482, 3) := by decide +kernel
theorem dX10_judgeRing_138 : decode cX10_judgeRing 138 = .ok (.goto 66, 3) := by decide +kernel
theorem dX10_judgeRing_141 : decode cX10_judgeRing 141 = .ok (.aload_n 0, 1) := by decide +kernel
theorem dX10_judgeRing_142 : decode cX10_judgeRing 142 = .ok (.iconst 4, 1) := by decide +kernel
theorem dX10_judgeRing_143 : decode cX10_judgeRing 143 = .ok (.aload_n 0, 1) := by decide +kernel
theorem dX10_judgeRing_144 : decode cX10_judgeRing 144 = .ok (.getfield 112, 3) := by decide +kernel
theorem dX10_judgeRing_147 : decode cX10_judgeRing 147 = .ok (.iload_n 1, 1) := by decide +kernel
theorem dX10_judgeRing_148 : decode cX10_judgeRing 148 = .ok (.iaload, 1) := by decide +kernel
theorem dX10_judgeRing_149 : decode cX10_judgeRing 149 = .ok (.invokevirtual 472, 3) := by decide +kernel
theorem dX10_judgeRing_152 : decode cX10_judgeRing 152 = .ok (.goto 52, 3) := by decide +kernel
theorem dX10_judgeRing_155 : decode cX10_judgeRing 155 = .ok (.aload_n 0, 1) := by decide +kernel
theorem dX10_judgeRing_156 : decode cX10_judgeRing 156 = .ok (.getfield 234, 3) := by decide +kernel
theorem dX10_judgeRing_159 : decode cX10_judgeRing 159 = .ok (.bipush (-9), 2) := by decide +kernel
theorem dX10_judgeRing_161 : decode cX10_judgeRing 161 = .ok (.if_icmp .ne 17, 3) := by decide +kernel
theorem dX10_judgeRing_164 : decode cX10_judgeRing 164 = .ok (.aload_n 0, 1) := by decide +kernel
theorem dX10_judgeRing_165 : decode cX10_judgeRing 165 = .ok (.iconst 3, 1) := by decide +kernel
theorem dX10_judgeRing_166 : decode cX10_judgeRing 166 = .ok (.aload_n 0, 1) := by decide +kernel
theorem dX10_judgeRing_167 : decode cX10_judgeRing 167 = .ok (.getfield 121, 3) := by decide +kernel
theorem dX10_judgeRing_170 : decode cX10_judgeRing 170 = .ok (.iload_n 1, 1) := by decide +kernel
theorem dX10_judgeRing_171 : decode cX10_judgeRing 171 = .ok (.iaload, 1) := by decide +kernel
theorem dX10_judgeRing_172 : decode cX10_judgeRing 172 = .ok (.invokevirtual 472, 3) := by decide +kernel
theorem dX10_judgeRing_175 : decode cX10_judgeRing 175 = .ok (.goto 29, 3) := by decide +kernel
theorem dX10_judgeRing_178 : decode cX10_judgeRing 178 = .ok (.aload_n 0, 1) := by decide +kernel
theorem dX10_judgeRing_179 : decode cX10_judgeRing 179 = .ok (.iload_n 1, 1) := by decide +kernel
theorem dX10_judgeRing_180 : decode cX10_judgeRing 180 = .ok (.aload_n 0, 1) := by decide +kernel
theorem dX10_judgeRing_181 : decode cX10_judgeRing 181 = .ok (.getfield 234, 3) := by decide +kernel
theorem dX10_judgeRing_184 : decode cX10_judgeRing 184 = .ok (.aload_n 0, 1) := by decide +kernel
theorem dX10_judgeRing_185 : decode cX10_judgeRing 185 = .ok (.getfield 509, 3) := by decide +kernel
theorem dX10_judgeRing_188 : decode cX10_judgeRing 188 = .ok (.aload_n 0, 1) := by decide +kernel
theorem dX10_judgeRing_189 : decode cX10_judgeRing 189 = .ok (.getfield 512, 3) := by decide +kernel
theorem dX10_judgeRing_192 : decode cX10_judgeRing 192 = .ok (.invokevirtual 482, 3) := by decide +kernel
theorem dX10_judgeRing_195 : decode cX10_judgeRing 195 = .ok (.goto 9, 3) := by decide +kernel
theorem dX10_judgeRing_198 : decode cX10_judgeRing 198 = .ok (.aload_n 0, 1) := by decide +kernel
theorem dX10_judgeRing_199 : decode cX10_judgeRing 199 = .ok (.iload_n 1, 1) := by decide +kernel
theorem dX10_judgeRing_200 : decode cX10_judgeRing 200 = .ok (.iload_n 2, 1) := by decide +kernel
theorem dX10_judgeRing_201 : decode cX10_judgeRing 201 = .ok (.invokevirtual 515, 3) := by decide +kernel
theorem dX10_judgeRing_204 : decode cX10_judgeRing 204 = .ok (.return_, 1) := by decide +kernel
/-! AlgebraHouseModel.judgeRing(I)V -/
def P_X10_judgeRing_141 (rec : Nat → List Int → MM → (Int → MM → Prop) → (MM → Prop) → Prop) (Q : Int → MM → Prop) (T : MM → Prop) (x1 : Int) (m : MM) : Prop := (0 ≤ x1 ∧ x1 < 12000) ∧ P_X10_note 4 (m 592 x1) m (fun r1 m1 => Q 0 m1)
def P_X10_judgeRing_24 (rec : Nat → List Int → MM → (Int → MM → Prop) → (MM → Prop) → Prop) (Q : Int → MM → Prop) (T : MM → Prop) (x1 : Int) (x2 : Int) (m : MM) : Prop := (0 ≤ x1 ∧ x1 < 12000) ∧ (RI (m 597 x1)) ∧ (if (m 597 x1) = 0 then P_X10_setRing x1 0 0 0 m (fun r1 m1 => Q 0 m1) else (if (m 597 x1) = 1 then P_X10_setRing x1 1 0 0 m (fun r2 m2 => Q 0 m2) else (if (m 597 x1) = 2 then P_X10_setRing x1 (-2) 0 0 m (fun r3 m3 => Q 0 m3) else (if (m 597 x1) = 3 then (RL (m 605 x1)) ∧ (if (m 605 x1) < 2 then P_X10_judgeRing_141 rec Q T x1 m else (if 9973 < (m 605 x1) then P_X10_judgeRing_141 rec Q T x1 m else P_X10_setRing x1 (m 605 x1) 0 0 m (fun r4 m4 => Q 0 m4))) else (if (m 597 x1) = 4 then (RI (m 582 62)) ∧ (if (m 582 62) = (-9) then P_X10_note 3 (m 595 x1) m (fun r6 m6 => Q 0 m6) else P_X10_setRing x1 (m 582 62) (m 582 63) (m 582 64) m (fun r5 m5 => Q 0 m5)) else P_X10_judgeOver x1 x2 m (fun r7 m7 => Q 0 m7))))))
def W_X10_judgeRing (rec : Nat → List Int → MM → (Int → MM → Prop) → (MM → Prop) → Prop) (x1 : Int) (m : MM) (Q : Int → MM → Prop) (T : MM → Prop) : Prop := (0 ≤ x1 ∧ x1 < 12000) ∧ ∀ m1 : MM, m1 = up m 598 x1 (-9) → (RI (m1 591 x1)) ∧ (if (m1 591 x1) < 0 then P_X10_judgeRing_24 rec Q T x1 (m1 591 x1) m1 else rec 0 [(m1 591 x1)] m1 (fun r1 m2 => P_X10_judgeRing_24 rec Q T x1 (m1 591 x1) m2) T)
def HR_X10_judgeRing (rec : Nat → List Int → MM → (Int → MM → Prop) → (MM → Prop) → Prop) (fr : Nat) : Prop := (∀ (x1 : Int) (m : MM) (Q : Int → MM → Prop) (T : MM → Prop), rec 0 [x1] m Q T → CC fr M_X10_judgeRing [vR 582, vI x1] m Q T) ∧ True
theorem pl_X10_judgeRing_141 {f : Nat} {Q : Int → MM → Prop} {T : MM → Prop} {rec : Nat → List Int → MM → (Int → MM → Prop) → (MM → Prop) → Prop} {fr : Nat} (hrec : HR_X10_judgeRing rec fr) (hf : 3 ≤ f ∧ fr + 1 ≤ f) : ∀ (x1 : Int) (m : MM), P_X10_judgeRing_141 rec Q T x1 m → B f M_X10_judgeRing 141 [vR 582, vI x1, vU] [] m Q T := by
  intro x1 m h
  have h : (0 ≤ x1 ∧ x1 < 12000) ∧ P_X10_note 4 (m 592 x1) m (fun r1 m1 => Q 0 m1) := h
  refine b_aload_n dX10_judgeRing_141 rfl ?_
  refine b_iconst dX10_judgeRing_142 ?_
  refine b_aload_n dX10_judgeRing_143 rfl ?_
  refine b_getR dX10_judgeRing_144 fk_X10_112 ly_582 gg_582_18 ?_
  refine b_iload_n dX10_judgeRing_147 rfl ?_
  obtain ⟨g1, h⟩ := h
  refine b_iald dX10_judgeRing_148 ly_592 g1 ?_
  refine b_cVv (as := [vI 4, vI (m 592 x1)]) (st := []) dX10_judgeRing_149 mf_X10_note qs129 lk_X10_472 ly_582 rfl (p_X10_note (f := 1) (Nat.le_refl _) _ _ _ h) (by omega) rfl rfl (Nat.le_of_ble_eq_true rfl) (by decide) rfl (fun _ => rfl) (fun r1 m1 h => ?_) (fun _ h => h)
  refine b_goto 204 dX10_judgeRing_152 (by decide) ?_
  exact b_vret dX10_judgeRing_204 rfl h
theorem pl_X10_judgeRing_24 {f : Nat} {Q : Int → MM → Prop} {T : MM → Prop} {rec : Nat → List Int → MM → (Int → MM → Prop) → (MM → Prop) → Prop} {fr : Nat} (hrec : HR_X10_judgeRing rec fr) (hf : 3 ≤ f ∧ fr + 1 ≤ f) : ∀ (x1 : Int) (x2 : Int) (m : MM), P_X10_judgeRing_24 rec Q T x1 x2 m → B f M_X10_judgeRing 24 [vR 582, vI x1, vI x2] [] m Q T := by
  intro x1 x2 m h
  have h : (0 ≤ x1 ∧ x1 < 12000) ∧ (RI (m 597 x1)) ∧ (if (m 597 x1) = 0 then P_X10_setRing x1 0 0 0 m (fun r1 m1 => Q 0 m1) else (if (m 597 x1) = 1 then P_X10_setRing x1 1 0 0 m (fun r2 m2 => Q 0 m2) else (if (m 597 x1) = 2 then P_X10_setRing x1 (-2) 0 0 m (fun r3 m3 => Q 0 m3) else (if (m 597 x1) = 3 then (RL (m 605 x1)) ∧ (if (m 605 x1) < 2 then P_X10_judgeRing_141 rec Q T x1 m else (if 9973 < (m 605 x1) then P_X10_judgeRing_141 rec Q T x1 m else P_X10_setRing x1 (m 605 x1) 0 0 m (fun r4 m4 => Q 0 m4))) else (if (m 597 x1) = 4 then (RI (m 582 62)) ∧ (if (m 582 62) = (-9) then P_X10_note 3 (m 595 x1) m (fun r6 m6 => Q 0 m6) else P_X10_setRing x1 (m 582 62) (m 582 63) (m 582 64) m (fun r5 m5 => Q 0 m5)) else P_X10_judgeOver x1 x2 m (fun r7 m7 => Q 0 m7)))))) := h
  refine b_aload_n dX10_judgeRing_24 rfl ?_
  refine b_getR dX10_judgeRing_25 fk_X10_127 ly_582 gg_582_23 ?_
  refine b_iload_n dX10_judgeRing_28 rfl ?_
  obtain ⟨g1, h⟩ := h
  refine b_iald dX10_judgeRing_29 ly_597 g1 ?_
  obtain ⟨g2, h⟩ := h
  by_cases c1 : (m 597 x1) = 0
  · have h := ifT c1 h
    refine b_tswIn 64 dX10_judgeRing_30 g2 (by omega) (by omega) (by rw [c1]; rfl) (by decide) ?_
    refine b_aload_n dX10_judgeRing_64 rfl ?_
    refine b_iload_n dX10_judgeRing_65 rfl ?_
    refine b_iconst dX10_judgeRing_66 ?_
    refine b_iconst dX10_judgeRing_67 ?_
    refine b_iconst dX10_judgeRing_68 ?_
    refine b_cVv (as := [vI x1, vI 0, vI 0, vI 0]) (st := []) dX10_judgeRing_69 mf_X10_setRing qs128 lk_X10_482 ly_582 rfl (p_X10_setRing (f := 1) (Nat.le_refl _) _ _ _ _ _ h) (by omega) rfl rfl (Nat.le_of_ble_eq_true rfl) (by decide) rfl (fun _ => rfl) (fun r1 m1 h => ?_) (fun _ h => h)
    refine b_goto 204 dX10_judgeRing_72 (by decide) ?_
    exact b_vret dX10_judgeRing_204 rfl h
  have h := ifF c1 h
  by_cases c2 : (m 597 x1) = 1
  · have h := ifT c2 h
    refine b_tswIn 75 dX10_judgeRing_30 g2 (by omega) (by omega) (by rw [c2]; rfl) (by decide) ?_
    refine b_aload_n dX10_judgeRing_75 rfl ?_
    refine b_iload_n dX10_judgeRing_76 rfl ?_
    refine b_iconst dX10_judgeRing_77 ?_
    refine b_iconst dX10_judgeRing_78 ?_
    refine b_iconst dX10_judgeRing_79 ?_
    refine b_cVv (as := [vI x1, vI 1, vI 0, vI 0]) (st := []) dX10_judgeRing_80 mf_X10_setRing qs128 lk_X10_482 ly_582 rfl (p_X10_setRing (f := 1) (Nat.le_refl _) _ _ _ _ _ h) (by omega) rfl rfl (Nat.le_of_ble_eq_true rfl) (by decide) rfl (fun _ => rfl) (fun r2 m2 h => ?_) (fun _ h => h)
    refine b_goto 204 dX10_judgeRing_83 (by decide) ?_
    exact b_vret dX10_judgeRing_204 rfl h
  have h := ifF c2 h
  by_cases c3 : (m 597 x1) = 2
  · have h := ifT c3 h
    refine b_tswIn 86 dX10_judgeRing_30 g2 (by omega) (by omega) (by rw [c3]; rfl) (by decide) ?_
    refine b_aload_n dX10_judgeRing_86 rfl ?_
    refine b_iload_n dX10_judgeRing_87 rfl ?_
    refine b_bipush dX10_judgeRing_88 (by decide) ?_
    refine b_iconst dX10_judgeRing_90 ?_
    refine b_iconst dX10_judgeRing_91 ?_
    refine b_cVv (as := [vI x1, vI (-2), vI 0, vI 0]) (st := []) dX10_judgeRing_92 mf_X10_setRing qs128 lk_X10_482 ly_582 rfl (p_X10_setRing (f := 1) (Nat.le_refl _) _ _ _ _ _ h) (by omega) rfl rfl (Nat.le_of_ble_eq_true rfl) (by decide) rfl (fun _ => rfl) (fun r3 m3 h => ?_) (fun _ h => h)
    refine b_goto 204 dX10_judgeRing_95 (by decide) ?_
    exact b_vret dX10_judgeRing_204 rfl h
  have h := ifF c3 h
  by_cases c4 : (m 597 x1) = 3
  · have h := ifT c4 h
    refine b_tswIn 98 dX10_judgeRing_30 g2 (by omega) (by omega) (by rw [c4]; rfl) (by decide) ?_
    refine b_aload_n dX10_judgeRing_98 rfl ?_
    refine b_getR dX10_judgeRing_99 fk_X10_152 ly_582 gg_582_31 ?_
    refine b_iload_n dX10_judgeRing_102 rfl ?_
    refine b_lald dX10_judgeRing_103 ly_605 g1 ?_
    refine b_ldc2 (2) dX10_judgeRing_104 q2167 (by decide) ?_
    obtain ⟨g3, h⟩ := h
    refine b_lc_lt 141 dX10_judgeRing_107 dX10_judgeRing_108 g3 (by decide) (by decide) (fun c5 => ?_) (fun c5 => ?_)
    · have h := ifT c5 h
      refine b_fgt [true, true, false] (ls' := [vR 582, vI x1, vU]) rfl rfl ?_
      exact pl_X10_judgeRing_141 hrec hf _ _ h
    · have h := ifF c5 h
      refine b_aload_n dX10_judgeRing_111 rfl ?_
      refine b_getR dX10_judgeRing_112 fk_X10_152 ly_582 gg_582_31 ?_
      refine b_iload_n dX10_judgeRing_115 rfl ?_
      refine b_lald dX10_judgeRing_116 ly_605 g1 ?_
      refine b_ldc2 (9973) dX10_judgeRing_117 q2168 (by decide) ?_
      refine b_lc_gt 141 dX10_judgeRing_120 dX10_judgeRing_121 g3 (by decide) (by decide) (fun c6 => ?_) (fun c6 => ?_)
      · have h := ifT c6 h
        refine b_fgt [true, true, false] (ls' := [vR 582, vI x1, vU]) rfl rfl ?_
        exact pl_X10_judgeRing_141 hrec hf _ _ h
      · have h := ifF c6 h
        refine b_aload_n dX10_judgeRing_124 rfl ?_
        refine b_iload_n dX10_judgeRing_125 rfl ?_
        refine b_aload_n dX10_judgeRing_126 rfl ?_
        refine b_getR dX10_judgeRing_127 fk_X10_152 ly_582 gg_582_31 ?_
        refine b_iload_n dX10_judgeRing_130 rfl ?_
        refine b_lald dX10_judgeRing_131 ly_605 g1 ?_
        refine b_l2i dX10_judgeRing_132 ?_
        refine b_iconst dX10_judgeRing_133 ?_
        refine b_iconst dX10_judgeRing_134 ?_
        refine b_cVv (as := [vI x1, vI (m 605 x1), vI 0, vI 0]) (st := []) dX10_judgeRing_135 mf_X10_setRing qs128 lk_X10_482 ly_582 rfl (p_X10_setRing (f := 1) (Nat.le_refl _) _ _ _ _ _ h) (by omega) rfl rfl (Nat.le_of_ble_eq_true rfl) (by decide) rfl (fun _ => rfl) (fun r4 m4 h => ?_) (fun _ h => h)
        refine b_goto 204 dX10_judgeRing_138 (by decide) ?_
        exact b_vret dX10_judgeRing_204 rfl h
  have h := ifF c4 h
  by_cases c7 : (m 597 x1) = 4
  · have h := ifT c7 h
    refine b_tswIn 155 dX10_judgeRing_30 g2 (by omega) (by omega) (by rw [c7]; rfl) (by decide) ?_
    refine b_aload_n dX10_judgeRing_155 rfl ?_
    refine b_getI dX10_judgeRing_156 fk_X10_234 ly_582 ?_
    refine b_bipush dX10_judgeRing_159 (by decide) ?_
    obtain ⟨g4, h⟩ := h
    refine b_icmp_ne 178 dX10_judgeRing_161 g4 (by decide) (by decide) (fun c8 => ?_) (fun c8 => ?_)
    · have h := ifF c8 h
      refine b_aload_n dX10_judgeRing_178 rfl ?_
      refine b_iload_n dX10_judgeRing_179 rfl ?_
      refine b_aload_n dX10_judgeRing_180 rfl ?_
      refine b_getI dX10_judgeRing_181 fk_X10_234 ly_582 ?_
      refine b_aload_n dX10_judgeRing_184 rfl ?_
      refine b_getI dX10_judgeRing_185 fk_X10_509 ly_582 ?_
      refine b_aload_n dX10_judgeRing_188 rfl ?_
      refine b_getI dX10_judgeRing_189 fk_X10_512 ly_582 ?_
      refine b_cVv (as := [vI x1, vI (m 582 62), vI (m 582 63), vI (m 582 64)]) (st := []) dX10_judgeRing_192 mf_X10_setRing qs128 lk_X10_482 ly_582 rfl (p_X10_setRing (f := 1) (Nat.le_refl _) _ _ _ _ _ h) (by omega) rfl rfl (Nat.le_of_ble_eq_true rfl) (by decide) rfl (fun _ => rfl) (fun r5 m5 h => ?_) (fun _ h => h)
      refine b_goto 204 dX10_judgeRing_195 (by decide) ?_
      exact b_vret dX10_judgeRing_204 rfl h
    · have h := ifT (Decidable.of_not_not c8) h
      refine b_aload_n dX10_judgeRing_164 rfl ?_
      refine b_iconst dX10_judgeRing_165 ?_
      refine b_aload_n dX10_judgeRing_166 rfl ?_
      refine b_getR dX10_judgeRing_167 fk_X10_121 ly_582 gg_582_21 ?_
      refine b_iload_n dX10_judgeRing_170 rfl ?_
      refine b_iald dX10_judgeRing_171 ly_595 g1 ?_
      refine b_cVv (as := [vI 3, vI (m 595 x1)]) (st := []) dX10_judgeRing_172 mf_X10_note qs129 lk_X10_472 ly_582 rfl (p_X10_note (f := 1) (Nat.le_refl _) _ _ _ h) (by omega) rfl rfl (Nat.le_of_ble_eq_true rfl) (by decide) rfl (fun _ => rfl) (fun r6 m6 h => ?_) (fun _ h => h)
      refine b_goto 204 dX10_judgeRing_175 (by decide) ?_
      exact b_vret dX10_judgeRing_204 rfl h
  have h := ifF c7 h
  refine b_tswOut 198 dX10_judgeRing_30 g2 (by omega) (by decide) ?_
  refine b_aload_n dX10_judgeRing_198 rfl ?_
  refine b_iload_n dX10_judgeRing_199 rfl ?_
  refine b_iload_n dX10_judgeRing_200 rfl ?_
  refine b_cVv (as := [vI x1, vI x2]) (st := []) dX10_judgeRing_201 mf_X10_judgeOver qs130 lk_X10_515 ly_582 rfl (p_X10_judgeOver (f := 2) (Nat.le_refl _) _ _ _ h) (by omega) rfl rfl (Nat.le_of_ble_eq_true rfl) (by decide) rfl (fun _ => rfl) (fun r7 m7 h => ?_) (fun _ h => h)
  exact b_vret dX10_judgeRing_204 rfl h
theorem w_X10_judgeRing {f : Nat} {Q : Int → MM → Prop} {T : MM → Prop} {rec : Nat → List Int → MM → (Int → MM → Prop) → (MM → Prop) → Prop} {fr : Nat} (hrec : HR_X10_judgeRing rec fr) (hf : 3 ≤ f ∧ fr + 1 ≤ f) (x1 : Int) (m : MM) (h : W_X10_judgeRing rec x1 m Q T) : CC f M_X10_judgeRing [vR 582, vI x1] m Q T := by
  refine CC.of (plainFor_of_name (by decide)) (Nat.le_of_ble_eq_true rfl) (ls := [vR 582, vI x1, vU]) rfl ?_
  have h : (0 ≤ x1 ∧ x1 < 12000) ∧ ∀ m1 : MM, m1 = up m 598 x1 (-9) → (RI (m1 591 x1)) ∧ (if (m1 591 x1) < 0 then P_X10_judgeRing_24 rec Q T x1 (m1 591 x1) m1 else rec 0 [(m1 591 x1)] m1 (fun r1 m2 => P_X10_judgeRing_24 rec Q T x1 (m1 591 x1) m2) T) := h
  refine b_aload_n dX10_judgeRing_0 rfl ?_
  refine b_getR dX10_judgeRing_1 fk_X10_130 ly_582 gg_582_24 ?_
  refine b_iload_n dX10_judgeRing_4 rfl ?_
  refine b_bipush dX10_judgeRing_5 (by decide) ?_
  obtain ⟨g1, h⟩ := h
  refine b_iast dX10_judgeRing_7 ly_598 g1 (fun m1 em1 => ?_)
  have h := h m1 em1
  refine b_aload_n dX10_judgeRing_8 rfl ?_
  refine b_getR dX10_judgeRing_9 fk_X10_109 ly_582 gg_582_17 ?_
  refine b_iload_n dX10_judgeRing_12 rfl ?_
  refine b_iald dX10_judgeRing_13 ly_591 g1 ?_
  refine b_istore_n (ls' := [vR 582, vI x1, vI (m1 591 x1)]) dX10_judgeRing_14 (Nat.le_of_ble_eq_true rfl) rfl ?_
  refine b_iload_n dX10_judgeRing_15 rfl ?_
  obtain ⟨g2, h⟩ := h
  refine b_if_lt 24 dX10_judgeRing_16 g2 (by decide) (fun c1 => ?_) (fun c1 => ?_)
  · have h := ifT c1 h
    exact pl_X10_judgeRing_24 hrec hf _ _ _ h
  · have h := ifF c1 h
    refine b_aload_n dX10_judgeRing_19 rfl ?_
    refine b_iload_n dX10_judgeRing_20 rfl ?_
    refine b_cVv (as := [vI (m1 591 x1)]) (st := []) dX10_judgeRing_21 mf_X10_judgeRing qs127 lk_X10_479 ly_582 rfl (hrec.1 _ _ _ _ h) (by omega) rfl rfl (Nat.le_of_ble_eq_true rfl) (by decide) rfl (fun _ => rfl) (fun r1 m2 h => ?_) (fun _ h => h)
    exact pl_X10_judgeRing_24 hrec hf _ _ _ h
def R_X10_judgeRing : Nat → Nat → List Int → MM → (Int → MM → Prop) → (MM → Prop) → Prop
  | 0, _, _, _, _, _ => False
  | d + 1, i, as, m, Q, T => match i, as with
    | 0, [x1] => W_X10_judgeRing (R_X10_judgeRing d) x1 m Q T
    | _, _ => False
theorem pr_X10_judgeRing : ∀ d f : Nat, 3 + d ≤ f → HR_X10_judgeRing (R_X10_judgeRing d) f := by
  intro d
  induction d with
  | zero => intro f hf; exact ⟨fun _ _ _ _ h => h.elim, trivial⟩
  | succ d ih =>
    intro f hf
    have hr := ih (f - 1) (by omega)
    exact ⟨fun x1 m _ _ h => w_X10_judgeRing hr (show 3 ≤ f ∧ f - 1 + 1 ≤ f by omega) x1 m h, trivial⟩
theorem dX10_wrong_0 : decode cX10_wrong 0 = .ok (.aload_n 0, 1) := by decide +kernel
theorem dX10_wrong_1 : decode cX10_wrong 1 = .ok (.iconst 4, 1) := by decide +kernel
theorem dX10_wrong_2 : decode cX10_wrong 2 = .ok (.aload_n 0, 1) := by decide +kernel
theorem dX10_wrong_3 : decode cX10_wrong 3 = .ok (.getfield 121, 3) := by decide +kernel
theorem dX10_wrong_6 : decode cX10_wrong 6 = .ok (.iload_n 1, 1) := by decide +kernel
theorem dX10_wrong_7 : decode cX10_wrong 7 = .ok (.iaload, 1) := by decide +kernel
theorem dX10_wrong_8 : decode cX10_wrong 8 = .ok (.invokevirtual 472, 3) := by decide +kernel
theorem dX10_wrong_11 : decode cX10_wrong 11 = .ok (.aload_n 0, 1) := by decide +kernel
theorem dX10_wrong_12 : decode cX10_wrong 12 = .ok (.getfield 130, 3) := by decide +kernel
theorem dX10_wrong_15 : decode cX10_wrong 15 = .ok (.iload_n 1, 1) := by decide +kernel
theorem dX10_wrong_16 : decode cX10_wrong 16 = .ok (.bipush (-9), 2) := by decide +kernel
theorem dX10_wrong_18 : decode cX10_wrong 18 = .ok (.iastore, 1) := by decide +kernel
theorem dX10_wrong_19 : decode cX10_wrong 19 = .ok (.return_, 1) := by decide +kernel
/-! AlgebraHouseModel.wrong(I)V -/
def P_X10_wrong (x1 : Int) (m : MM) (Q : Int → MM → Prop) : Prop := (0 ≤ x1 ∧ x1 < 12000) ∧ P_X10_note 4 (m 595 x1) m (fun r1 m1 => ∀ m2 : MM, m2 = up m1 598 x1 (-9) → Q 0 m2)
theorem p_X10_wrong {f : Nat} {Q : Int → MM → Prop} {T : MM → Prop} (hf : 2 ≤ f) (x1 : Int) (m : MM) (h : P_X10_wrong x1 m Q) : CC f M_X10_wrong [vR 582, vI x1] m Q T := by
  refine CC.of (plainFor_of_name (by decide)) (Nat.le_of_ble_eq_true rfl) (ls := [vR 582, vI x1]) rfl ?_
  have h : (0 ≤ x1 ∧ x1 < 12000) ∧ P_X10_note 4 (m 595 x1) m (fun r1 m1 => ∀ m2 : MM, m2 = up m1 598 x1 (-9) → Q 0 m2) := h
  refine b_aload_n dX10_wrong_0 rfl ?_
  refine b_iconst dX10_wrong_1 ?_
  refine b_aload_n dX10_wrong_2 rfl ?_
  refine b_getR dX10_wrong_3 fk_X10_121 ly_582 gg_582_21 ?_
  refine b_iload_n dX10_wrong_6 rfl ?_
  obtain ⟨g1, h⟩ := h
  refine b_iald dX10_wrong_7 ly_595 g1 ?_
  refine b_cVv (as := [vI 4, vI (m 595 x1)]) (st := []) dX10_wrong_8 mf_X10_note qs129 lk_X10_472 ly_582 rfl (p_X10_note (f := 1) (Nat.le_refl _) _ _ _ h) (by omega) rfl rfl (Nat.le_of_ble_eq_true rfl) (by decide) rfl (fun _ => rfl) (fun r1 m1 h => ?_) (fun _ h => h)
  refine b_aload_n dX10_wrong_11 rfl ?_
  refine b_getR dX10_wrong_12 fk_X10_130 ly_582 gg_582_24 ?_
  refine b_iload_n dX10_wrong_15 rfl ?_
  refine b_bipush dX10_wrong_16 (by decide) ?_
  refine b_iast dX10_wrong_18 ly_598 g1 (fun m2 em2 => ?_)
  have h := h m2 em2
  exact b_vret dX10_wrong_19 rfl h
theorem dX10_builtInOf_0 : decode cX10_builtInOf 0 = .ok (.iconst 0, 1) := by decide +kernel
theorem dX10_builtInOf_1 : decode cX10_builtInOf 1 = .ok (.istore_n 3, 1) := by decide +kernel
theorem dX10_builtInOf_2 : decode cX10_builtInOf 2 = .ok (.iload_n 3, 1) := by decide +kernel
theorem dX10_builtInOf_3 : decode cX10_builtInOf 3 = .ok (.bipush 14, 2) := by decide +kernel
theorem dX10_builtInOf_5 : decode cX10_builtInOf 5 = .ok (.if_icmp .ge 22, 3) := by decide +kernel
theorem dX10_builtInOf_8 : decode cX10_builtInOf 8 = .ok (.aload_n 0, 1) := by decide +kernel
theorem dX10_builtInOf_9 : decode cX10_builtInOf 9 = .ok (.getfield 83, 3) := by decide +kernel
theorem dX10_builtInOf_12 : decode cX10_builtInOf 12 = .ok (.iload_n 3, 1) := by decide +kernel
theorem dX10_builtInOf_13 : decode cX10_builtInOf 13 = .ok (.laload, 1) := by decide +kernel
theorem dX10_builtInOf_14 : decode cX10_builtInOf 14 = .ok (.lload_n 1, 1) := by decide +kernel
theorem dX10_builtInOf_15 : decode cX10_builtInOf 15 = .ok (.lcmp, 1) := by decide +kernel
theorem dX10_builtInOf_16 : decode cX10_builtInOf 16 = .ok (.ifCond .ne 5, 3) := by decide +kernel
theorem dX10_builtInOf_19 : decode cX10_builtInOf 19 = .ok (.iload_n 3, 1) := by decide +kernel
theorem dX10_builtInOf_20 : decode cX10_builtInOf 20 = .ok (.ireturn, 1) := by decide +kernel
theorem dX10_builtInOf_21 : decode cX10_builtInOf 21 = .ok (.iinc 3 1, 3) := by decide +kernel
theorem dX10_builtInOf_24 : decode cX10_builtInOf 24 = .ok (.goto (-22), 3) := by decide +kernel
theorem dX10_builtInOf_27 : decode cX10_builtInOf 27 = .ok (.iconst (-1), 1) := by decide +kernel
theorem dX10_builtInOf_28 : decode cX10_builtInOf 28 = .ok (.ireturn, 1) := by decide +kernel
/-! AlgebraHouseModel.builtInOf(J)I -/
def P_X10_builtInOf_2 (Q : Int → MM → Prop) : Nat → Int → Int → MM → Prop
  | 0, _, _, _ => False
  | n + 1, x1, x3, m => (RI x3) ∧ (if 14 ≤ x3 then Q (-1) m else (0 ≤ x3 ∧ x3 < 14) ∧ (RL (m 584 x3)) ∧ (RL x1) ∧ (if (m 584 x3) = x1 then Q x3 m else P_X10_builtInOf_2 Q n x1 (x3 + 1) m))
def P_X10_builtInOf (x1 : Int) (m : MM) (Q : Int → MM → Prop) : Prop := ∃ nn, P_X10_builtInOf_2 Q nn x1 0 m
theorem pl_X10_builtInOf_2 {f : Nat} {Q : Int → MM → Prop} {T : MM → Prop} (hf : 1 ≤ f) : ∀ (n : Nat) (x1 : Int) (x3 : Int) (m : MM), P_X10_builtInOf_2 Q n x1 x3 m → B f M_X10_builtInOf 2 [vR 582, vL x1, vU, vI x3] [] m Q T := by
  intro n
  induction n with
  | zero => intro x1 x3 m h; exact h.elim
  | succ n ih =>
    intro x1 x3 m h
    have h : (RI x3) ∧ (if 14 ≤ x3 then Q (-1) m else (0 ≤ x3 ∧ x3 < 14) ∧ (RL (m 584 x3)) ∧ (RL x1) ∧ (if (m 584 x3) = x1 then Q x3 m else P_X10_builtInOf_2 Q n x1 (x3 + 1) m)) := h
    refine b_iload_n dX10_builtInOf_2 rfl ?_
    refine b_bipush dX10_builtInOf_3 (by decide) ?_
    obtain ⟨g1, h⟩ := h
    refine b_icmp_ge 27 dX10_builtInOf_5 g1 (by decide) (by decide) (fun c1 => ?_) (fun c1 => ?_)
    · have h := ifT c1 h
      refine b_iconst dX10_builtInOf_27 ?_
      exact b_iret dX10_builtInOf_28 rfl h
    · have h := ifF c1 h
      refine b_aload_n dX10_builtInOf_8 rfl ?_
      refine b_getR dX10_builtInOf_9 fk_X10_83 ly_582 gg_582_1 ?_
      refine b_iload_n dX10_builtInOf_12 rfl ?_
      obtain ⟨g2, h⟩ := h
      refine b_lald dX10_builtInOf_13 ly_584 g2 ?_
      refine b_lload_n dX10_builtInOf_14 rfl ?_
      obtain ⟨g3, h⟩ := h
      obtain ⟨g4, h⟩ := h
      refine b_lc_ne 21 dX10_builtInOf_15 dX10_builtInOf_16 g3 g4 (by decide) (fun c2 => ?_) (fun c2 => ?_)
      · have h := ifF c2 h
        refine b_iinc (ls' := [vR 582, vL x1, vU, vI (x3 + 1)]) dX10_builtInOf_21 rfl rfl ?_
        refine b_goto 2 dX10_builtInOf_24 (by decide) ?_
        exact ih _ _ _ h
      · have h := ifT (Decidable.of_not_not c2) h
        refine b_iload_n dX10_builtInOf_19 rfl ?_
        exact b_iret dX10_builtInOf_20 rfl h
theorem p_X10_builtInOf {f : Nat} {Q : Int → MM → Prop} {T : MM → Prop} (hf : 1 ≤ f) (x1 : Int) (m : MM) (h : P_X10_builtInOf x1 m Q) : CC f M_X10_builtInOf [vR 582, vL x1] m Q T := by
  refine CC.of (plainFor_of_name (by decide)) (Nat.le_of_ble_eq_true rfl) (ls := [vR 582, vL x1, vU, vU]) rfl ?_
  have h : ∃ nn, P_X10_builtInOf_2 Q nn x1 0 m := h
  refine b_iconst dX10_builtInOf_0 ?_
  refine b_istore_n (ls' := [vR 582, vL x1, vU, vI 0]) dX10_builtInOf_1 (Nat.le_of_ble_eq_true rfl) rfl ?_
  obtain ⟨nn, h⟩ := h
  exact pl_X10_builtInOf_2 hf nn _ _ _ h
theorem dX10_isNumber_0 : decode cX10_isNumber 0 = .ok (.aload_n 0, 1) := by decide +kernel
theorem dX10_isNumber_1 : decode cX10_isNumber 1 = .ok (.getfield 130, 3) := by decide +kernel
theorem dX10_isNumber_4 : decode cX10_isNumber 4 = .ok (.iload_n 1, 1) := by decide +kernel
theorem dX10_isNumber_5 : decode cX10_isNumber 5 = .ok (.iaload, 1) := by decide +kernel
theorem dX10_isNumber_6 : decode cX10_isNumber 6 = .ok (.iload_n 2, 1) := by decide +kernel
theorem dX10_isNumber_7 : decode cX10_isNumber 7 = .ok (.if_icmp .ne 25, 3) := by decide +kernel
theorem dX10_isNumber_10 : decode cX10_isNumber 10 = .ok (.aload_n 0, 1) := by decide +kernel
theorem dX10_isNumber_11 : decode cX10_isNumber 11 = .ok (.getfield 133, 3) := by decide +kernel
theorem dX10_isNumber_14 : decode cX10_isNumber 14 = .ok (.iload_n 1, 1) := by decide +kernel
theorem dX10_isNumber_15 : decode cX10_isNumber 15 = .ok (.iaload, 1) := by decide +kernel
theorem dX10_isNumber_16 : decode cX10_isNumber 16 = .ok (.ifCond .ne 16, 3) := by decide +kernel
theorem dX10_isNumber_19 : decode cX10_isNumber 19 = .ok (.aload_n 0, 1) := by decide +kernel
theorem dX10_isNumber_20 : decode cX10_isNumber 20 = .ok (.getfield 136, 3) := by decide +kernel
theorem dX10_isNumber_23 : decode cX10_isNumber 23 = .ok (.iload_n 1, 1) := by decide +kernel
theorem dX10_isNumber_24 : decode cX10_isNumber 24 = .ok (.iaload, 1) := by decide +kernel
theorem dX10_isNumber_25 : decode cX10_isNumber 25 = .ok (.ifCond .ne 7, 3) := by decide +kernel
theorem dX10_isNumber_28 : decode cX10_isNumber 28 = .ok (.iconst 1, 1) := by decide +kernel
theorem dX10_isNumber_29 : decode cX10_isNumber 29 = .ok (.goto 4, 3) := by decide +kernel
theorem dX10_isNumber_32 : decode cX10_isNumber 32 = .ok (.iconst 0, 1) := by decide +kernel
theorem dX10_isNumber_33 : decode cX10_isNumber 33 = .ok (.ireturn, 1) := by decide +kernel
/-! AlgebraHouseModel.isNumber(II)Z -/
def P_X10_isNumber (x1 : Int) (x2 : Int) (m : MM) (Q : Int → MM → Prop) : Prop := (0 ≤ x1 ∧ x1 < 12000) ∧ (RI (m 598 x1)) ∧ (RI x2) ∧ (if (m 598 x1) = x2 then (RI (m 599 x1)) ∧ (if (m 599 x1) = 0 then (RI (m 600 x1)) ∧ (if (m 600 x1) = 0 then Q 1 m else Q 0 m) else Q 0 m) else Q 0 m)
theorem p_X10_isNumber {f : Nat} {Q : Int → MM → Prop} {T : MM → Prop} (hf : 1 ≤ f) (x1 : Int) (x2 : Int) (m : MM) (h : P_X10_isNumber x1 x2 m Q) : CC f M_X10_isNumber [vR 582, vI x1, vI x2] m Q T := by
  refine CC.of (plainFor_of_name (by decide)) (Nat.le_of_ble_eq_true rfl) (ls := [vR 582, vI x1, vI x2]) rfl ?_
  have h : (0 ≤ x1 ∧ x1 < 12000) ∧ (RI (m 598 x1)) ∧ (RI x2) ∧ (if (m 598 x1) = x2 then (RI (m 599 x1)) ∧ (if (m 599 x1) = 0 then (RI (m 600 x1)) ∧ (if (m 600 x1) = 0 then Q 1 m else Q 0 m) else Q 0 m) else Q 0 m) := h
  refine b_aload_n dX10_isNumber_0 rfl ?_
  refine b_getR dX10_isNumber_1 fk_X10_130 ly_582 gg_582_24 ?_
  refine b_iload_n dX10_isNumber_4 rfl ?_
  obtain ⟨g1, h⟩ := h
  refine b_iald dX10_isNumber_5 ly_598 g1 ?_
  refine b_iload_n dX10_isNumber_6 rfl ?_
  obtain ⟨g2, h⟩ := h
  obtain ⟨g3, h⟩ := h
  refine b_icmp_ne 32 dX10_isNumber_7 g2 g3 (by decide) (fun c1 => ?_) (fun c1 => ?_)
  · have h := ifF c1 h
    refine b_iconst dX10_isNumber_32 ?_
    exact b_zret dX10_isNumber_33 rfl (Or.inl rfl) h
  · have h := ifT (Decidable.of_not_not c1) h
    refine b_aload_n dX10_isNumber_10 rfl ?_
    refine b_getR dX10_isNumber_11 fk_X10_133 ly_582 gg_582_25 ?_
    refine b_iload_n dX10_isNumber_14 rfl ?_
    refine b_iald dX10_isNumber_15 ly_599 g1 ?_
    obtain ⟨g4, h⟩ := h
    refine b_if_ne 32 dX10_isNumber_16 g4 (by decide) (fun c2 => ?_) (fun c2 => ?_)
    · have h := ifF c2 h
      refine b_iconst dX10_isNumber_32 ?_
      exact b_zret dX10_isNumber_33 rfl (Or.inl rfl) h
    · have h := ifT (Decidable.of_not_not c2) h
      refine b_aload_n dX10_isNumber_19 rfl ?_
      refine b_getR dX10_isNumber_20 fk_X10_136 ly_582 gg_582_26 ?_
      refine b_iload_n dX10_isNumber_23 rfl ?_
      refine b_iald dX10_isNumber_24 ly_600 g1 ?_
      obtain ⟨g5, h⟩ := h
      refine b_if_ne 32 dX10_isNumber_25 g5 (by decide) (fun c3 => ?_) (fun c3 => ?_)
      · have h := ifF c3 h
        refine b_iconst dX10_isNumber_32 ?_
        exact b_zret dX10_isNumber_33 rfl (Or.inl rfl) h
      · have h := ifT (Decidable.of_not_not c3) h
        refine b_iconst dX10_isNumber_28 ?_
        refine b_goto 33 dX10_isNumber_29 (by decide) ?_
        exact b_zret dX10_isNumber_33 rfl (Or.inr rfl) h
