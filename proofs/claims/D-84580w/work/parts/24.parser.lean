set_option maxRecDepth 100000
theorem dX3_fail_0 : decode cX3_fail 0 = .ok (.aload_n 0, 1) := by decide +kernel
theorem dX3_fail_1 : decode cX3_fail 1 = .ok (.iload_n 1, 1) := by decide +kernel
theorem dX3_fail_2 : decode cX3_fail 2 = .ok (.putfield 18, 3) := by decide +kernel
theorem dX3_fail_5 : decode cX3_fail 5 = .ok (.aload_n 0, 1) := by decide +kernel
theorem dX3_fail_6 : decode cX3_fail 6 = .ok (.iload_n 2, 1) := by decide +kernel
theorem dX3_fail_7 : decode cX3_fail 7 = .ok (.putfield 22, 3) := by decide +kernel
theorem dX3_fail_10 : decode cX3_fail 10 = .ok (.getstatic 25, 3) := by decide +kernel
theorem dX3_fail_13 : decode cX3_fail 13 = .ok (.athrow, 1) := by decide +kernel
/-! AlgebraHouse$Parser.fail(II)V -/
def P_X3_fail (x1 : Int) (x2 : Int) (m : MM) (Q : Int → MM → Prop) (T : MM → Prop) : Prop := ∀ m1 : MM, m1 = up m 365 4 x1 → ∀ m2 : MM, m2 = up m1 365 5 x2 → T m2
theorem p_X3_fail {f : Nat} {Q : Int → MM → Prop} {T : MM → Prop} (hf : 1 ≤ f) (x1 : Int) (x2 : Int) (m : MM) (h : P_X3_fail x1 x2 m Q T) : CC f M_X3_fail [vR 365, vI x1, vI x2] m Q T := by
  refine CC.of (plainFor_of_name (by decide)) (Nat.le_of_ble_eq_true rfl) (ls := [vR 365, vI x1, vI x2]) rfl ?_
  have h : ∀ m1 : MM, m1 = up m 365 4 x1 → ∀ m2 : MM, m2 = up m1 365 5 x2 → T m2 := h
  refine b_aload_n dX3_fail_0 rfl ?_
  refine b_iload_n dX3_fail_1 rfl ?_
  refine b_putI dX3_fail_2 fk_X3_18 ly_365 (fun m1 em1 => ?_)
  have h := h m1 em1
  refine b_aload_n dX3_fail_5 rfl ?_
  refine b_iload_n dX3_fail_6 rfl ?_
  refine b_putI dX3_fail_7 fk_X3_22 ly_365 (fun m2 em2 => ?_)
  have h := h m2 em2
  refine b_gets (z := -4) dX3_fail_10 (by decide) q927 q928 q221 (fun E h => h.2.2.2.2.2.1) ?_
  exact b_athrow dX3_fail_13 (by decide) h
theorem dX3_here_0 : decode cX3_here 0 = .ok (.aload_n 0, 1) := by decide +kernel
theorem dX3_here_1 : decode cX3_here 1 = .ok (.getfield 12, 3) := by decide +kernel
theorem dX3_here_4 : decode cX3_here 4 = .ok (.getfield 39, 3) := by decide +kernel
theorem dX3_here_7 : decode cX3_here 7 = .ok (.aload_n 0, 1) := by decide +kernel
theorem dX3_here_8 : decode cX3_here 8 = .ok (.getfield 33, 3) := by decide +kernel
theorem dX3_here_11 : decode cX3_here 11 = .ok (.iaload, 1) := by decide +kernel
theorem dX3_here_12 : decode cX3_here 12 = .ok (.ireturn, 1) := by decide +kernel
/-! AlgebraHouse$Parser.here()I -/
def P_X3_here (m : MM) (Q : Int → MM → Prop) : Prop := (0 ≤ (m 365 2) ∧ (m 365 2) < 401) ∧ Q (m 370 (m 365 2)) m
theorem p_X3_here {f : Nat} {Q : Int → MM → Prop} {T : MM → Prop} (hf : 1 ≤ f) (m : MM) (h : P_X3_here m Q) : CC f M_X3_here [vR 365] m Q T := by
  refine CC.of (plainFor_of_name (by decide)) (Nat.le_of_ble_eq_true rfl) (ls := [vR 365]) rfl ?_
  have h : (0 ≤ (m 365 2) ∧ (m 365 2) < 401) ∧ Q (m 370 (m 365 2)) m := h
  refine b_aload_n dX3_here_0 rfl ?_
  refine b_getR dX3_here_1 fk_X3_12 ly_365 gg_365_0 ?_
  refine b_getR dX3_here_4 fk_X3_39 ly_366 gg_366_5 ?_
  refine b_aload_n dX3_here_7 rfl ?_
  refine b_getI dX3_here_8 fk_X3_33 ly_365 ?_
  obtain ⟨g1, h⟩ := h
  refine b_iald dX3_here_11 ly_370 g1 ?_
  exact b_iret dX3_here_12 rfl h
theorem dX3_go_0 : decode cX3_go 0 = .ok (.aload_n 0, 1) := by decide +kernel
theorem dX3_go_1 : decode cX3_go 1 = .ok (.getfield 33, 3) := by decide +kernel
theorem dX3_go_4 : decode cX3_go 4 = .ok (.sipush 150, 3) := by decide +kernel
theorem dX3_go_7 : decode cX3_go 7 = .ok (.if_icmp .lt 12, 3) := by decide +kernel
theorem dX3_go_10 : decode cX3_go 10 = .ok (.aload_n 0, 1) := by decide +kernel
theorem dX3_go_11 : decode cX3_go 11 = .ok (.iconst 2, 1) := by decide +kernel
theorem dX3_go_12 : decode cX3_go 12 = .ok (.aload_n 0, 1) := by decide +kernel
theorem dX3_go_13 : decode cX3_go 13 = .ok (.invokevirtual 41, 3) := by decide +kernel
theorem dX3_go_16 : decode cX3_go 16 = .ok (.invokevirtual 45, 3) := by decide +kernel
theorem dX3_go_19 : decode cX3_go 19 = .ok (.aload_n 0, 1) := by decide +kernel
theorem dX3_go_20 : decode cX3_go 20 = .ok (.dup, 1) := by decide +kernel
theorem dX3_go_21 : decode cX3_go 21 = .ok (.getfield 33, 3) := by decide +kernel
theorem dX3_go_24 : decode cX3_go 24 = .ok (.iconst 1, 1) := by decide +kernel
theorem dX3_go_25 : decode cX3_go 25 = .ok (.iadd, 1) := by decide +kernel
theorem dX3_go_26 : decode cX3_go 26 = .ok (.putfield 33, 3) := by decide +kernel
theorem dX3_go_29 : decode cX3_go 29 = .ok (.return_, 1) := by decide +kernel
/-! AlgebraHouse$Parser.go()V -/
def P_X3_go (m : MM) (Q : Int → MM → Prop) (T : MM → Prop) : Prop := (RI (m 365 2)) ∧ (if (m 365 2) < 150 then ∀ m1 : MM, m1 = up m 365 2 ((m 365 2) + 1) → Q 0 m1 else P_X3_here m (fun r1 m2 => P_X3_fail 2 r1 m2 (fun r2 m3 => ∀ m4 : MM, m4 = up m3 365 2 ((m3 365 2) + 1) → Q 0 m4) T))
theorem p_X3_go {f : Nat} {Q : Int → MM → Prop} {T : MM → Prop} (hf : 2 ≤ f) (m : MM) (h : P_X3_go m Q T) : CC f M_X3_go [vR 365] m Q T := by
  refine CC.of (plainFor_of_name (by decide)) (Nat.le_of_ble_eq_true rfl) (ls := [vR 365]) rfl ?_
  have h : (RI (m 365 2)) ∧ (if (m 365 2) < 150 then ∀ m1 : MM, m1 = up m 365 2 ((m 365 2) + 1) → Q 0 m1 else P_X3_here m (fun r1 m2 => P_X3_fail 2 r1 m2 (fun r2 m3 => ∀ m4 : MM, m4 = up m3 365 2 ((m3 365 2) + 1) → Q 0 m4) T)) := h
  refine b_aload_n dX3_go_0 rfl ?_
  refine b_getI dX3_go_1 fk_X3_33 ly_365 ?_
  refine b_sipush dX3_go_4 (by decide) ?_
  obtain ⟨g1, h⟩ := h
  refine b_icmp_lt 19 dX3_go_7 g1 (by decide) (by decide) (fun c1 => ?_) (fun c1 => ?_)
  · have h := ifT c1 h
    refine b_aload_n dX3_go_19 rfl ?_
    refine b_dup dX3_go_20 rfl ?_
    refine b_getI dX3_go_21 fk_X3_33 ly_365 ?_
    refine b_iconst dX3_go_24 ?_
    refine b_iadd dX3_go_25 ?_
    refine b_putI dX3_go_26 fk_X3_33 ly_365 (fun m1 em1 => ?_)
    have h := h m1 em1
    exact b_vret dX3_go_29 rfl h
  · have h := ifF c1 h
    refine b_aload_n dX3_go_10 rfl ?_
    refine b_iconst dX3_go_11 ?_
    refine b_aload_n dX3_go_12 rfl ?_
    refine b_cVi (as := []) (st := [vI 2, vR 365]) dX3_go_13 mf_X3_here qs9 lk_X3_41 ly_365 rfl (p_X3_here (f := 1) (Nat.le_refl _) _ h) (by omega) rfl rfl (Nat.le_of_ble_eq_true rfl) (by decide) rfl (fun _ => rfl) (fun r1 m2 h => ?_) (fun _ h => h)
    refine b_cVv (as := [vI 2, vI r1]) (st := []) dX3_go_16 mf_X3_fail qs11 lk_X3_45 ly_365 rfl (p_X3_fail (f := 1) (Nat.le_refl _) _ _ _ h) (by omega) rfl rfl (Nat.le_of_ble_eq_true rfl) (by decide) rfl (fun _ => rfl) (fun r2 m3 h => ?_) (fun _ h => h)
    refine b_aload_n dX3_go_19 rfl ?_
    refine b_dup dX3_go_20 rfl ?_
    refine b_getI dX3_go_21 fk_X3_33 ly_365 ?_
    refine b_iconst dX3_go_24 ?_
    refine b_iadd dX3_go_25 ?_
    refine b_putI dX3_go_26 fk_X3_33 ly_365 (fun m4 em4 => ?_)
    have h := h m4 em4
    exact b_vret dX3_go_29 rfl h
theorem dX3_isKey_0 : decode cX3_isKey 0 = .ok (.aload_n 0, 1) := by decide +kernel
theorem dX3_isKey_1 : decode cX3_isKey 1 = .ok (.getfield 12, 3) := by decide +kernel
theorem dX3_isKey_4 : decode cX3_isKey 4 = .ok (.getfield 29, 3) := by decide +kernel
theorem dX3_isKey_7 : decode cX3_isKey 7 = .ok (.aload_n 0, 1) := by decide +kernel
theorem dX3_isKey_8 : decode cX3_isKey 8 = .ok (.getfield 33, 3) := by decide +kernel
theorem dX3_isKey_11 : decode cX3_isKey 11 = .ok (.iaload, 1) := by decide +kernel
theorem dX3_isKey_12 : decode cX3_isKey 12 = .ok (.iconst 3, 1) := by decide +kernel
theorem dX3_isKey_13 : decode cX3_isKey 13 = .ok (.if_icmp .ne 23, 3) := by decide +kernel
theorem dX3_isKey_16 : decode cX3_isKey 16 = .ok (.aload_n 0, 1) := by decide +kernel
theorem dX3_isKey_17 : decode cX3_isKey 17 = .ok (.getfield 12, 3) := by decide +kernel
theorem dX3_isKey_20 : decode cX3_isKey 20 = .ok (.getfield 36, 3) := by decide +kernel
theorem dX3_isKey_23 : decode cX3_isKey 23 = .ok (.aload_n 0, 1) := by decide +kernel
theorem dX3_isKey_24 : decode cX3_isKey 24 = .ok (.getfield 33, 3) := by decide +kernel
theorem dX3_isKey_27 : decode cX3_isKey 27 = .ok (.iaload, 1) := by decide +kernel
theorem dX3_isKey_28 : decode cX3_isKey 28 = .ok (.iload_n 1, 1) := by decide +kernel
theorem dX3_isKey_29 : decode cX3_isKey 29 = .ok (.if_icmp .ne 7, 3) := by decide +kernel
theorem dX3_isKey_32 : decode cX3_isKey 32 = .ok (.iconst 1, 1) := by decide +kernel
theorem dX3_isKey_33 : decode cX3_isKey 33 = .ok (.goto 4, 3) := by decide +kernel
theorem dX3_isKey_36 : decode cX3_isKey 36 = .ok (.iconst 0, 1) := by decide +kernel
theorem dX3_isKey_37 : decode cX3_isKey 37 = .ok (.ireturn, 1) := by decide +kernel
/-! AlgebraHouse$Parser.isKey(I)Z -/
def P_X3_isKey (x1 : Int) (m : MM) (Q : Int → MM → Prop) : Prop := (0 ≤ (m 365 2) ∧ (m 365 2) < 401) ∧ (RI (m 368 (m 365 2))) ∧ (if (m 368 (m 365 2)) = 3 then (RI (m 369 (m 365 2))) ∧ (RI x1) ∧ (if (m 369 (m 365 2)) = x1 then Q 1 m else Q 0 m) else Q 0 m)
theorem p_X3_isKey {f : Nat} {Q : Int → MM → Prop} {T : MM → Prop} (hf : 1 ≤ f) (x1 : Int) (m : MM) (h : P_X3_isKey x1 m Q) : CC f M_X3_isKey [vR 365, vI x1] m Q T := by
  refine CC.of (plainFor_of_name (by decide)) (Nat.le_of_ble_eq_true rfl) (ls := [vR 365, vI x1]) rfl ?_
  have h : (0 ≤ (m 365 2) ∧ (m 365 2) < 401) ∧ (RI (m 368 (m 365 2))) ∧ (if (m 368 (m 365 2)) = 3 then (RI (m 369 (m 365 2))) ∧ (RI x1) ∧ (if (m 369 (m 365 2)) = x1 then Q 1 m else Q 0 m) else Q 0 m) := h
  refine b_aload_n dX3_isKey_0 rfl ?_
  refine b_getR dX3_isKey_1 fk_X3_12 ly_365 gg_365_0 ?_
  refine b_getR dX3_isKey_4 fk_X3_29 ly_366 gg_366_3 ?_
  refine b_aload_n dX3_isKey_7 rfl ?_
  refine b_getI dX3_isKey_8 fk_X3_33 ly_365 ?_
  obtain ⟨g1, h⟩ := h
  refine b_iald dX3_isKey_11 ly_368 g1 ?_
  refine b_iconst dX3_isKey_12 ?_
  obtain ⟨g2, h⟩ := h
  refine b_icmp_ne 36 dX3_isKey_13 g2 (by decide) (by decide) (fun c1 => ?_) (fun c1 => ?_)
  · have h := ifF c1 h
    refine b_iconst dX3_isKey_36 ?_
    exact b_zret dX3_isKey_37 rfl (Or.inl rfl) h
  · have h := ifT (Decidable.of_not_not c1) h
    refine b_aload_n dX3_isKey_16 rfl ?_
    refine b_getR dX3_isKey_17 fk_X3_12 ly_365 gg_365_0 ?_
    refine b_getR dX3_isKey_20 fk_X3_36 ly_366 gg_366_4 ?_
    refine b_aload_n dX3_isKey_23 rfl ?_
    refine b_getI dX3_isKey_24 fk_X3_33 ly_365 ?_
    refine b_iald dX3_isKey_27 ly_369 g1 ?_
    refine b_iload_n dX3_isKey_28 rfl ?_
    obtain ⟨g3, h⟩ := h
    obtain ⟨g4, h⟩ := h
    refine b_icmp_ne 36 dX3_isKey_29 g3 g4 (by decide) (fun c2 => ?_) (fun c2 => ?_)
    · have h := ifF c2 h
      refine b_iconst dX3_isKey_36 ?_
      exact b_zret dX3_isKey_37 rfl (Or.inl rfl) h
    · have h := ifT (Decidable.of_not_not c2) h
      refine b_iconst dX3_isKey_32 ?_
      refine b_goto 37 dX3_isKey_33 (by decide) ?_
      exact b_zret dX3_isKey_37 rfl (Or.inr rfl) h
theorem dX3_opens_0 : decode cX3_opens 0 = .ok (.aload_n 0, 1) := by decide +kernel
theorem dX3_opens_1 : decode cX3_opens 1 = .ok (.getfield 65, 3) := by decide +kernel
theorem dX3_opens_4 : decode cX3_opens 4 = .ok (.bipush 12, 2) := by decide +kernel
theorem dX3_opens_6 : decode cX3_opens 6 = .ok (.if_icmp .ne 22, 3) := by decide +kernel
theorem dX3_opens_9 : decode cX3_opens 9 = .ok (.aload_n 0, 1) := by decide +kernel
theorem dX3_opens_10 : decode cX3_opens 10 = .ok (.getfield 33, 3) := by decide +kernel
theorem dX3_opens_13 : decode cX3_opens 13 = .ok (.sipush 150, 3) := by decide +kernel
theorem dX3_opens_16 : decode cX3_opens 16 = .ok (.if_icmp .ge 12, 3) := by decide +kernel
theorem dX3_opens_19 : decode cX3_opens 19 = .ok (.aload_n 0, 1) := by decide +kernel
theorem dX3_opens_20 : decode cX3_opens 20 = .ok (.iconst 2, 1) := by decide +kernel
theorem dX3_opens_21 : decode cX3_opens 21 = .ok (.aload_n 0, 1) := by decide +kernel
theorem dX3_opens_22 : decode cX3_opens 22 = .ok (.invokevirtual 41, 3) := by decide +kernel
theorem dX3_opens_25 : decode cX3_opens 25 = .ok (.invokevirtual 45, 3) := by decide +kernel
theorem dX3_opens_28 : decode cX3_opens 28 = .ok (.aload_n 0, 1) := by decide +kernel
theorem dX3_opens_29 : decode cX3_opens 29 = .ok (.invokevirtual 53, 3) := by decide +kernel
theorem dX3_opens_32 : decode cX3_opens 32 = .ok (.aload_n 0, 1) := by decide +kernel
theorem dX3_opens_33 : decode cX3_opens 33 = .ok (.dup, 1) := by decide +kernel
theorem dX3_opens_34 : decode cX3_opens 34 = .ok (.getfield 65, 3) := by decide +kernel
theorem dX3_opens_37 : decode cX3_opens 37 = .ok (.iconst 1, 1) := by decide +kernel
theorem dX3_opens_38 : decode cX3_opens 38 = .ok (.iadd, 1) := by decide +kernel
theorem dX3_opens_39 : decode cX3_opens 39 = .ok (.putfield 65, 3) := by decide +kernel
theorem dX3_opens_42 : decode cX3_opens 42 = .ok (.return_, 1) := by decide +kernel
/-! AlgebraHouse$Parser.opens()V -/
def P_X3_opens_28 (Q : Int → MM → Prop) (T : MM → Prop) (m : MM) : Prop := P_X3_go m (fun r1 m1 => ∀ m2 : MM, m2 = up m1 365 3 ((m1 365 3) + 1) → Q 0 m2) T
def P_X3_opens (m : MM) (Q : Int → MM → Prop) (T : MM → Prop) : Prop := (RI (m 365 3)) ∧ (if (m 365 3) = 12 then (RI (m 365 2)) ∧ (if 150 ≤ (m 365 2) then P_X3_opens_28 Q T m else P_X3_here m (fun r1 m1 => P_X3_fail 2 r1 m1 (fun r2 m2 => P_X3_opens_28 Q T m2) T)) else P_X3_opens_28 Q T m)
theorem pl_X3_opens_28 {f : Nat} {Q : Int → MM → Prop} {T : MM → Prop} (hf : 3 ≤ f) : ∀ (m : MM), P_X3_opens_28 Q T m → B f M_X3_opens 28 [vR 365] [] m Q T := by
  intro m h
  have h : P_X3_go m (fun r1 m1 => ∀ m2 : MM, m2 = up m1 365 3 ((m1 365 3) + 1) → Q 0 m2) T := h
  refine b_aload_n dX3_opens_28 rfl ?_
  refine b_cVv (as := []) (st := []) dX3_opens_29 mf_X3_go qs10 lk_X3_53 ly_365 rfl (p_X3_go (f := 2) (Nat.le_refl _) _ h) (by omega) rfl rfl (Nat.le_of_ble_eq_true rfl) (by decide) rfl (fun _ => rfl) (fun r1 m1 h => ?_) (fun _ h => h)
  refine b_aload_n dX3_opens_32 rfl ?_
  refine b_dup dX3_opens_33 rfl ?_
  refine b_getI dX3_opens_34 fk_X3_65 ly_365 ?_
  refine b_iconst dX3_opens_37 ?_
  refine b_iadd dX3_opens_38 ?_
  refine b_putI dX3_opens_39 fk_X3_65 ly_365 (fun m2 em2 => ?_)
  have h := h m2 em2
  exact b_vret dX3_opens_42 rfl h
theorem p_X3_opens {f : Nat} {Q : Int → MM → Prop} {T : MM → Prop} (hf : 3 ≤ f) (m : MM) (h : P_X3_opens m Q T) : CC f M_X3_opens [vR 365] m Q T := by
  refine CC.of (plainFor_of_name (by decide)) (Nat.le_of_ble_eq_true rfl) (ls := [vR 365]) rfl ?_
  have h : (RI (m 365 3)) ∧ (if (m 365 3) = 12 then (RI (m 365 2)) ∧ (if 150 ≤ (m 365 2) then P_X3_opens_28 Q T m else P_X3_here m (fun r1 m1 => P_X3_fail 2 r1 m1 (fun r2 m2 => P_X3_opens_28 Q T m2) T)) else P_X3_opens_28 Q T m) := h
  refine b_aload_n dX3_opens_0 rfl ?_
  refine b_getI dX3_opens_1 fk_X3_65 ly_365 ?_
  refine b_bipush dX3_opens_4 (by decide) ?_
  obtain ⟨g1, h⟩ := h
  refine b_icmp_ne 28 dX3_opens_6 g1 (by decide) (by decide) (fun c1 => ?_) (fun c1 => ?_)
  · have h := ifF c1 h
    exact pl_X3_opens_28 hf _ h
  · have h := ifT (Decidable.of_not_not c1) h
    refine b_aload_n dX3_opens_9 rfl ?_
    refine b_getI dX3_opens_10 fk_X3_33 ly_365 ?_
    refine b_sipush dX3_opens_13 (by decide) ?_
    obtain ⟨g2, h⟩ := h
    refine b_icmp_ge 28 dX3_opens_16 g2 (by decide) (by decide) (fun c2 => ?_) (fun c2 => ?_)
    · have h := ifT c2 h
      exact pl_X3_opens_28 hf _ h
    · have h := ifF c2 h
      refine b_aload_n dX3_opens_19 rfl ?_
      refine b_iconst dX3_opens_20 ?_
      refine b_aload_n dX3_opens_21 rfl ?_
      refine b_cVi (as := []) (st := [vI 2, vR 365]) dX3_opens_22 mf_X3_here qs9 lk_X3_41 ly_365 rfl (p_X3_here (f := 1) (Nat.le_refl _) _ h) (by omega) rfl rfl (Nat.le_of_ble_eq_true rfl) (by decide) rfl (fun _ => rfl) (fun r1 m1 h => ?_) (fun _ h => h)
      refine b_cVv (as := [vI 2, vI r1]) (st := []) dX3_opens_25 mf_X3_fail qs11 lk_X3_45 ly_365 rfl (p_X3_fail (f := 1) (Nat.le_refl _) _ _ _ h) (by omega) rfl rfl (Nat.le_of_ble_eq_true rfl) (by decide) rfl (fun _ => rfl) (fun r2 m2 h => ?_) (fun _ h => h)
      exact pl_X3_opens_28 hf _ h
theorem dX3_isSign_0 : decode cX3_isSign 0 = .ok (.aload_n 0, 1) := by decide +kernel
theorem dX3_isSign_1 : decode cX3_isSign 1 = .ok (.getfield 12, 3) := by decide +kernel
theorem dX3_isSign_4 : decode cX3_isSign 4 = .ok (.getfield 29, 3) := by decide +kernel
theorem dX3_isSign_7 : decode cX3_isSign 7 = .ok (.aload_n 0, 1) := by decide +kernel
theorem dX3_isSign_8 : decode cX3_isSign 8 = .ok (.getfield 33, 3) := by decide +kernel
theorem dX3_isSign_11 : decode cX3_isSign 11 = .ok (.iaload, 1) := by decide +kernel
theorem dX3_isSign_12 : decode cX3_isSign 12 = .ok (.iconst 5, 1) := by decide +kernel
theorem dX3_isSign_13 : decode cX3_isSign 13 = .ok (.if_icmp .ne 23, 3) := by decide +kernel
theorem dX3_isSign_16 : decode cX3_isSign 16 = .ok (.aload_n 0, 1) := by decide +kernel
theorem dX3_isSign_17 : decode cX3_isSign 17 = .ok (.getfield 12, 3) := by decide +kernel
theorem dX3_isSign_20 : decode cX3_isSign 20 = .ok (.getfield 36, 3) := by decide +kernel
theorem dX3_isSign_23 : decode cX3_isSign 23 = .ok (.aload_n 0, 1) := by decide +kernel
theorem dX3_isSign_24 : decode cX3_isSign 24 = .ok (.getfield 33, 3) := by decide +kernel
theorem dX3_isSign_27 : decode cX3_isSign 27 = .ok (.iaload, 1) := by decide +kernel
theorem dX3_isSign_28 : decode cX3_isSign 28 = .ok (.iload_n 1, 1) := by decide +kernel
theorem dX3_isSign_29 : decode cX3_isSign 29 = .ok (.if_icmp .ne 7, 3) := by decide +kernel
theorem dX3_isSign_32 : decode cX3_isSign 32 = .ok (.iconst 1, 1) := by decide +kernel
theorem dX3_isSign_33 : decode cX3_isSign 33 = .ok (.goto 4, 3) := by decide +kernel
theorem dX3_isSign_36 : decode cX3_isSign 36 = .ok (.iconst 0, 1) := by decide +kernel
theorem dX3_isSign_37 : decode cX3_isSign 37 = .ok (.ireturn, 1) := by decide +kernel
/-! AlgebraHouse$Parser.isSign(I)Z -/
def P_X3_isSign (x1 : Int) (m : MM) (Q : Int → MM → Prop) : Prop := (0 ≤ (m 365 2) ∧ (m 365 2) < 401) ∧ (RI (m 368 (m 365 2))) ∧ (if (m 368 (m 365 2)) = 5 then (RI (m 369 (m 365 2))) ∧ (RI x1) ∧ (if (m 369 (m 365 2)) = x1 then Q 1 m else Q 0 m) else Q 0 m)
theorem p_X3_isSign {f : Nat} {Q : Int → MM → Prop} {T : MM → Prop} (hf : 1 ≤ f) (x1 : Int) (m : MM) (h : P_X3_isSign x1 m Q) : CC f M_X3_isSign [vR 365, vI x1] m Q T := by
  refine CC.of (plainFor_of_name (by decide)) (Nat.le_of_ble_eq_true rfl) (ls := [vR 365, vI x1]) rfl ?_
  have h : (0 ≤ (m 365 2) ∧ (m 365 2) < 401) ∧ (RI (m 368 (m 365 2))) ∧ (if (m 368 (m 365 2)) = 5 then (RI (m 369 (m 365 2))) ∧ (RI x1) ∧ (if (m 369 (m 365 2)) = x1 then Q 1 m else Q 0 m) else Q 0 m) := h
  refine b_aload_n dX3_isSign_0 rfl ?_
  refine b_getR dX3_isSign_1 fk_X3_12 ly_365 gg_365_0 ?_
  refine b_getR dX3_isSign_4 fk_X3_29 ly_366 gg_366_3 ?_
  refine b_aload_n dX3_isSign_7 rfl ?_
  refine b_getI dX3_isSign_8 fk_X3_33 ly_365 ?_
  obtain ⟨g1, h⟩ := h
  refine b_iald dX3_isSign_11 ly_368 g1 ?_
  refine b_iconst dX3_isSign_12 ?_
  obtain ⟨g2, h⟩ := h
  refine b_icmp_ne 36 dX3_isSign_13 g2 (by decide) (by decide) (fun c1 => ?_) (fun c1 => ?_)
  · have h := ifF c1 h
    refine b_iconst dX3_isSign_36 ?_
    exact b_zret dX3_isSign_37 rfl (Or.inl rfl) h
  · have h := ifT (Decidable.of_not_not c1) h
    refine b_aload_n dX3_isSign_16 rfl ?_
    refine b_getR dX3_isSign_17 fk_X3_12 ly_365 gg_365_0 ?_
    refine b_getR dX3_isSign_20 fk_X3_36 ly_366 gg_366_4 ?_
    refine b_aload_n dX3_isSign_23 rfl ?_
    refine b_getI dX3_isSign_24 fk_X3_33 ly_365 ?_
    refine b_iald dX3_isSign_27 ly_369 g1 ?_
    refine b_iload_n dX3_isSign_28 rfl ?_
    obtain ⟨g3, h⟩ := h
    obtain ⟨g4, h⟩ := h
    refine b_icmp_ne 36 dX3_isSign_29 g3 g4 (by decide) (fun c2 => ?_) (fun c2 => ?_)
    · have h := ifF c2 h
      refine b_iconst dX3_isSign_36 ?_
      exact b_zret dX3_isSign_37 rfl (Or.inl rfl) h
    · have h := ifT (Decidable.of_not_not c2) h
      refine b_iconst dX3_isSign_32 ?_
      refine b_goto 37 dX3_isSign_33 (by decide) ?_
      exact b_zret dX3_isSign_37 rfl (Or.inr rfl) h
theorem dX3_takes_0 : decode cX3_takes 0 = .ok (.aload_n 0, 1) := by decide +kernel
theorem dX3_takes_1 : decode cX3_takes 1 = .ok (.iload_n 1, 1) := by decide +kernel
theorem dX3_takes_2 : decode cX3_takes 2 = .ok (.invokevirtual 49, 3) := by decide +kernel
theorem dX3_takes_5 : decode cX3_takes 5 = .ok (.ifCond .ne 5, 3) := by decide +kernel
theorem dX3_takes_8 : decode cX3_takes 8 = .ok (.iconst 0, 1) := by decide +kernel
theorem dX3_takes_9 : decode cX3_takes 9 = .ok (.ireturn, 1) := by decide +kernel
theorem dX3_takes_10 : decode cX3_takes 10 = .ok (.aload_n 0, 1) := by decide +kernel
theorem dX3_takes_11 : decode cX3_takes 11 = .ok (.invokevirtual 53, 3) := by decide +kernel
theorem dX3_takes_14 : decode cX3_takes 14 = .ok (.iconst 1, 1) := by decide +kernel
theorem dX3_takes_15 : decode cX3_takes 15 = .ok (.ireturn, 1) := by decide +kernel
/-! AlgebraHouse$Parser.takes(I)Z -/
def P_X3_takes (x1 : Int) (m : MM) (Q : Int → MM → Prop) (T : MM → Prop) : Prop := P_X3_isSign x1 m (fun r1 m1 => (RI r1) ∧ (if r1 = 0 then Q 0 m1 else P_X3_go m1 (fun r2 m2 => Q 1 m2) T))
theorem p_X3_takes {f : Nat} {Q : Int → MM → Prop} {T : MM → Prop} (hf : 3 ≤ f) (x1 : Int) (m : MM) (h : P_X3_takes x1 m Q T) : CC f M_X3_takes [vR 365, vI x1] m Q T := by
  refine CC.of (plainFor_of_name (by decide)) (Nat.le_of_ble_eq_true rfl) (ls := [vR 365, vI x1]) rfl ?_
  have h : P_X3_isSign x1 m (fun r1 m1 => (RI r1) ∧ (if r1 = 0 then Q 0 m1 else P_X3_go m1 (fun r2 m2 => Q 1 m2) T)) := h
  refine b_aload_n dX3_takes_0 rfl ?_
  refine b_iload_n dX3_takes_1 rfl ?_
  refine b_cVi (as := [vI x1]) (st := []) dX3_takes_2 mf_X3_isSign qs15 lk_X3_49 ly_365 rfl (p_X3_isSign (f := 1) (Nat.le_refl _) _ _ h) (by omega) rfl rfl (Nat.le_of_ble_eq_true rfl) (by decide) rfl (fun _ => rfl) (fun r1 m1 h => ?_) (fun _ h => h)
  obtain ⟨g1, h⟩ := h
  refine b_if_ne 10 dX3_takes_5 g1 (by decide) (fun c1 => ?_) (fun c1 => ?_)
  · have h := ifF c1 h
    refine b_aload_n dX3_takes_10 rfl ?_
    refine b_cVv (as := []) (st := []) dX3_takes_11 mf_X3_go qs10 lk_X3_53 ly_365 rfl (p_X3_go (f := 2) (Nat.le_refl _) _ h) (by omega) rfl rfl (Nat.le_of_ble_eq_true rfl) (by decide) rfl (fun _ => rfl) (fun r2 m2 h => ?_) (fun _ h => h)
    refine b_iconst dX3_takes_14 ?_
    exact b_zret dX3_takes_15 rfl (Or.inr rfl) h
  · have h := ifT (Decidable.of_not_not c1) h
    refine b_iconst dX3_takes_8 ?_
    exact b_zret dX3_takes_9 rfl (Or.inl rfl) h
theorem dX3_need_0 : decode cX3_need 0 = .ok (.aload_n 0, 1) := by decide +kernel
theorem dX3_need_1 : decode cX3_need 1 = .ok (.iload_n 1, 1) := by decide +kernel
theorem dX3_need_2 : decode cX3_need 2 = .ok (.invokevirtual 56, 3) := by decide +kernel
theorem dX3_need_5 : decode cX3_need 5 = .ok (.ifCond .ne 12, 3) := by decide +kernel
theorem dX3_need_8 : decode cX3_need 8 = .ok (.aload_n 0, 1) := by decide +kernel
theorem dX3_need_9 : decode cX3_need 9 = .ok (.iconst 1, 1) := by decide +kernel
theorem dX3_need_10 : decode cX3_need 10 = .ok (.aload_n 0, 1) := by decide +kernel
theorem dX3_need_11 : decode cX3_need 11 = .ok (.invokevirtual 41, 3) := by decide +kernel
theorem dX3_need_14 : decode cX3_need 14 = .ok (.invokevirtual 45, 3) := by decide +kernel
theorem dX3_need_17 : decode cX3_need 17 = .ok (.return_, 1) := by decide +kernel
/-! AlgebraHouse$Parser.need(I)V -/
def P_X3_need (x1 : Int) (m : MM) (Q : Int → MM → Prop) (T : MM → Prop) : Prop := P_X3_takes x1 m (fun r1 m1 => (RI r1) ∧ (if r1 = 0 then P_X3_here m1 (fun r2 m2 => P_X3_fail 1 r2 m2 (fun r3 m3 => Q 0 m3) T) else Q 0 m1)) T
theorem p_X3_need {f : Nat} {Q : Int → MM → Prop} {T : MM → Prop} (hf : 4 ≤ f) (x1 : Int) (m : MM) (h : P_X3_need x1 m Q T) : CC f M_X3_need [vR 365, vI x1] m Q T := by
  refine CC.of (plainFor_of_name (by decide)) (Nat.le_of_ble_eq_true rfl) (ls := [vR 365, vI x1]) rfl ?_
  have h : P_X3_takes x1 m (fun r1 m1 => (RI r1) ∧ (if r1 = 0 then P_X3_here m1 (fun r2 m2 => P_X3_fail 1 r2 m2 (fun r3 m3 => Q 0 m3) T) else Q 0 m1)) T := h
  refine b_aload_n dX3_need_0 rfl ?_
  refine b_iload_n dX3_need_1 rfl ?_
  refine b_cVi (as := [vI x1]) (st := []) dX3_need_2 mf_X3_takes qs14 lk_X3_56 ly_365 rfl (p_X3_takes (f := 3) (Nat.le_refl _) _ _ h) (by omega) rfl rfl (Nat.le_of_ble_eq_true rfl) (by decide) rfl (fun _ => rfl) (fun r1 m1 h => ?_) (fun _ h => h)
  obtain ⟨g1, h⟩ := h
  refine b_if_ne 17 dX3_need_5 g1 (by decide) (fun c1 => ?_) (fun c1 => ?_)
  · have h := ifF c1 h
    exact b_vret dX3_need_17 rfl h
  · have h := ifT (Decidable.of_not_not c1) h
    refine b_aload_n dX3_need_8 rfl ?_
    refine b_iconst dX3_need_9 ?_
    refine b_aload_n dX3_need_10 rfl ?_
    refine b_cVi (as := []) (st := [vI 1, vR 365]) dX3_need_11 mf_X3_here qs9 lk_X3_41 ly_365 rfl (p_X3_here (f := 1) (Nat.le_refl _) _ h) (by omega) rfl rfl (Nat.le_of_ble_eq_true rfl) (by decide) rfl (fun _ => rfl) (fun r2 m2 h => ?_) (fun _ h => h)
    refine b_cVv (as := [vI 1, vI r2]) (st := []) dX3_need_14 mf_X3_fail qs11 lk_X3_45 ly_365 rfl (p_X3_fail (f := 1) (Nat.le_refl _) _ _ _ h) (by omega) rfl rfl (Nat.le_of_ble_eq_true rfl) (by decide) rfl (fun _ => rfl) (fun r3 m3 h => ?_) (fun _ h => h)
    exact b_vret dX3_need_17 rfl h
theorem dX3_closes_0 : decode cX3_closes 0 = .ok (.aload_n 0, 1) := by decide +kernel
theorem dX3_closes_1 : decode cX3_closes 1 = .ok (.iload_n 1, 1) := by decide +kernel
theorem dX3_closes_2 : decode cX3_closes 2 = .ok (.invokevirtual 71, 3) := by decide +kernel
theorem dX3_closes_5 : decode cX3_closes 5 = .ok (.aload_n 0, 1) := by decide +kernel
theorem dX3_closes_6 : decode cX3_closes 6 = .ok (.dup, 1) := by decide +kernel
theorem dX3_closes_7 : decode cX3_closes 7 = .ok (.getfield 65, 3) := by decide +kernel
theorem dX3_closes_10 : decode cX3_closes 10 = .ok (.iconst 1, 1) := by decide +kernel
theorem dX3_closes_11 : decode cX3_closes 11 = .ok (.isub, 1) := by decide +kernel
theorem dX3_closes_12 : decode cX3_closes 12 = .ok (.putfield 65, 3) := by decide +kernel
theorem dX3_closes_15 : decode cX3_closes 15 = .ok (.return_, 1) := by decide +kernel
/-! AlgebraHouse$Parser.closes(I)V -/
def P_X3_closes (x1 : Int) (m : MM) (Q : Int → MM → Prop) (T : MM → Prop) : Prop := P_X3_need x1 m (fun r1 m1 => ∀ m2 : MM, m2 = up m1 365 3 ((m1 365 3) - 1) → Q 0 m2) T
theorem p_X3_closes {f : Nat} {Q : Int → MM → Prop} {T : MM → Prop} (hf : 5 ≤ f) (x1 : Int) (m : MM) (h : P_X3_closes x1 m Q T) : CC f M_X3_closes [vR 365, vI x1] m Q T := by
  refine CC.of (plainFor_of_name (by decide)) (Nat.le_of_ble_eq_true rfl) (ls := [vR 365, vI x1]) rfl ?_
  have h : P_X3_need x1 m (fun r1 m1 => ∀ m2 : MM, m2 = up m1 365 3 ((m1 365 3) - 1) → Q 0 m2) T := h
  refine b_aload_n dX3_closes_0 rfl ?_
  refine b_iload_n dX3_closes_1 rfl ?_
  refine b_cVv (as := [vI x1]) (st := []) dX3_closes_2 mf_X3_need qs13 lk_X3_71 ly_365 rfl (p_X3_need (f := 4) (Nat.le_refl _) _ _ h) (by omega) rfl rfl (Nat.le_of_ble_eq_true rfl) (by decide) rfl (fun _ => rfl) (fun r1 m1 h => ?_) (fun _ h => h)
  refine b_aload_n dX3_closes_5 rfl ?_
  refine b_dup dX3_closes_6 rfl ?_
  refine b_getI dX3_closes_7 fk_X3_65 ly_365 ?_
  refine b_iconst dX3_closes_10 ?_
  refine b_isub dX3_closes_11 ?_
  refine b_putI dX3_closes_12 fk_X3_65 ly_365 (fun m2 em2 => ?_)
  have h := h m2 em2
  exact b_vret dX3_closes_15 rfl h
theorem dX3_needOpen_0 : decode cX3_needOpen 0 = .ok (.aload_n 0, 1) := by decide +kernel
theorem dX3_needOpen_1 : decode cX3_needOpen 1 = .ok (.iload_n 1, 1) := by decide +kernel
theorem dX3_needOpen_2 : decode cX3_needOpen 2 = .ok (.invokevirtual 49, 3) := by decide +kernel
theorem dX3_needOpen_5 : decode cX3_needOpen 5 = .ok (.ifCond .ne 12, 3) := by decide +kernel
theorem dX3_needOpen_8 : decode cX3_needOpen 8 = .ok (.aload_n 0, 1) := by decide +kernel
theorem dX3_needOpen_9 : decode cX3_needOpen 9 = .ok (.iconst 1, 1) := by decide +kernel
theorem dX3_needOpen_10 : decode cX3_needOpen 10 = .ok (.aload_n 0, 1) := by decide +kernel
theorem dX3_needOpen_11 : decode cX3_needOpen 11 = .ok (.invokevirtual 41, 3) := by decide +kernel
theorem dX3_needOpen_14 : decode cX3_needOpen 14 = .ok (.invokevirtual 45, 3) := by decide +kernel
theorem dX3_needOpen_17 : decode cX3_needOpen 17 = .ok (.aload_n 0, 1) := by decide +kernel
theorem dX3_needOpen_18 : decode cX3_needOpen 18 = .ok (.invokevirtual 68, 3) := by decide +kernel
theorem dX3_needOpen_21 : decode cX3_needOpen 21 = .ok (.return_, 1) := by decide +kernel
/-! AlgebraHouse$Parser.needOpen(I)V -/
def P_X3_needOpen_17 (Q : Int → MM → Prop) (T : MM → Prop) (m : MM) : Prop := P_X3_opens m (fun r1 m1 => Q 0 m1) T
def P_X3_needOpen (x1 : Int) (m : MM) (Q : Int → MM → Prop) (T : MM → Prop) : Prop := P_X3_isSign x1 m (fun r1 m1 => (RI r1) ∧ (if r1 = 0 then P_X3_here m1 (fun r2 m2 => P_X3_fail 1 r2 m2 (fun r3 m3 => P_X3_needOpen_17 Q T m3) T) else P_X3_needOpen_17 Q T m1))
theorem pl_X3_needOpen_17 {f : Nat} {Q : Int → MM → Prop} {T : MM → Prop} (hf : 4 ≤ f) : ∀ (m : MM), P_X3_needOpen_17 Q T m → B f M_X3_needOpen 17 [vR 365, vU] [] m Q T := by
  intro m h
  have h : P_X3_opens m (fun r1 m1 => Q 0 m1) T := h
  refine b_aload_n dX3_needOpen_17 rfl ?_
  refine b_cVv (as := []) (st := []) dX3_needOpen_18 mf_X3_opens qs12 lk_X3_68 ly_365 rfl (p_X3_opens (f := 3) (Nat.le_refl _) _ h) (by omega) rfl rfl (Nat.le_of_ble_eq_true rfl) (by decide) rfl (fun _ => rfl) (fun r1 m1 h => ?_) (fun _ h => h)
  exact b_vret dX3_needOpen_21 rfl h
theorem p_X3_needOpen {f : Nat} {Q : Int → MM → Prop} {T : MM → Prop} (hf : 4 ≤ f) (x1 : Int) (m : MM) (h : P_X3_needOpen x1 m Q T) : CC f M_X3_needOpen [vR 365, vI x1] m Q T := by
  refine CC.of (plainFor_of_name (by decide)) (Nat.le_of_ble_eq_true rfl) (ls := [vR 365, vI x1]) rfl ?_
  have h : P_X3_isSign x1 m (fun r1 m1 => (RI r1) ∧ (if r1 = 0 then P_X3_here m1 (fun r2 m2 => P_X3_fail 1 r2 m2 (fun r3 m3 => P_X3_needOpen_17 Q T m3) T) else P_X3_needOpen_17 Q T m1)) := h
  refine b_aload_n dX3_needOpen_0 rfl ?_
  refine b_iload_n dX3_needOpen_1 rfl ?_
  refine b_cVi (as := [vI x1]) (st := []) dX3_needOpen_2 mf_X3_isSign qs15 lk_X3_49 ly_365 rfl (p_X3_isSign (f := 1) (Nat.le_refl _) _ _ h) (by omega) rfl rfl (Nat.le_of_ble_eq_true rfl) (by decide) rfl (fun _ => rfl) (fun r1 m1 h => ?_) (fun _ h => h)
  obtain ⟨g1, h⟩ := h
  refine b_if_ne 17 dX3_needOpen_5 g1 (by decide) (fun c1 => ?_) (fun c1 => ?_)
  · have h := ifF c1 h
    refine b_fgt [true, false] (ls' := [vR 365, vU]) rfl rfl ?_
    exact pl_X3_needOpen_17 hf _ h
  · have h := ifT (Decidable.of_not_not c1) h
    refine b_aload_n dX3_needOpen_8 rfl ?_
    refine b_iconst dX3_needOpen_9 ?_
    refine b_aload_n dX3_needOpen_10 rfl ?_
    refine b_cVi (as := []) (st := [vI 1, vR 365]) dX3_needOpen_11 mf_X3_here qs9 lk_X3_41 ly_365 rfl (p_X3_here (f := 1) (Nat.le_refl _) _ h) (by omega) rfl rfl (Nat.le_of_ble_eq_true rfl) (by decide) rfl (fun _ => rfl) (fun r2 m2 h => ?_) (fun _ h => h)
    refine b_cVv (as := [vI 1, vI r2]) (st := []) dX3_needOpen_14 mf_X3_fail qs11 lk_X3_45 ly_365 rfl (p_X3_fail (f := 1) (Nat.le_refl _) _ _ _ h) (by omega) rfl rfl (Nat.le_of_ble_eq_true rfl) (by decide) rfl (fun _ => rfl) (fun r3 m3 h => ?_) (fun _ h => h)
    refine b_fgt [true, false] (ls' := [vR 365, vU]) rfl rfl ?_
    exact pl_X3_needOpen_17 hf _ h
theorem dX3_type_0 : decode cX3_type 0 = .ok (.aload_n 0, 1) := by decide +kernel
theorem dX3_type_1 : decode cX3_type 1 = .ok (.invokevirtual 41, 3) := by decide +kernel
theorem dX3_type_4 : decode cX3_type 4 = .ok (.istore_n 1, 1) := by decide +kernel
theorem dX3_type_5 : decode cX3_type 5 = .ok (.aload_n 0, 1) := by decide +kernel
theorem dX3_type_6 : decode cX3_type 6 = .ok (.getfield 12, 3) := by decide +kernel
theorem dX3_type_9 : decode cX3_type 9 = .ok (.getfield 29, 3) := by decide +kernel
theorem dX3_type_12 : decode cX3_type 12 = .ok (.aload_n 0, 1) := by decide +kernel
theorem dX3_type_13 : decode cX3_type 13 = .ok (.getfield 33, 3) := by decide +kernel
theorem dX3_type_16 : decode cX3_type 16 = .ok (.iaload, 1) := by decide +kernel
theorem dX3_type_17 : decode cX3_type 17 = .ok (.iconst 3, 1) := by decide +kernel
theorem dX3_type_18 : decode cX3_type 18 = .ok (.if_icmp .eq 9, 3) := by decide +kernel
theorem dX3_type_21 : decode cX3_type 21 = .ok (.aload_n 0, 1) := by decide +kernel
theorem dX3_type_22 : decode cX3_type 22 = .ok (.iconst 1, 1) := by decide +kernel
theorem dX3_type_23 : decode cX3_type 23 = .ok (.iload_n 1, 1) := by decide +kernel
theorem dX3_type_24 : decode cX3_type 24 = .ok (.invokevirtual 45, 3) := by decide +kernel
theorem dX3_type_27 : decode cX3_type 27 = .ok (.aload_n 0, 1) := by decide +kernel
theorem dX3_type_28 : decode cX3_type 28 = .ok (.getfield 12, 3) := by decide +kernel
theorem dX3_type_31 : decode cX3_type 31 = .ok (.getfield 36, 3) := by decide +kernel
theorem dX3_type_34 : decode cX3_type 34 = .ok (.aload_n 0, 1) := by decide +kernel
theorem dX3_type_35 : decode cX3_type 35 = .ok (.getfield 33, 3) := by decide +kernel
theorem dX3_type_38 : decode cX3_type 38 = .ok (.iaload, 1) := by decide +kernel
theorem dX3_type_39 : decode cX3_type 39 = .ok (.istore_n 2, 1) := by decide +kernel
theorem dX3_type_40 : decode cX3_type 40 = .ok (.iload_n 2, 1) := by decide +kernel
theorem dX3_type_41 : decode cX3_type 41 = .ok (.bipush 14, 2) := by decide +kernel
theorem dX3_type_43 : decode cX3_type 43 = .ok (.if_icmp .eq 21, 3) := by decide +kernel
theorem dX3_type_46 : decode cX3_type 46 = .ok (.iload_n 2, 1) := by decide +kernel
theorem dX3_type_47 : decode cX3_type 47 = .ok (.bipush 15, 2) := by decide +kernel
theorem dX3_type_49 : decode cX3_type 49 = .ok (.if_icmp .eq 15, 3) := by decide +kernel
theorem dX3_type_52 : decode cX3_type 52 = .ok (.iload_n 2, 1) := by decide +kernel
theorem dX3_type_53 : decode cX3_type 53 = .ok (.bipush 16, 2) := by decide +kernel
theorem dX3_type_55 : decode cX3_type 55 = .ok (.if_icmp .eq 9, 3) := by decide +kernel
theorem dX3_type_58 : decode cX3_type 58 = .ok (.iload_n 2, 1) := by decide +kernel
theorem dX3_type_59 : decode cX3_type 59 = .ok (.bipush 20, 2) := by decide +kernel
theorem dX3_type_61 : decode cX3_type 61 = .ok (.if_icmp .ne 62, 3) := by decide +kernel
theorem dX3_type_64 : decode cX3_type 64 = .ok (.aload_n 0, 1) := by decide +kernel
theorem dX3_type_65 : decode cX3_type 65 = .ok (.invokevirtual 53, 3) := by decide +kernel
theorem dX3_type_68 : decode cX3_type 68 = .ok (.aload_n 0, 1) := by decide +kernel
theorem dX3_type_69 : decode cX3_type 69 = .ok (.getfield 78, 3) := by decide +kernel
theorem dX3_type_72 : decode cX3_type 72 = .ok (.iload_n 2, 1) := by decide +kernel
theorem dX3_type_73 : decode cX3_type 73 = .ok (.bipush 16, 2) := by decide +kernel
theorem dX3_type_75 : decode cX3_type 75 = .ok (.if_icmp .ne 8, 3) := by decide +kernel
theorem dX3_type_78 : decode cX3_type 78 = .ok (.bipush 31, 2) := by decide +kernel
theorem dX3_type_80 : decode cX3_type 80 = .ok (.goto 16, 3) := by decide +kernel
theorem dX3_type_83 : decode cX3_type 83 = .ok (.iload_n 2, 1) := by decide +kernel
theorem dX3_type_84 : decode cX3_type 84 = .ok (.bipush 20, 2) := by decide +kernel
theorem dX3_type_86 : decode cX3_type 86 = .ok (.if_icmp .ne 8, 3) := by decide +kernel
theorem dX3_type_89 : decode cX3_type 89 = .ok (.bipush 32, 2) := by decide +kernel
theorem dX3_type_91 : decode cX3_type 91 = .ok (.goto 5, 3) := by decide +kernel
theorem dX3_type_94 : decode cX3_type 94 = .ok (.bipush 30, 2) := by decide +kernel
theorem dX3_type_96 : decode cX3_type 96 = .ok (.iload_n 1, 1) := by decide +kernel
theorem dX3_type_97 : decode cX3_type 97 = .ok (.invokevirtual 153, 3) := by decide +kernel
theorem dX3_type_100 : decode cX3_type 100 = .ok (.istore_n 3, 1) := by decide +kernel
theorem dX3_type_101 : decode cX3_type 101 = .ok (.aload_n 0, 1) := by decide +kernel
theorem dX3_type_102 : decode cX3_type 102 = .ok (.getfield 78, 3) := by decide +kernel
theorem dX3_type_105 : decode cX3_type 105 = .ok (.getfield 157, 3) := by decide +kernel
theorem dX3_type_108 : decode cX3_type 108 = .ok (.iload_n 3, 1) := by decide +kernel
theorem dX3_type_109 : decode cX3_type 109 = .ok (.iload_n 2, 1) := by decide +kernel
theorem dX3_type_110 : decode cX3_type 110 = .ok (.bipush 15, 2) := by decide +kernel
theorem dX3_type_112 : decode cX3_type 112 = .ok (.if_icmp .ne 7, 3) := by decide +kernel
theorem dX3_type_115 : decode cX3_type 115 = .ok (.iconst 1, 1) := by decide +kernel
theorem dX3_type_116 : decode cX3_type 116 = .ok (.goto 4, 3) := by decide +kernel
theorem dX3_type_119 : decode cX3_type 119 = .ok (.iconst 0, 1) := by decide +kernel
theorem dX3_type_120 : decode cX3_type 120 = .ok (.iastore, 1) := by decide +kernel
theorem dX3_type_121 : decode cX3_type 121 = .ok (.iload_n 3, 1) := by decide +kernel
theorem dX3_type_122 : decode cX3_type 122 = .ok (.ireturn, 1) := by decide +kernel
theorem dX3_type_123 : decode cX3_type 123 = .ok (.iload_n 2, 1) := by decide +kernel
theorem dX3_type_124 : decode cX3_type 124 = .ok (.bipush 17, 2) := by decide +kernel
theorem dX3_type_126 : decode cX3_type 126 = .ok (.if_icmp .eq 21, 3) := by decide +kernel
theorem dX3_type_129 : decode cX3_type 129 = .ok (.iload_n 2, 1) := by decide +kernel
theorem dX3_type_130 : decode cX3_type 130 = .ok (.bipush 18, 2) := by decide +kernel
theorem dX3_type_132 : decode cX3_type 132 = .ok (.if_icmp .eq 15, 3) := by decide +kernel
theorem dX3_type_135 : decode cX3_type 135 = .ok (.iload_n 2, 1) := by decide +kernel
theorem dX3_type_136 : decode cX3_type 136 = .ok (.bipush 19, 2) := by decide +kernel
theorem dX3_type_138 : decode cX3_type 138 = .ok (.if_icmp .eq 9, 3) := by decide +kernel
theorem dX3_type_141 : decode cX3_type 141 = .ok (.aload_n 0, 1) := by decide +kernel
theorem dX3_type_142 : decode cX3_type 142 = .ok (.iconst 1, 1) := by decide +kernel
theorem dX3_type_143 : decode cX3_type 143 = .ok (.iload_n 1, 1) := by decide +kernel
theorem dX3_type_144 : decode cX3_type 144 = .ok (.invokevirtual 45, 3) := by decide +kernel
theorem dX3_type_147 : decode cX3_type 147 = .ok (.aload_n 0, 1) := by decide +kernel
theorem dX3_type_148 : decode cX3_type 148 = .ok (.invokevirtual 53, 3) := by decide +kernel
theorem dX3_type_151 : decode cX3_type 151 = .ok (.aload_n 0, 1) := by decide +kernel
theorem dX3_type_152 : decode cX3_type 152 = .ok (.getfield 78, 3) := by decide +kernel
theorem dX3_type_155 : decode cX3_type 155 = .ok (.iload_n 2, 1) := by decide +kernel
theorem dX3_type_156 : decode cX3_type 156 = .ok (.bipush 17, 2) := by decide +kernel
theorem dX3_type_158 : decode cX3_type 158 = .ok (.if_icmp .ne 8, 3) := by decide +kernel
theorem dX3_type_161 : decode cX3_type 161 = .ok (.bipush 33, 2) := by decide +kernel
theorem dX3_type_163 : decode cX3_type 163 = .ok (.goto 16, 3) := by decide +kernel
theorem dX3_type_166 : decode cX3_type 166 = .ok (.iload_n 2, 1) := by decide +kernel
theorem dX3_type_167 : decode cX3_type 167 = .ok (.bipush 18, 2) := by decide +kernel
theorem dX3_type_169 : decode cX3_type 169 = .ok (.if_icmp .ne 8, 3) := by decide +kernel
theorem dX3_type_172 : decode cX3_type 172 = .ok (.bipush 34, 2) := by decide +kernel
theorem dX3_type_174 : decode cX3_type 174 = .ok (.goto 5, 3) := by decide +kernel
theorem dX3_type_177 : decode cX3_type 177 = .ok (.bipush 35, 2) := by decide +kernel
theorem dX3_type_179 : decode cX3_type 179 = .ok (.iload_n 1, 1) := by decide +kernel
theorem dX3_type_180 : decode cX3_type 180 = .ok (.invokevirtual 153, 3) := by decide +kernel
theorem dX3_type_183 : decode cX3_type 183 = .ok (.istore_n 3, 1) := by decide +kernel
theorem dX3_type_184 : decode cX3_type 184 = .ok (.aload_n 0, 1) := by decide +kernel
theorem dX3_type_185 : decode cX3_type 185 = .ok (.bipush 40, 2) := by decide +kernel
theorem dX3_type_187 : decode cX3_type 187 = .ok (.invokevirtual 162, 3) := by decide +kernel
theorem dX3_type_190 : decode cX3_type 190 = .ok (.iload_n 2, 1) := by decide +kernel
theorem dX3_type_191 : decode cX3_type 191 = .ok (.bipush 18, 2) := by decide +kernel
theorem dX3_type_193 : decode cX3_type 193 = .ok (.if_icmp .eq 67, 3) := by decide +kernel
theorem dX3_type_196 : decode cX3_type 196 = .ok (.aload_n 0, 1) := by decide +kernel
theorem dX3_type_197 : decode cX3_type 197 = .ok (.getfield 12, 3) := by decide +kernel
theorem dX3_type_200 : decode cX3_type 200 = .ok (.getfield 29, 3) := by decide +kernel
theorem dX3_type_203 : decode cX3_type 203 = .ok (.aload_n 0, 1) := by decide +kernel
theorem dX3_type_204 : decode cX3_type 204 = .ok (.getfield 33, 3) := by decide +kernel
theorem dX3_type_207 : decode cX3_type 207 = .ok (.iaload, 1) := by decide +kernel
theorem dX3_type_208 : decode cX3_type 208 = .ok (.iconst 1, 1) := by decide +kernel
theorem dX3_type_209 : decode cX3_type 209 = .ok (.if_icmp .eq 12, 3) := by decide +kernel
theorem dX3_type_212 : decode cX3_type 212 = .ok (.aload_n 0, 1) := by decide +kernel
theorem dX3_type_213 : decode cX3_type 213 = .ok (.iconst 1, 1) := by decide +kernel
theorem dX3_type_214 : decode cX3_type 214 = .ok (.aload_n 0, 1) := by decide +kernel
theorem dX3_type_215 : decode cX3_type 215 = .ok (.invokevirtual 41, 3) := by decide +kernel
theorem dX3_type_218 : decode cX3_type 218 = .ok (.invokevirtual 45, 3) := by decide +kernel
theorem dX3_type_221 : decode cX3_type 221 = .ok (.aload_n 0, 1) := by decide +kernel
theorem dX3_type_222 : decode cX3_type 222 = .ok (.getfield 78, 3) := by decide +kernel
theorem dX3_type_225 : decode cX3_type 225 = .ok (.getfield 157, 3) := by decide +kernel
theorem dX3_type_228 : decode cX3_type 228 = .ok (.iload_n 3, 1) := by decide +kernel
theorem dX3_type_229 : decode cX3_type 229 = .ok (.aload_n 0, 1) := by decide +kernel
theorem dX3_type_230 : decode cX3_type 230 = .ok (.getfield 12, 3) := by decide +kernel
theorem dX3_type_233 : decode cX3_type 233 = .ok (.getfield 36, 3) := by decide +kernel
theorem dX3_type_236 : decode cX3_type 236 = .ok (.aload_n 0, 1) := by decide +kernel
theorem dX3_type_237 : decode cX3_type 237 = .ok (.getfield 33, 3) := by decide +kernel
theorem dX3_type_240 : decode cX3_type 240 = .ok (.iaload, 1) := by decide +kernel
theorem dX3_type_241 : decode cX3_type 241 = .ok (.iastore, 1) := by decide +kernel
theorem dX3_type_242 : decode cX3_type 242 = .ok (.aload_n 0, 1) := by decide +kernel
theorem dX3_type_243 : decode cX3_type 243 = .ok (.getfield 78, 3) := by decide +kernel
theorem dX3_type_246 : decode cX3_type 246 = .ok (.getfield 165, 3) := by decide +kernel
theorem dX3_type_249 : decode cX3_type 249 = .ok (.iload_n 3, 1) := by decide +kernel
theorem dX3_type_250 : decode cX3_type 250 = .ok (.aload_n 0, 1) := by decide +kernel
theorem dX3_type_251 : decode cX3_type 251 = .ok (.invokevirtual 41, 3) := by decide +kernel
theorem dX3_type_254 : decode cX3_type 254 = .ok (.i2l, 1) := by decide +kernel
theorem dX3_type_255 : decode cX3_type 255 = .ok (.lastore, 1) := by decide +kernel
theorem dX3_type_256 : decode cX3_type 256 = .ok (.aload_n 0, 1) := by decide +kernel
theorem dX3_type_257 : decode cX3_type 257 = .ok (.invokevirtual 53, 3) := by decide +kernel
theorem dX3_type_260 : decode cX3_type 260 = .ok (.iload_n 2, 1) := by decide +kernel
theorem dX3_type_261 : decode cX3_type 261 = .ok (.bipush 19, 2) := by decide +kernel
theorem dX3_type_263 : decode cX3_type 263 = .ok (.if_icmp .ne 9, 3) := by decide +kernel
theorem dX3_type_266 : decode cX3_type 266 = .ok (.aload_n 0, 1) := by decide +kernel
theorem dX3_type_267 : decode cX3_type 267 = .ok (.bipush 44, 2) := by decide +kernel
theorem dX3_type_269 : decode cX3_type 269 = .ok (.invokevirtual 71, 3) := by decide +kernel
theorem dX3_type_272 : decode cX3_type 272 = .ok (.iload_n 2, 1) := by decide +kernel
theorem dX3_type_273 : decode cX3_type 273 = .ok (.bipush 17, 2) := by decide +kernel
theorem dX3_type_275 : decode cX3_type 275 = .ok (.if_icmp .eq 16, 3) := by decide +kernel
theorem dX3_type_278 : decode cX3_type 278 = .ok (.aload_n 0, 1) := by decide +kernel
theorem dX3_type_279 : decode cX3_type 279 = .ok (.getfield 78, 3) := by decide +kernel
theorem dX3_type_282 : decode cX3_type 282 = .ok (.getfield 166, 3) := by decide +kernel
theorem dX3_type_285 : decode cX3_type 285 = .ok (.iload_n 3, 1) := by decide +kernel
theorem dX3_type_286 : decode cX3_type 286 = .ok (.aload_n 0, 1) := by decide +kernel
theorem dX3_type_287 : decode cX3_type 287 = .ok (.invokevirtual 135, 3) := by decide +kernel
theorem dX3_type_290 : decode cX3_type 290 = .ok (.iastore, 1) := by decide +kernel
theorem dX3_type_291 : decode cX3_type 291 = .ok (.aload_n 0, 1) := by decide +kernel
theorem dX3_type_292 : decode cX3_type 292 = .ok (.bipush 41, 2) := by decide +kernel
theorem dX3_type_294 : decode cX3_type 294 = .ok (.invokevirtual 138, 3) := by decide +kernel
theorem dX3_type_297 : decode cX3_type 297 = .ok (.iload_n 3, 1) := by decide +kernel
theorem dX3_type_298 : decode cX3_type 298 = .ok (.ireturn, 1) := by decide +kernel
/-! AlgebraHouse$Parser.type()I -/
def P_X3_type_64 (rec : Nat → List Int → MM → (Int → MM → Prop) → (MM → Prop) → Prop) (Q : Int → MM → Prop) (T : MM → Prop) (x1 : Int) (x2 : Int) (m : MM) : Prop := P_X3_go m (fun r1 m1 => ((RI x2)) ∧ (isTx (m1 365 1)) ∧ P_X2_add (m1 365 1) (if x2 = 16 then 31 else (if x2 = 20 then 32 else 30 : Int) : Int) x1 m1 (fun r2 m2 => (isTx (m2 365 1)) ∧ (RI x2) ∧ (if x2 = 15 then (0 ≤ r2 ∧ r2 < 160) ∧ ∀ m4 : MM, m4 = up m2 ((m2 365 1) + 4) r2 1 → Q r2 m4 else (0 ≤ r2 ∧ r2 < 160) ∧ ∀ m3 : MM, m3 = up m2 ((m2 365 1) + 4) r2 0 → Q r2 m3))) T
def P_X3_type_291 (rec : Nat → List Int → MM → (Int → MM → Prop) → (MM → Prop) → Prop) (Q : Int → MM → Prop) (T : MM → Prop) (x3 : Int) (m : MM) : Prop := P_X3_closes 41 m (fun r1 m1 => Q x3 m1) T
def P_X3_type_272 (rec : Nat → List Int → MM → (Int → MM → Prop) → (MM → Prop) → Prop) (Q : Int → MM → Prop) (T : MM → Prop) (x2 : Int) (x3 : Int) (m : MM) : Prop := (RI x2) ∧ (if x2 = 17 then P_X3_type_291 rec Q T x3 m else (isTx (m 365 1)) ∧ rec 0 [] m (fun r1 m1 => (0 ≤ x3 ∧ x3 < 160) ∧ ∀ m2 : MM, m2 = up m1 ((m 365 1) + 2) x3 r1 → P_X3_type_291 rec Q T x3 m2) T)
def P_X3_type_260 (rec : Nat → List Int → MM → (Int → MM → Prop) → (MM → Prop) → Prop) (Q : Int → MM → Prop) (T : MM → Prop) (x2 : Int) (x3 : Int) (m : MM) : Prop := (RI x2) ∧ (if x2 = 19 then P_X3_need 44 m (fun r1 m1 => P_X3_type_272 rec Q T x2 x3 m1) T else P_X3_type_272 rec Q T x2 x3 m)
def P_X3_type_221 (rec : Nat → List Int → MM → (Int → MM → Prop) → (MM → Prop) → Prop) (Q : Int → MM → Prop) (T : MM → Prop) (x2 : Int) (x3 : Int) (m : MM) : Prop := (isTx (m 365 1)) ∧ (0 ≤ (m 365 2) ∧ (m 365 2) < 401) ∧ (0 ≤ x3 ∧ x3 < 160) ∧ ∀ m1 : MM, m1 = up m ((m 365 1) + 4) x3 (m 369 (m 365 2)) → (isTx (m1 365 1)) ∧ P_X3_here m1 (fun r1 m2 => (RI r1) ∧ ∀ m3 : MM, m3 = up m2 ((m1 365 1) + 9) x3 r1 → P_X3_go m3 (fun r2 m4 => P_X3_type_260 rec Q T x2 x3 m4) T)
def P_X3_type_147 (rec : Nat → List Int → MM → (Int → MM → Prop) → (MM → Prop) → Prop) (Q : Int → MM → Prop) (T : MM → Prop) (x1 : Int) (x2 : Int) (m : MM) : Prop := P_X3_go m (fun r1 m1 => ((RI x2)) ∧ (isTx (m1 365 1)) ∧ P_X2_add (m1 365 1) (if x2 = 17 then 33 else (if x2 = 18 then 34 else 35 : Int) : Int) x1 m1 (fun r2 m2 => P_X3_needOpen 40 m2 (fun r3 m3 => (RI x2) ∧ (if x2 = 18 then P_X3_type_260 rec Q T x2 r2 m3 else (0 ≤ (m3 365 2) ∧ (m3 365 2) < 401) ∧ (RI (m3 368 (m3 365 2))) ∧ (if (m3 368 (m3 365 2)) = 1 then P_X3_type_221 rec Q T x2 r2 m3 else P_X3_here m3 (fun r4 m4 => P_X3_fail 1 r4 m4 (fun r5 m5 => P_X3_type_221 rec Q T x2 r2 m5) T)))) T)) T
def P_X3_type_27 (rec : Nat → List Int → MM → (Int → MM → Prop) → (MM → Prop) → Prop) (Q : Int → MM → Prop) (T : MM → Prop) (x1 : Int) (m : MM) : Prop := (0 ≤ (m 365 2) ∧ (m 365 2) < 401) ∧ (RI (m 369 (m 365 2))) ∧ (if (m 369 (m 365 2)) = 14 then P_X3_type_64 rec Q T x1 (m 369 (m 365 2)) m else (if (m 369 (m 365 2)) = 15 then P_X3_type_64 rec Q T x1 (m 369 (m 365 2)) m else (if (m 369 (m 365 2)) = 16 then P_X3_type_64 rec Q T x1 (m 369 (m 365 2)) m else (if (m 369 (m 365 2)) = 20 then P_X3_type_64 rec Q T x1 (m 369 (m 365 2)) m else (if (m 369 (m 365 2)) = 17 then P_X3_type_147 rec Q T x1 (m 369 (m 365 2)) m else (if (m 369 (m 365 2)) = 18 then P_X3_type_147 rec Q T x1 (m 369 (m 365 2)) m else (if (m 369 (m 365 2)) = 19 then P_X3_type_147 rec Q T x1 (m 369 (m 365 2)) m else P_X3_fail 1 x1 m (fun r1 m1 => P_X3_type_147 rec Q T x1 (m 369 (m 365 2)) m1) T)))))))
def W_X3_type (rec : Nat → List Int → MM → (Int → MM → Prop) → (MM → Prop) → Prop) (m : MM) (Q : Int → MM → Prop) (T : MM → Prop) : Prop := P_X3_here m (fun r1 m1 => (0 ≤ (m1 365 2) ∧ (m1 365 2) < 401) ∧ (RI (m1 368 (m1 365 2))) ∧ (if (m1 368 (m1 365 2)) = 3 then P_X3_type_27 rec Q T r1 m1 else P_X3_fail 1 r1 m1 (fun r2 m2 => P_X3_type_27 rec Q T r1 m2) T))
def HR_X3_type (rec : Nat → List Int → MM → (Int → MM → Prop) → (MM → Prop) → Prop) (fr : Nat) : Prop := (∀ (m : MM) (Q : Int → MM → Prop) (T : MM → Prop), rec 0 [] m Q T → CC fr M_X3_type [vR 365] m Q T) ∧ True
theorem pl_X3_type_64 {f : Nat} {Q : Int → MM → Prop} {T : MM → Prop} {rec : Nat → List Int → MM → (Int → MM → Prop) → (MM → Prop) → Prop} {fr : Nat} (hrec : HR_X3_type rec fr) (hf : 6 ≤ f ∧ fr + 1 ≤ f) : ∀ (x1 : Int) (x2 : Int) (m : MM), P_X3_type_64 rec Q T x1 x2 m → B f M_X3_type 64 [vR 365, vI x1, vI x2, vU] [] m Q T := by
  intro x1 x2 m h
  have h : P_X3_go m (fun r1 m1 => ((RI x2)) ∧ (isTx (m1 365 1)) ∧ P_X2_add (m1 365 1) (if x2 = 16 then 31 else (if x2 = 20 then 32 else 30 : Int) : Int) x1 m1 (fun r2 m2 => (isTx (m2 365 1)) ∧ (RI x2) ∧ (if x2 = 15 then (0 ≤ r2 ∧ r2 < 160) ∧ ∀ m4 : MM, m4 = up m2 ((m2 365 1) + 4) r2 1 → Q r2 m4 else (0 ≤ r2 ∧ r2 < 160) ∧ ∀ m3 : MM, m3 = up m2 ((m2 365 1) + 4) r2 0 → Q r2 m3))) T := h
  refine b_aload_n dX3_type_64 rfl ?_
  refine b_cVv (as := []) (st := []) dX3_type_65 mf_X3_go qs10 lk_X3_53 ly_365 rfl (p_X3_go (f := 2) (Nat.le_refl _) _ h) (by omega) rfl rfl (Nat.le_of_ble_eq_true rfl) (by decide) rfl (fun _ => rfl) (fun r1 m1 h => ?_) (fun _ h => h)
  refine b_aload_n dX3_type_68 rfl ?_
  refine b_getM dX3_type_69 fk_X3_78 ly_365 ?_
  refine b_iload_n dX3_type_72 rfl ?_
  refine b_bipush dX3_type_73 (by decide) ?_
  obtain ⟨hs, h⟩ := h
  have K : B f M_X3_type 96 [vR 365, vI x1, vI x2, vU] [vI (if x2 = 16 then 31 else (if x2 = 20 then 32 else 30 : Int) : Int), vR (m1 365 1)] m1 Q T := by
    clear hs
    refine b_iload_n dX3_type_96 rfl ?_
    obtain ⟨g2, h⟩ := h
    refine b_cVi (as := [vI (if x2 = 16 then 31 else (if x2 = 20 then 32 else 30 : Int) : Int), vI x1]) (st := []) dX3_type_97 mf_X2_add q951 lk_X3_153 (tx_ly0 g2) rfl (p_X2_add (f := 1) (Nat.le_refl _) _ _ _ _ h) (by omega) rfl rfl (Nat.le_of_ble_eq_true rfl) (by decide) rfl (fun _ => rfl) (fun r2 m2 h => ?_) (fun _ h => h)
    refine b_istore_n (ls' := [vR 365, vI x1, vI x2, vI r2]) dX3_type_100 (Nat.le_of_ble_eq_true rfl) rfl ?_
    refine b_aload_n dX3_type_101 rfl ?_
    refine b_getM dX3_type_102 fk_X3_78 ly_365 ?_
    obtain ⟨g3, h⟩ := h
    refine b_getR dX3_type_105 fk_X3_157 (tx_ly0 g3) (tx_gg10 g3) ?_
    refine b_iload_n dX3_type_108 rfl ?_
    refine b_iload_n dX3_type_109 rfl ?_
    refine b_bipush dX3_type_110 (by decide) ?_
    obtain ⟨g4, h⟩ := h
    refine b_icmp_ne 119 dX3_type_112 g4 (by decide) (by decide) (fun c1 => ?_) (fun c1 => ?_)
    · have h := ifF c1 h
      refine b_iconst dX3_type_119 ?_
      obtain ⟨g5, h⟩ := h
      refine b_iast dX3_type_120 (tx_ly4 g3) g5 (fun m3 em3 => ?_)
      have h := h m3 em3
      refine b_iload_n dX3_type_121 rfl ?_
      exact b_iret dX3_type_122 rfl h
    · have h := ifT (Decidable.of_not_not c1) h
      refine b_iconst dX3_type_115 ?_
      refine b_goto 120 dX3_type_116 (by decide) ?_
      obtain ⟨g6, h⟩ := h
      refine b_iast dX3_type_120 (tx_ly4 g3) g6 (fun m4 em4 => ?_)
      have h := h m4 em4
      refine b_iload_n dX3_type_121 rfl ?_
      exact b_iret dX3_type_122 rfl h
  have g1 := hs
  refine b_icmp_ne 83 dX3_type_75 g1 (by decide) (by decide) (fun c2 => ?_) (fun c2 => ?_)
  ·
    refine b_iload_n dX3_type_83 rfl ?_
    refine b_bipush dX3_type_84 (by decide) ?_
    refine b_icmp_ne 94 dX3_type_86 g1 (by decide) (by decide) (fun c3 => ?_) (fun c3 => ?_)
    ·
      refine b_bipush dX3_type_94 (by decide) ?_
      rw [if_neg c2, if_neg c3] at K
      exact K
    ·
      have c3 := Decidable.of_not_not c3
      refine b_bipush dX3_type_89 (by decide) ?_
      refine b_goto 96 dX3_type_91 (by decide) ?_
      rw [if_neg c2, if_pos c3] at K
      exact K
  ·
    have c2 := Decidable.of_not_not c2
    refine b_bipush dX3_type_78 (by decide) ?_
    refine b_goto 96 dX3_type_80 (by decide) ?_
    rw [if_pos c2] at K
    exact K
theorem pl_X3_type_291 {f : Nat} {Q : Int → MM → Prop} {T : MM → Prop} {rec : Nat → List Int → MM → (Int → MM → Prop) → (MM → Prop) → Prop} {fr : Nat} (hrec : HR_X3_type rec fr) (hf : 6 ≤ f ∧ fr + 1 ≤ f) : ∀ (x3 : Int) (m : MM), P_X3_type_291 rec Q T x3 m → B f M_X3_type 291 [vR 365, vU, vU, vI x3] [] m Q T := by
  intro x3 m h
  have h : P_X3_closes 41 m (fun r1 m1 => Q x3 m1) T := h
  refine b_aload_n dX3_type_291 rfl ?_
  refine b_bipush dX3_type_292 (by decide) ?_
  refine b_cVv (as := [vI 41]) (st := []) dX3_type_294 mf_X3_closes qs18 lk_X3_138 ly_365 rfl (p_X3_closes (f := 5) (Nat.le_refl _) _ _ h) (by omega) rfl rfl (Nat.le_of_ble_eq_true rfl) (by decide) rfl (fun _ => rfl) (fun r1 m1 h => ?_) (fun _ h => h)
  refine b_iload_n dX3_type_297 rfl ?_
  exact b_iret dX3_type_298 rfl h
theorem pl_X3_type_272 {f : Nat} {Q : Int → MM → Prop} {T : MM → Prop} {rec : Nat → List Int → MM → (Int → MM → Prop) → (MM → Prop) → Prop} {fr : Nat} (hrec : HR_X3_type rec fr) (hf : 6 ≤ f ∧ fr + 1 ≤ f) : ∀ (x2 : Int) (x3 : Int) (m : MM), P_X3_type_272 rec Q T x2 x3 m → B f M_X3_type 272 [vR 365, vU, vI x2, vI x3] [] m Q T := by
  intro x2 x3 m h
  have h : (RI x2) ∧ (if x2 = 17 then P_X3_type_291 rec Q T x3 m else (isTx (m 365 1)) ∧ rec 0 [] m (fun r1 m1 => (0 ≤ x3 ∧ x3 < 160) ∧ ∀ m2 : MM, m2 = up m1 ((m 365 1) + 2) x3 r1 → P_X3_type_291 rec Q T x3 m2) T) := h
  refine b_iload_n dX3_type_272 rfl ?_
  refine b_bipush dX3_type_273 (by decide) ?_
  obtain ⟨g1, h⟩ := h
  refine b_icmp_eq 291 dX3_type_275 g1 (by decide) (by decide) (fun c1 => ?_) (fun c1 => ?_)
  · have h := ifT c1 h
    refine b_fgt [true, false, false, true] (ls' := [vR 365, vU, vU, vI x3]) rfl rfl ?_
    exact pl_X3_type_291 hrec hf _ _ h
  · have h := ifF c1 h
    refine b_aload_n dX3_type_278 rfl ?_
    refine b_getM dX3_type_279 fk_X3_78 ly_365 ?_
    obtain ⟨g2, h⟩ := h
    refine b_getR dX3_type_282 fk_X3_166 (tx_ly0 g2) (tx_gg8 g2) ?_
    refine b_iload_n dX3_type_285 rfl ?_
    refine b_aload_n dX3_type_286 rfl ?_
    refine b_cVi (as := []) (st := [vI x3, vR ((m 365 1) + 2)]) dX3_type_287 mf_X3_type qs16 lk_X3_135 ly_365 rfl (hrec.1 _ _ _ h) (by omega) rfl rfl (Nat.le_of_ble_eq_true rfl) (by decide) rfl (fun _ => rfl) (fun r1 m1 h => ?_) (fun _ h => h)
    obtain ⟨g3, h⟩ := h
    refine b_iast dX3_type_290 (tx_ly2 g2) g3 (fun m2 em2 => ?_)
    have h := h m2 em2
    refine b_fgt [true, false, false, true] (ls' := [vR 365, vU, vU, vI x3]) rfl rfl ?_
    exact pl_X3_type_291 hrec hf _ _ h
theorem pl_X3_type_260 {f : Nat} {Q : Int → MM → Prop} {T : MM → Prop} {rec : Nat → List Int → MM → (Int → MM → Prop) → (MM → Prop) → Prop} {fr : Nat} (hrec : HR_X3_type rec fr) (hf : 6 ≤ f ∧ fr + 1 ≤ f) : ∀ (x2 : Int) (x3 : Int) (m : MM), P_X3_type_260 rec Q T x2 x3 m → B f M_X3_type 260 [vR 365, vU, vI x2, vI x3] [] m Q T := by
  intro x2 x3 m h
  have h : (RI x2) ∧ (if x2 = 19 then P_X3_need 44 m (fun r1 m1 => P_X3_type_272 rec Q T x2 x3 m1) T else P_X3_type_272 rec Q T x2 x3 m) := h
  refine b_iload_n dX3_type_260 rfl ?_
  refine b_bipush dX3_type_261 (by decide) ?_
  obtain ⟨g1, h⟩ := h
  refine b_icmp_ne 272 dX3_type_263 g1 (by decide) (by decide) (fun c1 => ?_) (fun c1 => ?_)
  · have h := ifF c1 h
    exact pl_X3_type_272 hrec hf _ _ _ h
  · have h := ifT (Decidable.of_not_not c1) h
    refine b_aload_n dX3_type_266 rfl ?_
    refine b_bipush dX3_type_267 (by decide) ?_
    refine b_cVv (as := [vI 44]) (st := []) dX3_type_269 mf_X3_need qs13 lk_X3_71 ly_365 rfl (p_X3_need (f := 4) (Nat.le_refl _) _ _ h) (by omega) rfl rfl (Nat.le_of_ble_eq_true rfl) (by decide) rfl (fun _ => rfl) (fun r1 m1 h => ?_) (fun _ h => h)
    exact pl_X3_type_272 hrec hf _ _ _ h
theorem pl_X3_type_221 {f : Nat} {Q : Int → MM → Prop} {T : MM → Prop} {rec : Nat → List Int → MM → (Int → MM → Prop) → (MM → Prop) → Prop} {fr : Nat} (hrec : HR_X3_type rec fr) (hf : 6 ≤ f ∧ fr + 1 ≤ f) : ∀ (x2 : Int) (x3 : Int) (m : MM), P_X3_type_221 rec Q T x2 x3 m → B f M_X3_type 221 [vR 365, vU, vI x2, vI x3] [] m Q T := by
  intro x2 x3 m h
  have h : (isTx (m 365 1)) ∧ (0 ≤ (m 365 2) ∧ (m 365 2) < 401) ∧ (0 ≤ x3 ∧ x3 < 160) ∧ ∀ m1 : MM, m1 = up m ((m 365 1) + 4) x3 (m 369 (m 365 2)) → (isTx (m1 365 1)) ∧ P_X3_here m1 (fun r1 m2 => (RI r1) ∧ ∀ m3 : MM, m3 = up m2 ((m1 365 1) + 9) x3 r1 → P_X3_go m3 (fun r2 m4 => P_X3_type_260 rec Q T x2 x3 m4) T) := h
  refine b_aload_n dX3_type_221 rfl ?_
  refine b_getM dX3_type_222 fk_X3_78 ly_365 ?_
  obtain ⟨g1, h⟩ := h
  refine b_getR dX3_type_225 fk_X3_157 (tx_ly0 g1) (tx_gg10 g1) ?_
  refine b_iload_n dX3_type_228 rfl ?_
  refine b_aload_n dX3_type_229 rfl ?_
  refine b_getR dX3_type_230 fk_X3_12 ly_365 gg_365_0 ?_
  refine b_getR dX3_type_233 fk_X3_36 ly_366 gg_366_4 ?_
  refine b_aload_n dX3_type_236 rfl ?_
  refine b_getI dX3_type_237 fk_X3_33 ly_365 ?_
  obtain ⟨g2, h⟩ := h
  refine b_iald dX3_type_240 ly_369 g2 ?_
  obtain ⟨g3, h⟩ := h
  refine b_iast dX3_type_241 (tx_ly4 g1) g3 (fun m1 em1 => ?_)
  have h := h m1 em1
  refine b_aload_n dX3_type_242 rfl ?_
  refine b_getM dX3_type_243 fk_X3_78 ly_365 ?_
  obtain ⟨g4, h⟩ := h
  refine b_getR dX3_type_246 fk_X3_165 (tx_ly0 g4) (tx_gg15 g4) ?_
  refine b_iload_n dX3_type_249 rfl ?_
  refine b_aload_n dX3_type_250 rfl ?_
  refine b_cVi (as := []) (st := [vI x3, vR ((m1 365 1) + 9)]) dX3_type_251 mf_X3_here qs9 lk_X3_41 ly_365 rfl (p_X3_here (f := 1) (Nat.le_refl _) _ h) (by omega) rfl rfl (Nat.le_of_ble_eq_true rfl) (by decide) rfl (fun _ => rfl) (fun r1 m2 h => ?_) (fun _ h => h)
  obtain ⟨g5, h⟩ := h
  refine b_i2l dX3_type_254 g5 ?_
  refine b_last dX3_type_255 (tx_ly9 g4) g3 (fun m3 em3 => ?_)
  have h := h m3 em3
  refine b_aload_n dX3_type_256 rfl ?_
  refine b_cVv (as := []) (st := []) dX3_type_257 mf_X3_go qs10 lk_X3_53 ly_365 rfl (p_X3_go (f := 2) (Nat.le_refl _) _ h) (by omega) rfl rfl (Nat.le_of_ble_eq_true rfl) (by decide) rfl (fun _ => rfl) (fun r2 m4 h => ?_) (fun _ h => h)
  exact pl_X3_type_260 hrec hf _ _ _ h
theorem pl_X3_type_147 {f : Nat} {Q : Int → MM → Prop} {T : MM → Prop} {rec : Nat → List Int → MM → (Int → MM → Prop) → (MM → Prop) → Prop} {fr : Nat} (hrec : HR_X3_type rec fr) (hf : 6 ≤ f ∧ fr + 1 ≤ f) : ∀ (x1 : Int) (x2 : Int) (m : MM), P_X3_type_147 rec Q T x1 x2 m → B f M_X3_type 147 [vR 365, vI x1, vI x2, vU] [] m Q T := by
  intro x1 x2 m h
  have h : P_X3_go m (fun r1 m1 => ((RI x2)) ∧ (isTx (m1 365 1)) ∧ P_X2_add (m1 365 1) (if x2 = 17 then 33 else (if x2 = 18 then 34 else 35 : Int) : Int) x1 m1 (fun r2 m2 => P_X3_needOpen 40 m2 (fun r3 m3 => (RI x2) ∧ (if x2 = 18 then P_X3_type_260 rec Q T x2 r2 m3 else (0 ≤ (m3 365 2) ∧ (m3 365 2) < 401) ∧ (RI (m3 368 (m3 365 2))) ∧ (if (m3 368 (m3 365 2)) = 1 then P_X3_type_221 rec Q T x2 r2 m3 else P_X3_here m3 (fun r4 m4 => P_X3_fail 1 r4 m4 (fun r5 m5 => P_X3_type_221 rec Q T x2 r2 m5) T)))) T)) T := h
  refine b_aload_n dX3_type_147 rfl ?_
  refine b_cVv (as := []) (st := []) dX3_type_148 mf_X3_go qs10 lk_X3_53 ly_365 rfl (p_X3_go (f := 2) (Nat.le_refl _) _ h) (by omega) rfl rfl (Nat.le_of_ble_eq_true rfl) (by decide) rfl (fun _ => rfl) (fun r1 m1 h => ?_) (fun _ h => h)
  refine b_aload_n dX3_type_151 rfl ?_
  refine b_getM dX3_type_152 fk_X3_78 ly_365 ?_
  refine b_iload_n dX3_type_155 rfl ?_
  refine b_bipush dX3_type_156 (by decide) ?_
  obtain ⟨hs, h⟩ := h
  have K : B f M_X3_type 179 [vR 365, vI x1, vI x2, vU] [vI (if x2 = 17 then 33 else (if x2 = 18 then 34 else 35 : Int) : Int), vR (m1 365 1)] m1 Q T := by
    clear hs
    refine b_iload_n dX3_type_179 rfl ?_
    obtain ⟨g2, h⟩ := h
    refine b_cVi (as := [vI (if x2 = 17 then 33 else (if x2 = 18 then 34 else 35 : Int) : Int), vI x1]) (st := []) dX3_type_180 mf_X2_add q951 lk_X3_153 (tx_ly0 g2) rfl (p_X2_add (f := 1) (Nat.le_refl _) _ _ _ _ h) (by omega) rfl rfl (Nat.le_of_ble_eq_true rfl) (by decide) rfl (fun _ => rfl) (fun r2 m2 h => ?_) (fun _ h => h)
    refine b_istore_n (ls' := [vR 365, vI x1, vI x2, vI r2]) dX3_type_183 (Nat.le_of_ble_eq_true rfl) rfl ?_
    refine b_aload_n dX3_type_184 rfl ?_
    refine b_bipush dX3_type_185 (by decide) ?_
    refine b_cVv (as := [vI 40]) (st := []) dX3_type_187 mf_X3_needOpen qs17 lk_X3_162 ly_365 rfl (p_X3_needOpen (f := 4) (Nat.le_refl _) _ _ h) (by omega) rfl rfl (Nat.le_of_ble_eq_true rfl) (by decide) rfl (fun _ => rfl) (fun r3 m3 h => ?_) (fun _ h => h)
    refine b_iload_n dX3_type_190 rfl ?_
    refine b_bipush dX3_type_191 (by decide) ?_
    obtain ⟨g3, h⟩ := h
    refine b_icmp_eq 260 dX3_type_193 g3 (by decide) (by decide) (fun c1 => ?_) (fun c1 => ?_)
    · have h := ifT c1 h
      refine b_fgt [true, false, true, true] (ls' := [vR 365, vU, vI x2, vI r2]) rfl rfl ?_
      exact pl_X3_type_260 hrec hf _ _ _ h
    · have h := ifF c1 h
      refine b_aload_n dX3_type_196 rfl ?_
      refine b_getR dX3_type_197 fk_X3_12 ly_365 gg_365_0 ?_
      refine b_getR dX3_type_200 fk_X3_29 ly_366 gg_366_3 ?_
      refine b_aload_n dX3_type_203 rfl ?_
      refine b_getI dX3_type_204 fk_X3_33 ly_365 ?_
      obtain ⟨g4, h⟩ := h
      refine b_iald dX3_type_207 ly_368 g4 ?_
      refine b_iconst dX3_type_208 ?_
      obtain ⟨g5, h⟩ := h
      refine b_icmp_eq 221 dX3_type_209 g5 (by decide) (by decide) (fun c2 => ?_) (fun c2 => ?_)
      · have h := ifT c2 h
        refine b_fgt [true, false, true, true] (ls' := [vR 365, vU, vI x2, vI r2]) rfl rfl ?_
        exact pl_X3_type_221 hrec hf _ _ _ h
      · have h := ifF c2 h
        refine b_aload_n dX3_type_212 rfl ?_
        refine b_iconst dX3_type_213 ?_
        refine b_aload_n dX3_type_214 rfl ?_
        refine b_cVi (as := []) (st := [vI 1, vR 365]) dX3_type_215 mf_X3_here qs9 lk_X3_41 ly_365 rfl (p_X3_here (f := 1) (Nat.le_refl _) _ h) (by omega) rfl rfl (Nat.le_of_ble_eq_true rfl) (by decide) rfl (fun _ => rfl) (fun r4 m4 h => ?_) (fun _ h => h)
        refine b_cVv (as := [vI 1, vI r4]) (st := []) dX3_type_218 mf_X3_fail qs11 lk_X3_45 ly_365 rfl (p_X3_fail (f := 1) (Nat.le_refl _) _ _ _ h) (by omega) rfl rfl (Nat.le_of_ble_eq_true rfl) (by decide) rfl (fun _ => rfl) (fun r5 m5 h => ?_) (fun _ h => h)
        refine b_fgt [true, false, true, true] (ls' := [vR 365, vU, vI x2, vI r2]) rfl rfl ?_
        exact pl_X3_type_221 hrec hf _ _ _ h
  have g1 := hs
  refine b_icmp_ne 166 dX3_type_158 g1 (by decide) (by decide) (fun c3 => ?_) (fun c3 => ?_)
  ·
    refine b_iload_n dX3_type_166 rfl ?_
    refine b_bipush dX3_type_167 (by decide) ?_
    refine b_icmp_ne 177 dX3_type_169 g1 (by decide) (by decide) (fun c4 => ?_) (fun c4 => ?_)
    ·
      refine b_bipush dX3_type_177 (by decide) ?_
      rw [if_neg c3, if_neg c4] at K
      exact K
    ·
      have c4 := Decidable.of_not_not c4
      refine b_bipush dX3_type_172 (by decide) ?_
      refine b_goto 179 dX3_type_174 (by decide) ?_
      rw [if_neg c3, if_pos c4] at K
      exact K
  ·
    have c3 := Decidable.of_not_not c3
    refine b_bipush dX3_type_161 (by decide) ?_
    refine b_goto 179 dX3_type_163 (by decide) ?_
    rw [if_pos c3] at K
    exact K
theorem pl_X3_type_27 {f : Nat} {Q : Int → MM → Prop} {T : MM → Prop} {rec : Nat → List Int → MM → (Int → MM → Prop) → (MM → Prop) → Prop} {fr : Nat} (hrec : HR_X3_type rec fr) (hf : 6 ≤ f ∧ fr + 1 ≤ f) : ∀ (x1 : Int) (m : MM), P_X3_type_27 rec Q T x1 m → B f M_X3_type 27 [vR 365, vI x1, vU, vU] [] m Q T := by
  intro x1 m h
  have h : (0 ≤ (m 365 2) ∧ (m 365 2) < 401) ∧ (RI (m 369 (m 365 2))) ∧ (if (m 369 (m 365 2)) = 14 then P_X3_type_64 rec Q T x1 (m 369 (m 365 2)) m else (if (m 369 (m 365 2)) = 15 then P_X3_type_64 rec Q T x1 (m 369 (m 365 2)) m else (if (m 369 (m 365 2)) = 16 then P_X3_type_64 rec Q T x1 (m 369 (m 365 2)) m else (if (m 369 (m 365 2)) = 20 then P_X3_type_64 rec Q T x1 (m 369 (m 365 2)) m else (if (m 369 (m 365 2)) = 17 then P_X3_type_147 rec Q T x1 (m 369 (m 365 2)) m else (if (m 369 (m 365 2)) = 18 then P_X3_type_147 rec Q T x1 (m 369 (m 365 2)) m else (if (m 369 (m 365 2)) = 19 then P_X3_type_147 rec Q T x1 (m 369 (m 365 2)) m else P_X3_fail 1 x1 m (fun r1 m1 => P_X3_type_147 rec Q T x1 (m 369 (m 365 2)) m1) T))))))) := h
  refine b_aload_n dX3_type_27 rfl ?_
  refine b_getR dX3_type_28 fk_X3_12 ly_365 gg_365_0 ?_
  refine b_getR dX3_type_31 fk_X3_36 ly_366 gg_366_4 ?_
  refine b_aload_n dX3_type_34 rfl ?_
  refine b_getI dX3_type_35 fk_X3_33 ly_365 ?_
  obtain ⟨g1, h⟩ := h
  refine b_iald dX3_type_38 ly_369 g1 ?_
  refine b_istore_n (ls' := [vR 365, vI x1, vI (m 369 (m 365 2)), vU]) dX3_type_39 (Nat.le_of_ble_eq_true rfl) rfl ?_
  refine b_iload_n dX3_type_40 rfl ?_
  refine b_bipush dX3_type_41 (by decide) ?_
  obtain ⟨g2, h⟩ := h
  refine b_icmp_eq 64 dX3_type_43 g2 (by decide) (by decide) (fun c1 => ?_) (fun c1 => ?_)
  · have h := ifT c1 h
    exact pl_X3_type_64 hrec hf _ _ _ h
  · have h := ifF c1 h
    refine b_iload_n dX3_type_46 rfl ?_
    refine b_bipush dX3_type_47 (by decide) ?_
    refine b_icmp_eq 64 dX3_type_49 g2 (by decide) (by decide) (fun c2 => ?_) (fun c2 => ?_)
    · have h := ifT c2 h
      exact pl_X3_type_64 hrec hf _ _ _ h
    · have h := ifF c2 h
      refine b_iload_n dX3_type_52 rfl ?_
      refine b_bipush dX3_type_53 (by decide) ?_
      refine b_icmp_eq 64 dX3_type_55 g2 (by decide) (by decide) (fun c3 => ?_) (fun c3 => ?_)
      · have h := ifT c3 h
        exact pl_X3_type_64 hrec hf _ _ _ h
      · have h := ifF c3 h
        refine b_iload_n dX3_type_58 rfl ?_
        refine b_bipush dX3_type_59 (by decide) ?_
        refine b_icmp_ne 123 dX3_type_61 g2 (by decide) (by decide) (fun c4 => ?_) (fun c4 => ?_)
        · have h := ifF c4 h
          refine b_iload_n dX3_type_123 rfl ?_
          refine b_bipush dX3_type_124 (by decide) ?_
          refine b_icmp_eq 147 dX3_type_126 g2 (by decide) (by decide) (fun c5 => ?_) (fun c5 => ?_)
          · have h := ifT c5 h
            exact pl_X3_type_147 hrec hf _ _ _ h
          · have h := ifF c5 h
            refine b_iload_n dX3_type_129 rfl ?_
            refine b_bipush dX3_type_130 (by decide) ?_
            refine b_icmp_eq 147 dX3_type_132 g2 (by decide) (by decide) (fun c6 => ?_) (fun c6 => ?_)
            · have h := ifT c6 h
              exact pl_X3_type_147 hrec hf _ _ _ h
            · have h := ifF c6 h
              refine b_iload_n dX3_type_135 rfl ?_
              refine b_bipush dX3_type_136 (by decide) ?_
              refine b_icmp_eq 147 dX3_type_138 g2 (by decide) (by decide) (fun c7 => ?_) (fun c7 => ?_)
              · have h := ifT c7 h
                exact pl_X3_type_147 hrec hf _ _ _ h
              · have h := ifF c7 h
                refine b_aload_n dX3_type_141 rfl ?_
                refine b_iconst dX3_type_142 ?_
                refine b_iload_n dX3_type_143 rfl ?_
                refine b_cVv (as := [vI 1, vI x1]) (st := []) dX3_type_144 mf_X3_fail qs11 lk_X3_45 ly_365 rfl (p_X3_fail (f := 1) (Nat.le_refl _) _ _ _ h) (by omega) rfl rfl (Nat.le_of_ble_eq_true rfl) (by decide) rfl (fun _ => rfl) (fun r1 m1 h => ?_) (fun _ h => h)
                exact pl_X3_type_147 hrec hf _ _ _ h
        · have h := ifT (Decidable.of_not_not c4) h
          exact pl_X3_type_64 hrec hf _ _ _ h
theorem w_X3_type {f : Nat} {Q : Int → MM → Prop} {T : MM → Prop} {rec : Nat → List Int → MM → (Int → MM → Prop) → (MM → Prop) → Prop} {fr : Nat} (hrec : HR_X3_type rec fr) (hf : 6 ≤ f ∧ fr + 1 ≤ f) (m : MM) (h : W_X3_type rec m Q T) : CC f M_X3_type [vR 365] m Q T := by
  refine CC.of (plainFor_of_name (by decide)) (Nat.le_of_ble_eq_true rfl) (ls := [vR 365, vU, vU, vU]) rfl ?_
  have h : P_X3_here m (fun r1 m1 => (0 ≤ (m1 365 2) ∧ (m1 365 2) < 401) ∧ (RI (m1 368 (m1 365 2))) ∧ (if (m1 368 (m1 365 2)) = 3 then P_X3_type_27 rec Q T r1 m1 else P_X3_fail 1 r1 m1 (fun r2 m2 => P_X3_type_27 rec Q T r1 m2) T)) := h
  refine b_aload_n dX3_type_0 rfl ?_
  refine b_cVi (as := []) (st := []) dX3_type_1 mf_X3_here qs9 lk_X3_41 ly_365 rfl (p_X3_here (f := 1) (Nat.le_refl _) _ h) (by omega) rfl rfl (Nat.le_of_ble_eq_true rfl) (by decide) rfl (fun _ => rfl) (fun r1 m1 h => ?_) (fun _ h => h)
  refine b_istore_n (ls' := [vR 365, vI r1, vU, vU]) dX3_type_4 (Nat.le_of_ble_eq_true rfl) rfl ?_
  refine b_aload_n dX3_type_5 rfl ?_
  refine b_getR dX3_type_6 fk_X3_12 ly_365 gg_365_0 ?_
  refine b_getR dX3_type_9 fk_X3_29 ly_366 gg_366_3 ?_
  refine b_aload_n dX3_type_12 rfl ?_
  refine b_getI dX3_type_13 fk_X3_33 ly_365 ?_
  obtain ⟨g1, h⟩ := h
  refine b_iald dX3_type_16 ly_368 g1 ?_
  refine b_iconst dX3_type_17 ?_
  obtain ⟨g2, h⟩ := h
  refine b_icmp_eq 27 dX3_type_18 g2 (by decide) (by decide) (fun c1 => ?_) (fun c1 => ?_)
  · have h := ifT c1 h
    exact pl_X3_type_27 hrec hf _ _ h
  · have h := ifF c1 h
    refine b_aload_n dX3_type_21 rfl ?_
    refine b_iconst dX3_type_22 ?_
    refine b_iload_n dX3_type_23 rfl ?_
    refine b_cVv (as := [vI 1, vI r1]) (st := []) dX3_type_24 mf_X3_fail qs11 lk_X3_45 ly_365 rfl (p_X3_fail (f := 1) (Nat.le_refl _) _ _ _ h) (by omega) rfl rfl (Nat.le_of_ble_eq_true rfl) (by decide) rfl (fun _ => rfl) (fun r2 m2 h => ?_) (fun _ h => h)
    exact pl_X3_type_27 hrec hf _ _ h
def R_X3_type : Nat → Nat → List Int → MM → (Int → MM → Prop) → (MM → Prop) → Prop
  | 0, _, _, _, _, _ => False
  | d + 1, i, as, m, Q, T => match i, as with
    | 0, [] => W_X3_type (R_X3_type d) m Q T
    | _, _ => False
theorem pr_X3_type : ∀ d f : Nat, 6 + d ≤ f → HR_X3_type (R_X3_type d) f := by
  intro d
  induction d with
  | zero => intro f hf; exact ⟨fun _ _ _ h => h.elim, trivial⟩
  | succ d ih =>
    intro f hf
    have hr := ih (f - 1) (by omega)
    exact ⟨fun m _ _ h => w_X3_type hr (show 6 ≤ f ∧ f - 1 + 1 ≤ f by omega) m h, trivial⟩
theorem dX3_takesKey_0 : decode cX3_takesKey 0 = .ok (.aload_n 0, 1) := by decide +kernel
theorem dX3_takesKey_1 : decode cX3_takesKey 1 = .ok (.iload_n 1, 1) := by decide +kernel
theorem dX3_takesKey_2 : decode cX3_takesKey 2 = .ok (.invokevirtual 59, 3) := by decide +kernel
theorem dX3_takesKey_5 : decode cX3_takesKey 5 = .ok (.ifCond .ne 5, 3) := by decide +kernel
theorem dX3_takesKey_8 : decode cX3_takesKey 8 = .ok (.iconst 0, 1) := by decide +kernel
theorem dX3_takesKey_9 : decode cX3_takesKey 9 = .ok (.ireturn, 1) := by decide +kernel
theorem dX3_takesKey_10 : decode cX3_takesKey 10 = .ok (.aload_n 0, 1) := by decide +kernel
theorem dX3_takesKey_11 : decode cX3_takesKey 11 = .ok (.invokevirtual 53, 3) := by decide +kernel
theorem dX3_takesKey_14 : decode cX3_takesKey 14 = .ok (.iconst 1, 1) := by decide +kernel
theorem dX3_takesKey_15 : decode cX3_takesKey 15 = .ok (.ireturn, 1) := by decide +kernel
/-! AlgebraHouse$Parser.takesKey(I)Z -/
def P_X3_takesKey (x1 : Int) (m : MM) (Q : Int → MM → Prop) (T : MM → Prop) : Prop := P_X3_isKey x1 m (fun r1 m1 => (RI r1) ∧ (if r1 = 0 then Q 0 m1 else P_X3_go m1 (fun r2 m2 => Q 1 m2) T))
theorem p_X3_takesKey {f : Nat} {Q : Int → MM → Prop} {T : MM → Prop} (hf : 3 ≤ f) (x1 : Int) (m : MM) (h : P_X3_takesKey x1 m Q T) : CC f M_X3_takesKey [vR 365, vI x1] m Q T := by
  refine CC.of (plainFor_of_name (by decide)) (Nat.le_of_ble_eq_true rfl) (ls := [vR 365, vI x1]) rfl ?_
  have h : P_X3_isKey x1 m (fun r1 m1 => (RI r1) ∧ (if r1 = 0 then Q 0 m1 else P_X3_go m1 (fun r2 m2 => Q 1 m2) T)) := h
  refine b_aload_n dX3_takesKey_0 rfl ?_
  refine b_iload_n dX3_takesKey_1 rfl ?_
  refine b_cVi (as := [vI x1]) (st := []) dX3_takesKey_2 mf_X3_isKey qs19 lk_X3_59 ly_365 rfl (p_X3_isKey (f := 1) (Nat.le_refl _) _ _ h) (by omega) rfl rfl (Nat.le_of_ble_eq_true rfl) (by decide) rfl (fun _ => rfl) (fun r1 m1 h => ?_) (fun _ h => h)
  obtain ⟨g1, h⟩ := h
  refine b_if_ne 10 dX3_takesKey_5 g1 (by decide) (fun c1 => ?_) (fun c1 => ?_)
  · have h := ifF c1 h
    refine b_aload_n dX3_takesKey_10 rfl ?_
    refine b_cVv (as := []) (st := []) dX3_takesKey_11 mf_X3_go qs10 lk_X3_53 ly_365 rfl (p_X3_go (f := 2) (Nat.le_refl _) _ h) (by omega) rfl rfl (Nat.le_of_ble_eq_true rfl) (by decide) rfl (fun _ => rfl) (fun r2 m2 h => ?_) (fun _ h => h)
    refine b_iconst dX3_takesKey_14 ?_
    exact b_zret dX3_takesKey_15 rfl (Or.inr rfl) h
  · have h := ifT (Decidable.of_not_not c1) h
    refine b_iconst dX3_takesKey_8 ?_
    exact b_zret dX3_takesKey_9 rfl (Or.inl rfl) h
theorem dX3_needKey_0 : decode cX3_needKey 0 = .ok (.aload_n 0, 1) := by decide +kernel
theorem dX3_needKey_1 : decode cX3_needKey 1 = .ok (.iload_n 1, 1) := by decide +kernel
theorem dX3_needKey_2 : decode cX3_needKey 2 = .ok (.invokevirtual 62, 3) := by decide +kernel
theorem dX3_needKey_5 : decode cX3_needKey 5 = .ok (.ifCond .ne 12, 3) := by decide +kernel
theorem dX3_needKey_8 : decode cX3_needKey 8 = .ok (.aload_n 0, 1) := by decide +kernel
theorem dX3_needKey_9 : decode cX3_needKey 9 = .ok (.iconst 1, 1) := by decide +kernel
theorem dX3_needKey_10 : decode cX3_needKey 10 = .ok (.aload_n 0, 1) := by decide +kernel
theorem dX3_needKey_11 : decode cX3_needKey 11 = .ok (.invokevirtual 41, 3) := by decide +kernel
theorem dX3_needKey_14 : decode cX3_needKey 14 = .ok (.invokevirtual 45, 3) := by decide +kernel
theorem dX3_needKey_17 : decode cX3_needKey 17 = .ok (.return_, 1) := by decide +kernel
/-! AlgebraHouse$Parser.needKey(I)V -/
def P_X3_needKey (x1 : Int) (m : MM) (Q : Int → MM → Prop) (T : MM → Prop) : Prop := P_X3_takesKey x1 m (fun r1 m1 => (RI r1) ∧ (if r1 = 0 then P_X3_here m1 (fun r2 m2 => P_X3_fail 1 r2 m2 (fun r3 m3 => Q 0 m3) T) else Q 0 m1)) T
theorem p_X3_needKey {f : Nat} {Q : Int → MM → Prop} {T : MM → Prop} (hf : 4 ≤ f) (x1 : Int) (m : MM) (h : P_X3_needKey x1 m Q T) : CC f M_X3_needKey [vR 365, vI x1] m Q T := by
  refine CC.of (plainFor_of_name (by decide)) (Nat.le_of_ble_eq_true rfl) (ls := [vR 365, vI x1]) rfl ?_
  have h : P_X3_takesKey x1 m (fun r1 m1 => (RI r1) ∧ (if r1 = 0 then P_X3_here m1 (fun r2 m2 => P_X3_fail 1 r2 m2 (fun r3 m3 => Q 0 m3) T) else Q 0 m1)) T := h
  refine b_aload_n dX3_needKey_0 rfl ?_
  refine b_iload_n dX3_needKey_1 rfl ?_
  refine b_cVi (as := [vI x1]) (st := []) dX3_needKey_2 mf_X3_takesKey qs34 lk_X3_62 ly_365 rfl (p_X3_takesKey (f := 3) (Nat.le_refl _) _ _ h) (by omega) rfl rfl (Nat.le_of_ble_eq_true rfl) (by decide) rfl (fun _ => rfl) (fun r1 m1 h => ?_) (fun _ h => h)
  obtain ⟨g1, h⟩ := h
  refine b_if_ne 17 dX3_needKey_5 g1 (by decide) (fun c1 => ?_) (fun c1 => ?_)
  · have h := ifF c1 h
    exact b_vret dX3_needKey_17 rfl h
  · have h := ifT (Decidable.of_not_not c1) h
    refine b_aload_n dX3_needKey_8 rfl ?_
    refine b_iconst dX3_needKey_9 ?_
    refine b_aload_n dX3_needKey_10 rfl ?_
    refine b_cVi (as := []) (st := [vI 1, vR 365]) dX3_needKey_11 mf_X3_here qs9 lk_X3_41 ly_365 rfl (p_X3_here (f := 1) (Nat.le_refl _) _ h) (by omega) rfl rfl (Nat.le_of_ble_eq_true rfl) (by decide) rfl (fun _ => rfl) (fun r2 m2 h => ?_) (fun _ h => h)
    refine b_cVv (as := [vI 1, vI r2]) (st := []) dX3_needKey_14 mf_X3_fail qs11 lk_X3_45 ly_365 rfl (p_X3_fail (f := 1) (Nat.le_refl _) _ _ _ h) (by omega) rfl rfl (Nat.le_of_ble_eq_true rfl) (by decide) rfl (fun _ => rfl) (fun r3 m3 h => ?_) (fun _ h => h)
    exact b_vret dX3_needKey_17 rfl h
theorem dX3_arguments_0 : decode cX3_arguments 0 = .ok (.aload_n 0, 1) := by decide +kernel
theorem dX3_arguments_1 : decode cX3_arguments 1 = .ok (.getfield 78, 3) := by decide +kernel
theorem dX3_arguments_4 : decode cX3_arguments 4 = .ok (.getfield 212, 3) := by decide +kernel
theorem dX3_arguments_7 : decode cX3_arguments 7 = .ok (.iload_n 1, 1) := by decide +kernel
theorem dX3_arguments_8 : decode cX3_arguments 8 = .ok (.iload_n 2, 1) := by decide +kernel
theorem dX3_arguments_9 : decode cX3_arguments 9 = .ok (.iastore, 1) := by decide +kernel
theorem dX3_arguments_10 : decode cX3_arguments 10 = .ok (.aload_n 0, 1) := by decide +kernel
theorem dX3_arguments_11 : decode cX3_arguments 11 = .ok (.bipush 40, 2) := by decide +kernel
theorem dX3_arguments_13 : decode cX3_arguments 13 = .ok (.invokevirtual 162, 3) := by decide +kernel
theorem dX3_arguments_16 : decode cX3_arguments 16 = .ok (.iconst (-1), 1) := by decide +kernel
theorem dX3_arguments_17 : decode cX3_arguments 17 = .ok (.istore_n 3, 1) := by decide +kernel
theorem dX3_arguments_18 : decode cX3_arguments 18 = .ok (.aload_n 0, 1) := by decide +kernel
theorem dX3_arguments_19 : decode cX3_arguments 19 = .ok (.invokevirtual 114, 3) := by decide +kernel
theorem dX3_arguments_22 : decode cX3_arguments 22 = .ok (.istore 4, 2) := by decide +kernel
theorem dX3_arguments_24 : decode cX3_arguments 24 = .ok (.iload_n 3, 1) := by decide +kernel
theorem dX3_arguments_25 : decode cX3_arguments 25 = .ok (.iconst (-1), 1) := by decide +kernel
theorem dX3_arguments_26 : decode cX3_arguments 26 = .ok (.if_icmp .ne 17, 3) := by decide +kernel
theorem dX3_arguments_29 : decode cX3_arguments 29 = .ok (.aload_n 0, 1) := by decide +kernel
theorem dX3_arguments_30 : decode cX3_arguments 30 = .ok (.getfield 78, 3) := by decide +kernel
theorem dX3_arguments_33 : decode cX3_arguments 33 = .ok (.getfield 166, 3) := by decide +kernel
theorem dX3_arguments_36 : decode cX3_arguments 36 = .ok (.iload_n 1, 1) := by decide +kernel
theorem dX3_arguments_37 : decode cX3_arguments 37 = .ok (.iload 4, 2) := by decide +kernel
theorem dX3_arguments_39 : decode cX3_arguments 39 = .ok (.iastore, 1) := by decide +kernel
theorem dX3_arguments_40 : decode cX3_arguments 40 = .ok (.goto 14, 3) := by decide +kernel
theorem dX3_arguments_43 : decode cX3_arguments 43 = .ok (.aload_n 0, 1) := by decide +kernel
theorem dX3_arguments_44 : decode cX3_arguments 44 = .ok (.getfield 78, 3) := by decide +kernel
theorem dX3_arguments_47 : decode cX3_arguments 47 = .ok (.getfield 175, 3) := by decide +kernel
theorem dX3_arguments_50 : decode cX3_arguments 50 = .ok (.iload_n 3, 1) := by decide +kernel
theorem dX3_arguments_51 : decode cX3_arguments 51 = .ok (.iload 4, 2) := by decide +kernel
theorem dX3_arguments_53 : decode cX3_arguments 53 = .ok (.iastore, 1) := by decide +kernel
theorem dX3_arguments_54 : decode cX3_arguments 54 = .ok (.iload 4, 2) := by decide +kernel
theorem dX3_arguments_56 : decode cX3_arguments 56 = .ok (.istore_n 3, 1) := by decide +kernel
theorem dX3_arguments_57 : decode cX3_arguments 57 = .ok (.aload_n 0, 1) := by decide +kernel
theorem dX3_arguments_58 : decode cX3_arguments 58 = .ok (.bipush 44, 2) := by decide +kernel
theorem dX3_arguments_60 : decode cX3_arguments 60 = .ok (.invokevirtual 56, 3) := by decide +kernel
theorem dX3_arguments_63 : decode cX3_arguments 63 = .ok (.ifCond .ne (-45), 3) := by decide +kernel
theorem dX3_arguments_66 : decode cX3_arguments 66 = .ok (.aload_n 0, 1) := by decide +kernel
theorem dX3_arguments_67 : decode cX3_arguments 67 = .ok (.bipush 41, 2) := by decide +kernel
theorem dX3_arguments_69 : decode cX3_arguments 69 = .ok (.invokevirtual 138, 3) := by decide +kernel
theorem dX3_arguments_72 : decode cX3_arguments 72 = .ok (.return_, 1) := by decide +kernel
/-! AlgebraHouse$Parser.arguments(II)V -/
def P_X3_arguments_66 (rec : Nat → List Int → MM → (Int → MM → Prop) → (MM → Prop) → Prop) (Q : Int → MM → Prop) (T : MM → Prop) (m : MM) : Prop := P_X3_closes 41 m (fun r1 m1 => Q 0 m1) T
def P_X3_arguments_54 (rec : Nat → List Int → MM → (Int → MM → Prop) → (MM → Prop) → Prop) (Q : Int → MM → Prop) (T : MM → Prop) (K18 : Int → Int → MM → Prop) (x1 : Int) (x4 : Int) (m : MM) : Prop := P_X3_takes 44 m (fun r1 m1 => (RI r1) ∧ (if r1 = 0 then P_X3_arguments_66 rec Q T m1 else K18 x1 x4 m1)) T
def P_X3_arguments_18 (rec : Nat → List Int → MM → (Int → MM → Prop) → (MM → Prop) → Prop) (Q : Int → MM → Prop) (T : MM → Prop) : Nat → Int → Int → MM → Prop
  | 0, _, _, _ => False
  | n + 1, x1, x3, m => rec 5 [] m (fun r1 m1 => (RI x3) ∧ (if x3 = (-1) then (isTx (m1 365 1)) ∧ (0 ≤ x1 ∧ x1 < 160) ∧ ∀ m3 : MM, m3 = up m1 ((m1 365 1) + 2) x1 r1 → P_X3_arguments_54 rec Q T (fun z0 z1 z2 => P_X3_arguments_18 rec Q T n z0 z1 z2) x1 r1 m3 else (isTx (m1 365 1)) ∧ (0 ≤ x3 ∧ x3 < 160) ∧ ∀ m2 : MM, m2 = up m1 ((m1 365 1) + 3) x3 r1 → P_X3_arguments_54 rec Q T (fun z0 z1 z2 => P_X3_arguments_18 rec Q T n z0 z1 z2) x1 r1 m2)) T
def W_X3_arguments (rec : Nat → List Int → MM → (Int → MM → Prop) → (MM → Prop) → Prop) (x1 : Int) (x2 : Int) (m : MM) (Q : Int → MM → Prop) (T : MM → Prop) : Prop := (isTx (m 365 1)) ∧ (0 ≤ x1 ∧ x1 < 160) ∧ ∀ m1 : MM, m1 = up m ((m 365 1) + 1) x1 x2 → P_X3_needOpen 40 m1 (fun r1 m2 => ∃ nn, P_X3_arguments_18 rec Q T nn x1 (-1) m2) T
theorem dX3_atom_0 : decode cX3_atom 0 = .ok (.aload_n 0, 1) := by decide +kernel
theorem dX3_atom_1 : decode cX3_atom 1 = .ok (.invokevirtual 41, 3) := by decide +kernel
theorem dX3_atom_4 : decode cX3_atom 4 = .ok (.istore_n 1, 1) := by decide +kernel
theorem dX3_atom_5 : decode cX3_atom 5 = .ok (.aload_n 0, 1) := by decide +kernel
theorem dX3_atom_6 : decode cX3_atom 6 = .ok (.getfield 12, 3) := by decide +kernel
theorem dX3_atom_9 : decode cX3_atom 9 = .ok (.getfield 29, 3) := by decide +kernel
theorem dX3_atom_12 : decode cX3_atom 12 = .ok (.aload_n 0, 1) := by decide +kernel
theorem dX3_atom_13 : decode cX3_atom 13 = .ok (.getfield 33, 3) := by decide +kernel
theorem dX3_atom_16 : decode cX3_atom 16 = .ok (.iaload, 1) := by decide +kernel
theorem dX3_atom_17 : decode cX3_atom 17 = .ok (.tableswitch 218 1 4 #[31, 68, 165, 120], 31) := by decide +kernel
theorem dX3_atom_48 : decode cX3_atom 48 = .ok (.aload_n 0, 1) := by decide +kernel
theorem dX3_atom_49 : decode cX3_atom 49 = .ok (.getfield 78, 3) := by decide +kernel
theorem dX3_atom_52 : decode cX3_atom 52 = .ok (.iconst 0, 1) := by decide +kernel
theorem dX3_atom_53 : decode cX3_atom 53 = .ok (.iload_n 1, 1) := by decide +kernel
theorem dX3_atom_54 : decode cX3_atom 54 = .ok (.invokevirtual 153, 3) := by decide +kernel
theorem dX3_atom_57 : decode cX3_atom 57 = .ok (.istore_n 2, 1) := by decide +kernel
theorem dX3_atom_58 : decode cX3_atom 58 = .ok (.aload_n 0, 1) := by decide +kernel
theorem dX3_atom_59 : decode cX3_atom 59 = .ok (.getfield 78, 3) := by decide +kernel
theorem dX3_atom_62 : decode cX3_atom 62 = .ok (.getfield 157, 3) := by decide +kernel
theorem dX3_atom_65 : decode cX3_atom 65 = .ok (.iload_n 2, 1) := by decide +kernel
theorem dX3_atom_66 : decode cX3_atom 66 = .ok (.aload_n 0, 1) := by decide +kernel
theorem dX3_atom_67 : decode cX3_atom 67 = .ok (.getfield 12, 3) := by decide +kernel
theorem dX3_atom_70 : decode cX3_atom 70 = .ok (.getfield 36, 3) := by decide +kernel
theorem dX3_atom_73 : decode cX3_atom 73 = .ok (.aload_n 0, 1) := by decide +kernel
theorem dX3_atom_74 : decode cX3_atom 74 = .ok (.getfield 33, 3) := by decide +kernel
theorem dX3_atom_77 : decode cX3_atom 77 = .ok (.iaload, 1) := by decide +kernel
theorem dX3_atom_78 : decode cX3_atom 78 = .ok (.iastore, 1) := by decide +kernel
theorem dX3_atom_79 : decode cX3_atom 79 = .ok (.aload_n 0, 1) := by decide +kernel
theorem dX3_atom_80 : decode cX3_atom 80 = .ok (.invokevirtual 53, 3) := by decide +kernel
theorem dX3_atom_83 : decode cX3_atom 83 = .ok (.iload_n 2, 1) := by decide +kernel
theorem dX3_atom_84 : decode cX3_atom 84 = .ok (.ireturn, 1) := by decide +kernel
theorem dX3_atom_85 : decode cX3_atom 85 = .ok (.aload_n 0, 1) := by decide +kernel
theorem dX3_atom_86 : decode cX3_atom 86 = .ok (.getfield 78, 3) := by decide +kernel
theorem dX3_atom_89 : decode cX3_atom 89 = .ok (.iconst 4, 1) := by decide +kernel
theorem dX3_atom_90 : decode cX3_atom 90 = .ok (.iload_n 1, 1) := by decide +kernel
theorem dX3_atom_91 : decode cX3_atom 91 = .ok (.invokevirtual 153, 3) := by decide +kernel
theorem dX3_atom_94 : decode cX3_atom 94 = .ok (.istore_n 2, 1) := by decide +kernel
theorem dX3_atom_95 : decode cX3_atom 95 = .ok (.aload_n 0, 1) := by decide +kernel
theorem dX3_atom_96 : decode cX3_atom 96 = .ok (.getfield 78, 3) := by decide +kernel
theorem dX3_atom_99 : decode cX3_atom 99 = .ok (.getfield 165, 3) := by decide +kernel
theorem dX3_atom_102 : decode cX3_atom 102 = .ok (.iload_n 2, 1) := by decide +kernel
theorem dX3_atom_103 : decode cX3_atom 103 = .ok (.aload_n 0, 1) := by decide +kernel
theorem dX3_atom_104 : decode cX3_atom 104 = .ok (.getfield 12, 3) := by decide +kernel
theorem dX3_atom_107 : decode cX3_atom 107 = .ok (.getfield 106, 3) := by decide +kernel
theorem dX3_atom_110 : decode cX3_atom 110 = .ok (.aload_n 0, 1) := by decide +kernel
theorem dX3_atom_111 : decode cX3_atom 111 = .ok (.getfield 33, 3) := by decide +kernel
theorem dX3_atom_114 : decode cX3_atom 114 = .ok (.laload, 1) := by decide +kernel
theorem dX3_atom_115 : decode cX3_atom 115 = .ok (.lastore, 1) := by decide +kernel
theorem dX3_atom_116 : decode cX3_atom 116 = .ok (.aload_n 0, 1) := by decide +kernel
theorem dX3_atom_117 : decode cX3_atom 117 = .ok (.invokevirtual 53, 3) := by decide +kernel
theorem dX3_atom_120 : decode cX3_atom 120 = .ok (.aload_n 0, 1) := by decide +kernel
theorem dX3_atom_121 : decode cX3_atom 121 = .ok (.bipush 40, 2) := by decide +kernel
theorem dX3_atom_123 : decode cX3_atom 123 = .ok (.invokevirtual 49, 3) := by decide +kernel
theorem dX3_atom_126 : decode cX3_atom 126 = .ok (.ifCond .eq 9, 3) := by decide +kernel
theorem dX3_atom_129 : decode cX3_atom 129 = .ok (.aload_n 0, 1) := by decide +kernel
theorem dX3_atom_130 : decode cX3_atom 130 = .ok (.iload_n 2, 1) := by decide +kernel
theorem dX3_atom_131 : decode cX3_atom 131 = .ok (.iconst 5, 1) := by decide +kernel
theorem dX3_atom_132 : decode cX3_atom 132 = .ok (.invokevirtual 205, 3) := by decide +kernel
theorem dX3_atom_135 : decode cX3_atom 135 = .ok (.iload_n 2, 1) := by decide +kernel
theorem dX3_atom_136 : decode cX3_atom 136 = .ok (.ireturn, 1) := by decide +kernel
theorem dX3_atom_137 : decode cX3_atom 137 = .ok (.aload_n 0, 1) := by decide +kernel
theorem dX3_atom_138 : decode cX3_atom 138 = .ok (.getfield 78, 3) := by decide +kernel
theorem dX3_atom_141 : decode cX3_atom 141 = .ok (.bipush 6, 2) := by decide +kernel
theorem dX3_atom_143 : decode cX3_atom 143 = .ok (.iload_n 1, 1) := by decide +kernel
theorem dX3_atom_144 : decode cX3_atom 144 = .ok (.invokevirtual 153, 3) := by decide +kernel
theorem dX3_atom_147 : decode cX3_atom 147 = .ok (.istore_n 2, 1) := by decide +kernel
theorem dX3_atom_148 : decode cX3_atom 148 = .ok (.aload_n 0, 1) := by decide +kernel
theorem dX3_atom_149 : decode cX3_atom 149 = .ok (.getfield 78, 3) := by decide +kernel
theorem dX3_atom_152 : decode cX3_atom 152 = .ok (.getfield 157, 3) := by decide +kernel
theorem dX3_atom_155 : decode cX3_atom 155 = .ok (.iload_n 2, 1) := by decide +kernel
theorem dX3_atom_156 : decode cX3_atom 156 = .ok (.aload_n 0, 1) := by decide +kernel
theorem dX3_atom_157 : decode cX3_atom 157 = .ok (.getfield 12, 3) := by decide +kernel
theorem dX3_atom_160 : decode cX3_atom 160 = .ok (.getfield 36, 3) := by decide +kernel
theorem dX3_atom_163 : decode cX3_atom 163 = .ok (.aload_n 0, 1) := by decide +kernel
theorem dX3_atom_164 : decode cX3_atom 164 = .ok (.getfield 33, 3) := by decide +kernel
theorem dX3_atom_167 : decode cX3_atom 167 = .ok (.iaload, 1) := by decide +kernel
theorem dX3_atom_168 : decode cX3_atom 168 = .ok (.iastore, 1) := by decide +kernel
theorem dX3_atom_169 : decode cX3_atom 169 = .ok (.aload_n 0, 1) := by decide +kernel
theorem dX3_atom_170 : decode cX3_atom 170 = .ok (.invokevirtual 53, 3) := by decide +kernel
theorem dX3_atom_173 : decode cX3_atom 173 = .ok (.aload_n 0, 1) := by decide +kernel
theorem dX3_atom_174 : decode cX3_atom 174 = .ok (.iload_n 2, 1) := by decide +kernel
theorem dX3_atom_175 : decode cX3_atom 175 = .ok (.bipush 6, 2) := by decide +kernel
theorem dX3_atom_177 : decode cX3_atom 177 = .ok (.invokevirtual 205, 3) := by decide +kernel
theorem dX3_atom_180 : decode cX3_atom 180 = .ok (.iload_n 2, 1) := by decide +kernel
theorem dX3_atom_181 : decode cX3_atom 181 = .ok (.ireturn, 1) := by decide +kernel
theorem dX3_atom_182 : decode cX3_atom 182 = .ok (.aload_n 0, 1) := by decide +kernel
theorem dX3_atom_183 : decode cX3_atom 183 = .ok (.bipush 12, 2) := by decide +kernel
theorem dX3_atom_185 : decode cX3_atom 185 = .ok (.invokevirtual 59, 3) := by decide +kernel
theorem dX3_atom_188 : decode cX3_atom 188 = .ok (.ifCond .ne 18, 3) := by decide +kernel
theorem dX3_atom_191 : decode cX3_atom 191 = .ok (.aload_n 0, 1) := by decide +kernel
theorem dX3_atom_192 : decode cX3_atom 192 = .ok (.bipush 13, 2) := by decide +kernel
theorem dX3_atom_194 : decode cX3_atom 194 = .ok (.invokevirtual 59, 3) := by decide +kernel
theorem dX3_atom_197 : decode cX3_atom 197 = .ok (.ifCond .ne 9, 3) := by decide +kernel
theorem dX3_atom_200 : decode cX3_atom 200 = .ok (.aload_n 0, 1) := by decide +kernel
theorem dX3_atom_201 : decode cX3_atom 201 = .ok (.iconst 1, 1) := by decide +kernel
theorem dX3_atom_202 : decode cX3_atom 202 = .ok (.iload_n 1, 1) := by decide +kernel
theorem dX3_atom_203 : decode cX3_atom 203 = .ok (.invokevirtual 45, 3) := by decide +kernel
theorem dX3_atom_206 : decode cX3_atom 206 = .ok (.aload_n 0, 1) := by decide +kernel
theorem dX3_atom_207 : decode cX3_atom 207 = .ok (.getfield 78, 3) := by decide +kernel
theorem dX3_atom_210 : decode cX3_atom 210 = .ok (.aload_n 0, 1) := by decide +kernel
theorem dX3_atom_211 : decode cX3_atom 211 = .ok (.bipush 12, 2) := by decide +kernel
theorem dX3_atom_213 : decode cX3_atom 213 = .ok (.invokevirtual 59, 3) := by decide +kernel
theorem dX3_atom_216 : decode cX3_atom 216 = .ok (.ifCond .eq 7, 3) := by decide +kernel
theorem dX3_atom_219 : decode cX3_atom 219 = .ok (.iconst 1, 1) := by decide +kernel
theorem dX3_atom_220 : decode cX3_atom 220 = .ok (.goto 4, 3) := by decide +kernel
theorem dX3_atom_223 : decode cX3_atom 223 = .ok (.iconst 2, 1) := by decide +kernel
theorem dX3_atom_224 : decode cX3_atom 224 = .ok (.iload_n 1, 1) := by decide +kernel
theorem dX3_atom_225 : decode cX3_atom 225 = .ok (.invokevirtual 153, 3) := by decide +kernel
theorem dX3_atom_228 : decode cX3_atom 228 = .ok (.istore_n 2, 1) := by decide +kernel
theorem dX3_atom_229 : decode cX3_atom 229 = .ok (.aload_n 0, 1) := by decide +kernel
theorem dX3_atom_230 : decode cX3_atom 230 = .ok (.invokevirtual 53, 3) := by decide +kernel
theorem dX3_atom_233 : decode cX3_atom 233 = .ok (.iload_n 2, 1) := by decide +kernel
theorem dX3_atom_234 : decode cX3_atom 234 = .ok (.ireturn, 1) := by decide +kernel
theorem dX3_atom_235 : decode cX3_atom 235 = .ok (.aload_n 0, 1) := by decide +kernel
theorem dX3_atom_236 : decode cX3_atom 236 = .ok (.iload_n 1, 1) := by decide +kernel
theorem dX3_atom_237 : decode cX3_atom 237 = .ok (.invokevirtual 208, 3) := by decide +kernel
theorem dX3_atom_240 : decode cX3_atom 240 = .ok (.ireturn, 1) := by decide +kernel
/-! AlgebraHouse$Parser.atom()I -/
def P_X3_atom_206 (rec : Nat → List Int → MM → (Int → MM → Prop) → (MM → Prop) → Prop) (Q : Int → MM → Prop) (T : MM → Prop) (x1 : Int) (m : MM) : Prop := P_X3_isKey 12 m (fun r1 m1 => ((RI r1)) ∧ (isTx (m 365 1)) ∧ P_X2_add (m 365 1) (if r1 = 0 then 2 else 1 : Int) x1 m1 (fun r2 m2 => P_X3_go m2 (fun r3 m3 => Q r2 m3) T))
def W_X3_atom (rec : Nat → List Int → MM → (Int → MM → Prop) → (MM → Prop) → Prop) (m : MM) (Q : Int → MM → Prop) (T : MM → Prop) : Prop := P_X3_here m (fun r1 m1 => (0 ≤ (m1 365 2) ∧ (m1 365 2) < 401) ∧ (RI (m1 368 (m1 365 2))) ∧ (if (m1 368 (m1 365 2)) = 1 then (isTx (m1 365 1)) ∧ P_X2_add (m1 365 1) 0 r1 m1 (fun r2 m2 => (isTx (m2 365 1)) ∧ (0 ≤ (m2 365 2) ∧ (m2 365 2) < 401) ∧ (0 ≤ r2 ∧ r2 < 160) ∧ ∀ m3 : MM, m3 = up m2 ((m2 365 1) + 4) r2 (m2 369 (m2 365 2)) → P_X3_go m3 (fun r3 m4 => Q r2 m4) T) else (if (m1 368 (m1 365 2)) = 2 then (isTx (m1 365 1)) ∧ P_X2_add (m1 365 1) 4 r1 m1 (fun r4 m5 => (isTx (m5 365 1)) ∧ (0 ≤ (m5 365 2) ∧ (m5 365 2) < 401) ∧ (0 ≤ r4 ∧ r4 < 160) ∧ ∀ m6 : MM, m6 = up m5 ((m5 365 1) + 9) r4 (m5 371 (m5 365 2)) → P_X3_go m6 (fun r5 m7 => P_X3_isSign 40 m7 (fun r6 m8 => (RI r6) ∧ (if r6 = 0 then Q r4 m8 else rec 0 [r4, 5] m8 (fun r7 m9 => Q r4 m9) T))) T) else (if (m1 368 (m1 365 2)) = 3 then P_X3_isKey 12 m1 (fun r8 m10 => (RI r8) ∧ (if r8 = 0 then P_X3_isKey 13 m10 (fun r9 m11 => (RI r9) ∧ (if r9 = 0 then P_X3_fail 1 r1 m11 (fun r10 m12 => P_X3_atom_206 rec Q T r1 m12) T else P_X3_atom_206 rec Q T r1 m11)) else P_X3_atom_206 rec Q T r1 m10)) else (if (m1 368 (m1 365 2)) = 4 then (isTx (m1 365 1)) ∧ P_X2_add (m1 365 1) 6 r1 m1 (fun r11 m13 => (isTx (m13 365 1)) ∧ (0 ≤ (m13 365 2) ∧ (m13 365 2) < 401) ∧ (0 ≤ r11 ∧ r11 < 160) ∧ ∀ m14 : MM, m14 = up m13 ((m13 365 1) + 4) r11 (m13 369 (m13 365 2)) → P_X3_go m14 (fun r12 m15 => rec 0 [r11, 6] m15 (fun r13 m16 => Q r11 m16) T) T) else rec 11 [r1] m1 (fun r14 m17 => Q r14 m17) T)))))
theorem dX3_behind_0 : decode cX3_behind 0 = .ok (.aload_n 0, 1) := by decide +kernel
theorem dX3_behind_1 : decode cX3_behind 1 = .ok (.invokevirtual 202, 3) := by decide +kernel
theorem dX3_behind_4 : decode cX3_behind 4 = .ok (.istore_n 1, 1) := by decide +kernel
theorem dX3_behind_5 : decode cX3_behind 5 = .ok (.aload_n 0, 1) := by decide +kernel
theorem dX3_behind_6 : decode cX3_behind 6 = .ok (.bipush 94, 2) := by decide +kernel
theorem dX3_behind_8 : decode cX3_behind 8 = .ok (.invokevirtual 49, 3) := by decide +kernel
theorem dX3_behind_11 : decode cX3_behind 11 = .ok (.ifCond .ne 22, 3) := by decide +kernel
theorem dX3_behind_14 : decode cX3_behind 14 = .ok (.aload_n 0, 1) := by decide +kernel
theorem dX3_behind_15 : decode cX3_behind 15 = .ok (.sipush 130, 3) := by decide +kernel
theorem dX3_behind_18 : decode cX3_behind 18 = .ok (.invokevirtual 49, 3) := by decide +kernel
theorem dX3_behind_21 : decode cX3_behind 21 = .ok (.ifCond .ne 12, 3) := by decide +kernel
theorem dX3_behind_24 : decode cX3_behind 24 = .ok (.aload_n 0, 1) := by decide +kernel
theorem dX3_behind_25 : decode cX3_behind 25 = .ok (.bipush 33, 2) := by decide +kernel
theorem dX3_behind_27 : decode cX3_behind 27 = .ok (.invokevirtual 49, 3) := by decide +kernel
theorem dX3_behind_30 : decode cX3_behind 30 = .ok (.ifCond .eq 149, 3) := by decide +kernel
theorem dX3_behind_33 : decode cX3_behind 33 = .ok (.aload_n 0, 1) := by decide +kernel
theorem dX3_behind_34 : decode cX3_behind 34 = .ok (.invokevirtual 41, 3) := by decide +kernel
theorem dX3_behind_37 : decode cX3_behind 37 = .ok (.istore_n 2, 1) := by decide +kernel
theorem dX3_behind_38 : decode cX3_behind 38 = .ok (.aload_n 0, 1) := by decide +kernel
theorem dX3_behind_39 : decode cX3_behind 39 = .ok (.bipush 94, 2) := by decide +kernel
theorem dX3_behind_41 : decode cX3_behind 41 = .ok (.invokevirtual 49, 3) := by decide +kernel
theorem dX3_behind_44 : decode cX3_behind 44 = .ok (.istore_n 3, 1) := by decide +kernel
theorem dX3_behind_45 : decode cX3_behind 45 = .ok (.iload_n 3, 1) := by decide +kernel
theorem dX3_behind_46 : decode cX3_behind 46 = .ok (.ifCond .eq 8, 3) := by decide +kernel
theorem dX3_behind_49 : decode cX3_behind 49 = .ok (.bipush 23, 2) := by decide +kernel
theorem dX3_behind_51 : decode cX3_behind 51 = .ok (.goto 19, 3) := by decide +kernel
theorem dX3_behind_54 : decode cX3_behind 54 = .ok (.aload_n 0, 1) := by decide +kernel
theorem dX3_behind_55 : decode cX3_behind 55 = .ok (.bipush 33, 2) := by decide +kernel
theorem dX3_behind_57 : decode cX3_behind 57 = .ok (.invokevirtual 49, 3) := by decide +kernel
theorem dX3_behind_60 : decode cX3_behind 60 = .ok (.ifCond .eq 8, 3) := by decide +kernel
theorem dX3_behind_63 : decode cX3_behind 63 = .ok (.bipush 25, 2) := by decide +kernel
theorem dX3_behind_65 : decode cX3_behind 65 = .ok (.goto 5, 3) := by decide +kernel
theorem dX3_behind_68 : decode cX3_behind 68 = .ok (.bipush 24, 2) := by decide +kernel
theorem dX3_behind_70 : decode cX3_behind 70 = .ok (.istore 4, 2) := by decide +kernel
theorem dX3_behind_72 : decode cX3_behind 72 = .ok (.aload_n 0, 1) := by decide +kernel
theorem dX3_behind_73 : decode cX3_behind 73 = .ok (.invokevirtual 53, 3) := by decide +kernel
theorem dX3_behind_76 : decode cX3_behind 76 = .ok (.iload_n 3, 1) := by decide +kernel
theorem dX3_behind_77 : decode cX3_behind 77 = .ok (.ifCond .eq 83, 3) := by decide +kernel
theorem dX3_behind_80 : decode cX3_behind 80 = .ok (.aload_n 0, 1) := by decide +kernel
theorem dX3_behind_81 : decode cX3_behind 81 = .ok (.getfield 12, 3) := by decide +kernel
theorem dX3_behind_84 : decode cX3_behind 84 = .ok (.getfield 29, 3) := by decide +kernel
theorem dX3_behind_87 : decode cX3_behind 87 = .ok (.aload_n 0, 1) := by decide +kernel
theorem dX3_behind_88 : decode cX3_behind 88 = .ok (.getfield 33, 3) := by decide +kernel
theorem dX3_behind_91 : decode cX3_behind 91 = .ok (.iaload, 1) := by decide +kernel
theorem dX3_behind_92 : decode cX3_behind 92 = .ok (.iconst 1, 1) := by decide +kernel
theorem dX3_behind_93 : decode cX3_behind 93 = .ok (.if_icmp .eq 12, 3) := by decide +kernel
theorem dX3_behind_96 : decode cX3_behind 96 = .ok (.aload_n 0, 1) := by decide +kernel
theorem dX3_behind_97 : decode cX3_behind 97 = .ok (.iconst 1, 1) := by decide +kernel
theorem dX3_behind_98 : decode cX3_behind 98 = .ok (.aload_n 0, 1) := by decide +kernel
theorem dX3_behind_99 : decode cX3_behind 99 = .ok (.invokevirtual 41, 3) := by decide +kernel
theorem dX3_behind_102 : decode cX3_behind 102 = .ok (.invokevirtual 45, 3) := by decide +kernel
theorem dX3_behind_105 : decode cX3_behind 105 = .ok (.aload_n 0, 1) := by decide +kernel
theorem dX3_behind_106 : decode cX3_behind 106 = .ok (.getfield 78, 3) := by decide +kernel
theorem dX3_behind_109 : decode cX3_behind 109 = .ok (.iload 4, 2) := by decide +kernel
theorem dX3_behind_111 : decode cX3_behind 111 = .ok (.iload_n 2, 1) := by decide +kernel
theorem dX3_behind_112 : decode cX3_behind 112 = .ok (.invokevirtual 153, 3) := by decide +kernel
theorem dX3_behind_115 : decode cX3_behind 115 = .ok (.istore 5, 2) := by decide +kernel
theorem dX3_behind_117 : decode cX3_behind 117 = .ok (.aload_n 0, 1) := by decide +kernel
theorem dX3_behind_118 : decode cX3_behind 118 = .ok (.getfield 78, 3) := by decide +kernel
theorem dX3_behind_121 : decode cX3_behind 121 = .ok (.getfield 166, 3) := by decide +kernel
theorem dX3_behind_124 : decode cX3_behind 124 = .ok (.iload 5, 2) := by decide +kernel
theorem dX3_behind_126 : decode cX3_behind 126 = .ok (.iload_n 1, 1) := by decide +kernel
theorem dX3_behind_127 : decode cX3_behind 127 = .ok (.iastore, 1) := by decide +kernel
theorem dX3_behind_128 : decode cX3_behind 128 = .ok (.aload_n 0, 1) := by decide +kernel
theorem dX3_behind_129 : decode cX3_behind 129 = .ok (.getfield 78, 3) := by decide +kernel
theorem dX3_behind_132 : decode cX3_behind 132 = .ok (.getfield 157, 3) := by decide +kernel
theorem dX3_behind_135 : decode cX3_behind 135 = .ok (.iload 5, 2) := by decide +kernel
theorem dX3_behind_137 : decode cX3_behind 137 = .ok (.aload_n 0, 1) := by decide +kernel
theorem dX3_behind_138 : decode cX3_behind 138 = .ok (.getfield 12, 3) := by decide +kernel
theorem dX3_behind_141 : decode cX3_behind 141 = .ok (.getfield 36, 3) := by decide +kernel
theorem dX3_behind_144 : decode cX3_behind 144 = .ok (.aload_n 0, 1) := by decide +kernel
theorem dX3_behind_145 : decode cX3_behind 145 = .ok (.getfield 33, 3) := by decide +kernel
theorem dX3_behind_148 : decode cX3_behind 148 = .ok (.iaload, 1) := by decide +kernel
theorem dX3_behind_149 : decode cX3_behind 149 = .ok (.iastore, 1) := by decide +kernel
theorem dX3_behind_150 : decode cX3_behind 150 = .ok (.aload_n 0, 1) := by decide +kernel
theorem dX3_behind_151 : decode cX3_behind 151 = .ok (.invokevirtual 53, 3) := by decide +kernel
theorem dX3_behind_154 : decode cX3_behind 154 = .ok (.iload 5, 2) := by decide +kernel
theorem dX3_behind_156 : decode cX3_behind 156 = .ok (.istore_n 1, 1) := by decide +kernel
theorem dX3_behind_157 : decode cX3_behind 157 = .ok (.goto 19, 3) := by decide +kernel
theorem dX3_behind_160 : decode cX3_behind 160 = .ok (.aload_n 0, 1) := by decide +kernel
theorem dX3_behind_161 : decode cX3_behind 161 = .ok (.getfield 78, 3) := by decide +kernel
theorem dX3_behind_164 : decode cX3_behind 164 = .ok (.iload 4, 2) := by decide +kernel
theorem dX3_behind_166 : decode cX3_behind 166 = .ok (.iload_n 2, 1) := by decide +kernel
theorem dX3_behind_167 : decode cX3_behind 167 = .ok (.iload_n 1, 1) := by decide +kernel
theorem dX3_behind_168 : decode cX3_behind 168 = .ok (.aload_n 0, 1) := by decide +kernel
theorem dX3_behind_169 : decode cX3_behind 169 = .ok (.invokevirtual 135, 3) := by decide +kernel
theorem dX3_behind_172 : decode cX3_behind 172 = .ok (.invokevirtual 181, 3) := by decide +kernel
theorem dX3_behind_175 : decode cX3_behind 175 = .ok (.istore_n 1, 1) := by decide +kernel
theorem dX3_behind_176 : decode cX3_behind 176 = .ok (.goto (-171), 3) := by decide +kernel
theorem dX3_behind_179 : decode cX3_behind 179 = .ok (.iload_n 1, 1) := by decide +kernel
theorem dX3_behind_180 : decode cX3_behind 180 = .ok (.ireturn, 1) := by decide +kernel
/-! AlgebraHouse$Parser.behind()I -/
def P_X3_behind_105 (rec : Nat → List Int → MM → (Int → MM → Prop) → (MM → Prop) → Prop) (Q : Int → MM → Prop) (T : MM → Prop) (K5 : Int → MM → Prop) (x1 : Int) (x2 : Int) (x4 : Int) (m : MM) : Prop := (isTx (m 365 1)) ∧ P_X2_add (m 365 1) x4 x2 m (fun r1 m1 => (isTx (m1 365 1)) ∧ (0 ≤ r1 ∧ r1 < 160) ∧ ∀ m2 : MM, m2 = up m1 ((m1 365 1) + 2) r1 x1 → (isTx (m2 365 1)) ∧ (0 ≤ (m2 365 2) ∧ (m2 365 2) < 401) ∧ ∀ m3 : MM, m3 = up m2 ((m2 365 1) + 4) r1 (m2 369 (m2 365 2)) → P_X3_go m3 (fun r2 m4 => K5 r1 m4) T)
def P_X3_behind_70 (rec : Nat → List Int → MM → (Int → MM → Prop) → (MM → Prop) → Prop) (Q : Int → MM → Prop) (T : MM → Prop) (K5 : Int → MM → Prop) (x1 : Int) (x2 : Int) (x3 : Int) (s0 : Int) (m : MM) : Prop := P_X3_go m (fun r1 m1 => (RI x3) ∧ (if x3 = 0 then R_X3_type 20 0 [] m1 (fun r2 m2 => (isTx (m1 365 1)) ∧ P_X2_add_2 (m1 365 1) s0 x2 x1 r2 m2 (fun r3 m3 => K5 r3 m3)) T else (0 ≤ (m1 365 2) ∧ (m1 365 2) < 401) ∧ (RI (m1 368 (m1 365 2))) ∧ (if (m1 368 (m1 365 2)) = 1 then P_X3_behind_105 rec Q T K5 x1 x2 s0 m1 else P_X3_here m1 (fun r4 m4 => P_X3_fail 1 r4 m4 (fun r5 m5 => P_X3_behind_105 rec Q T K5 x1 x2 s0 m5) T)))) T
def P_X3_behind_33 (rec : Nat → List Int → MM → (Int → MM → Prop) → (MM → Prop) → Prop) (Q : Int → MM → Prop) (T : MM → Prop) (K5 : Int → MM → Prop) (x1 : Int) (m : MM) : Prop := P_X3_here m (fun r1 m1 => P_X3_isSign 94 m1 (fun r2 m2 => (RI r2) ∧ (if r2 = 0 then P_X3_isSign 33 m2 (fun r3 m3 => (RI r3) ∧ (if r3 = 0 then P_X3_behind_70 rec Q T K5 x1 r1 r2 24 m3 else P_X3_behind_70 rec Q T K5 x1 r1 r2 25 m3)) else P_X3_behind_70 rec Q T K5 x1 r1 r2 23 m2)))
def P_X3_behind_5 (rec : Nat → List Int → MM → (Int → MM → Prop) → (MM → Prop) → Prop) (Q : Int → MM → Prop) (T : MM → Prop) : Nat → Int → MM → Prop
  | 0, _, _ => False
  | n + 1, x1, m => P_X3_isSign 94 m (fun r1 m1 => (RI r1) ∧ (if r1 = 0 then P_X3_isSign 130 m1 (fun r2 m2 => (RI r2) ∧ (if r2 = 0 then P_X3_isSign 33 m2 (fun r3 m3 => (RI r3) ∧ (if r3 = 0 then Q x1 m3 else P_X3_behind_33 rec Q T (fun z0 z1 => P_X3_behind_5 rec Q T n z0 z1) x1 m3)) else P_X3_behind_33 rec Q T (fun z0 z1 => P_X3_behind_5 rec Q T n z0 z1) x1 m2)) else P_X3_behind_33 rec Q T (fun z0 z1 => P_X3_behind_5 rec Q T n z0 z1) x1 m1))
def W_X3_behind (rec : Nat → List Int → MM → (Int → MM → Prop) → (MM → Prop) → Prop) (m : MM) (Q : Int → MM → Prop) (T : MM → Prop) : Prop := rec 1 [] m (fun r1 m1 => ∃ nn, P_X3_behind_5 rec Q T nn r1 m1) T
theorem dX3_both_0 : decode cX3_both 0 = .ok (.aload_n 0, 1) := by decide +kernel
theorem dX3_both_1 : decode cX3_both 1 = .ok (.invokevirtual 184, 3) := by decide +kernel
theorem dX3_both_4 : decode cX3_both 4 = .ok (.istore_n 1, 1) := by decide +kernel
theorem dX3_both_5 : decode cX3_both 5 = .ok (.aload_n 0, 1) := by decide +kernel
theorem dX3_both_6 : decode cX3_both 6 = .ok (.iconst 3, 1) := by decide +kernel
theorem dX3_both_7 : decode cX3_both 7 = .ok (.invokevirtual 59, 3) := by decide +kernel
theorem dX3_both_10 : decode cX3_both 10 = .ok (.ifCond .eq 31, 3) := by decide +kernel
theorem dX3_both_13 : decode cX3_both 13 = .ok (.aload_n 0, 1) := by decide +kernel
theorem dX3_both_14 : decode cX3_both 14 = .ok (.invokevirtual 41, 3) := by decide +kernel
theorem dX3_both_17 : decode cX3_both 17 = .ok (.istore_n 2, 1) := by decide +kernel
theorem dX3_both_18 : decode cX3_both 18 = .ok (.aload_n 0, 1) := by decide +kernel
theorem dX3_both_19 : decode cX3_both 19 = .ok (.invokevirtual 53, 3) := by decide +kernel
theorem dX3_both_22 : decode cX3_both 22 = .ok (.aload_n 0, 1) := by decide +kernel
theorem dX3_both_23 : decode cX3_both 23 = .ok (.getfield 78, 3) := by decide +kernel
theorem dX3_both_26 : decode cX3_both 26 = .ok (.bipush 10, 2) := by decide +kernel
theorem dX3_both_28 : decode cX3_both 28 = .ok (.iload_n 2, 1) := by decide +kernel
theorem dX3_both_29 : decode cX3_both 29 = .ok (.iload_n 1, 1) := by decide +kernel
theorem dX3_both_30 : decode cX3_both 30 = .ok (.aload_n 0, 1) := by decide +kernel
theorem dX3_both_31 : decode cX3_both 31 = .ok (.invokevirtual 184, 3) := by decide +kernel
theorem dX3_both_34 : decode cX3_both 34 = .ok (.invokevirtual 181, 3) := by decide +kernel
theorem dX3_both_37 : decode cX3_both 37 = .ok (.istore_n 1, 1) := by decide +kernel
theorem dX3_both_38 : decode cX3_both 38 = .ok (.goto (-33), 3) := by decide +kernel
theorem dX3_both_41 : decode cX3_both 41 = .ok (.iload_n 1, 1) := by decide +kernel
theorem dX3_both_42 : decode cX3_both 42 = .ok (.ireturn, 1) := by decide +kernel
/-! AlgebraHouse$Parser.both()I -/
def P_X3_both_5 (rec : Nat → List Int → MM → (Int → MM → Prop) → (MM → Prop) → Prop) (Q : Int → MM → Prop) (T : MM → Prop) : Nat → Int → MM → Prop
  | 0, _, _ => False
  | n + 1, x1, m => P_X3_isKey 3 m (fun r1 m1 => (RI r1) ∧ (if r1 = 0 then Q x1 m1 else P_X3_here m1 (fun r2 m2 => P_X3_go m2 (fun r3 m3 => rec 8 [] m3 (fun r4 m4 => (isTx (m3 365 1)) ∧ P_X2_add_2 (m3 365 1) 10 r2 x1 r4 m4 (fun r5 m5 => P_X3_both_5 rec Q T n r5 m5)) T) T)))
def W_X3_both (rec : Nat → List Int → MM → (Int → MM → Prop) → (MM → Prop) → Prop) (m : MM) (Q : Int → MM → Prop) (T : MM → Prop) : Prop := rec 8 [] m (fun r1 m1 => ∃ nn, P_X3_both_5 rec Q T nn r1 m1) T
theorem dX3_either_0 : decode cX3_either 0 = .ok (.aload_n 0, 1) := by decide +kernel
theorem dX3_either_1 : decode cX3_either 1 = .ok (.invokevirtual 178, 3) := by decide +kernel
theorem dX3_either_4 : decode cX3_either 4 = .ok (.istore_n 1, 1) := by decide +kernel
theorem dX3_either_5 : decode cX3_either 5 = .ok (.aload_n 0, 1) := by decide +kernel
theorem dX3_either_6 : decode cX3_either 6 = .ok (.iconst 4, 1) := by decide +kernel
theorem dX3_either_7 : decode cX3_either 7 = .ok (.invokevirtual 59, 3) := by decide +kernel
theorem dX3_either_10 : decode cX3_either 10 = .ok (.ifCond .eq 31, 3) := by decide +kernel
theorem dX3_either_13 : decode cX3_either 13 = .ok (.aload_n 0, 1) := by decide +kernel
theorem dX3_either_14 : decode cX3_either 14 = .ok (.invokevirtual 41, 3) := by decide +kernel
theorem dX3_either_17 : decode cX3_either 17 = .ok (.istore_n 2, 1) := by decide +kernel
theorem dX3_either_18 : decode cX3_either 18 = .ok (.aload_n 0, 1) := by decide +kernel
theorem dX3_either_19 : decode cX3_either 19 = .ok (.invokevirtual 53, 3) := by decide +kernel
theorem dX3_either_22 : decode cX3_either 22 = .ok (.aload_n 0, 1) := by decide +kernel
theorem dX3_either_23 : decode cX3_either 23 = .ok (.getfield 78, 3) := by decide +kernel
theorem dX3_either_26 : decode cX3_either 26 = .ok (.bipush 9, 2) := by decide +kernel
theorem dX3_either_28 : decode cX3_either 28 = .ok (.iload_n 2, 1) := by decide +kernel
theorem dX3_either_29 : decode cX3_either 29 = .ok (.iload_n 1, 1) := by decide +kernel
theorem dX3_either_30 : decode cX3_either 30 = .ok (.aload_n 0, 1) := by decide +kernel
theorem dX3_either_31 : decode cX3_either 31 = .ok (.invokevirtual 178, 3) := by decide +kernel
theorem dX3_either_34 : decode cX3_either 34 = .ok (.invokevirtual 181, 3) := by decide +kernel
theorem dX3_either_37 : decode cX3_either 37 = .ok (.istore_n 1, 1) := by decide +kernel
theorem dX3_either_38 : decode cX3_either 38 = .ok (.goto (-33), 3) := by decide +kernel
theorem dX3_either_41 : decode cX3_either 41 = .ok (.iload_n 1, 1) := by decide +kernel
theorem dX3_either_42 : decode cX3_either 42 = .ok (.ireturn, 1) := by decide +kernel
/-! AlgebraHouse$Parser.either()I -/
def P_X3_either_5 (rec : Nat → List Int → MM → (Int → MM → Prop) → (MM → Prop) → Prop) (Q : Int → MM → Prop) (T : MM → Prop) : Nat → Int → MM → Prop
  | 0, _, _ => False
  | n + 1, x1, m => P_X3_isKey 4 m (fun r1 m1 => (RI r1) ∧ (if r1 = 0 then Q x1 m1 else P_X3_here m1 (fun r2 m2 => P_X3_go m2 (fun r3 m3 => rec 3 [] m3 (fun r4 m4 => (isTx (m3 365 1)) ∧ P_X2_add_2 (m3 365 1) 9 r2 x1 r4 m4 (fun r5 m5 => P_X3_either_5 rec Q T n r5 m5)) T) T)))
def W_X3_either (rec : Nat → List Int → MM → (Int → MM → Prop) → (MM → Prop) → Prop) (m : MM) (Q : Int → MM → Prop) (T : MM → Prop) : Prop := rec 3 [] m (fun r1 m1 => ∃ nn, P_X3_either_5 rec Q T nn r1 m1) T
theorem dX3_expression_0 : decode cX3_expression 0 = .ok (.aload_n 0, 1) := by decide +kernel
theorem dX3_expression_1 : decode cX3_expression 1 = .ok (.iconst 0, 1) := by decide +kernel
theorem dX3_expression_2 : decode cX3_expression 2 = .ok (.invokevirtual 59, 3) := by decide +kernel
theorem dX3_expression_5 : decode cX3_expression 5 = .ok (.ifCond .ne 8, 3) := by decide +kernel
theorem dX3_expression_8 : decode cX3_expression 8 = .ok (.aload_n 0, 1) := by decide +kernel
theorem dX3_expression_9 : decode cX3_expression 9 = .ok (.invokevirtual 169, 3) := by decide +kernel
theorem dX3_expression_12 : decode cX3_expression 12 = .ok (.ireturn, 1) := by decide +kernel
theorem dX3_expression_13 : decode cX3_expression 13 = .ok (.aload_n 0, 1) := by decide +kernel
theorem dX3_expression_14 : decode cX3_expression 14 = .ok (.getfield 78, 3) := by decide +kernel
theorem dX3_expression_17 : decode cX3_expression 17 = .ok (.bipush 8, 2) := by decide +kernel
theorem dX3_expression_19 : decode cX3_expression 19 = .ok (.aload_n 0, 1) := by decide +kernel
theorem dX3_expression_20 : decode cX3_expression 20 = .ok (.invokevirtual 41, 3) := by decide +kernel
theorem dX3_expression_23 : decode cX3_expression 23 = .ok (.invokevirtual 153, 3) := by decide +kernel
theorem dX3_expression_26 : decode cX3_expression 26 = .ok (.istore_n 1, 1) := by decide +kernel
theorem dX3_expression_27 : decode cX3_expression 27 = .ok (.aload_n 0, 1) := by decide +kernel
theorem dX3_expression_28 : decode cX3_expression 28 = .ok (.invokevirtual 68, 3) := by decide +kernel
theorem dX3_expression_31 : decode cX3_expression 31 = .ok (.aload_n 0, 1) := by decide +kernel
theorem dX3_expression_32 : decode cX3_expression 32 = .ok (.invokevirtual 114, 3) := by decide +kernel
theorem dX3_expression_35 : decode cX3_expression 35 = .ok (.istore_n 2, 1) := by decide +kernel
theorem dX3_expression_36 : decode cX3_expression 36 = .ok (.aload_n 0, 1) := by decide +kernel
theorem dX3_expression_37 : decode cX3_expression 37 = .ok (.iconst 1, 1) := by decide +kernel
theorem dX3_expression_38 : decode cX3_expression 38 = .ok (.invokevirtual 172, 3) := by decide +kernel
theorem dX3_expression_41 : decode cX3_expression 41 = .ok (.aload_n 0, 1) := by decide +kernel
theorem dX3_expression_42 : decode cX3_expression 42 = .ok (.invokevirtual 114, 3) := by decide +kernel
theorem dX3_expression_45 : decode cX3_expression 45 = .ok (.istore_n 3, 1) := by decide +kernel
theorem dX3_expression_46 : decode cX3_expression 46 = .ok (.aload_n 0, 1) := by decide +kernel
theorem dX3_expression_47 : decode cX3_expression 47 = .ok (.iconst 2, 1) := by decide +kernel
theorem dX3_expression_48 : decode cX3_expression 48 = .ok (.invokevirtual 172, 3) := by decide +kernel
theorem dX3_expression_51 : decode cX3_expression 51 = .ok (.aload_n 0, 1) := by decide +kernel
theorem dX3_expression_52 : decode cX3_expression 52 = .ok (.invokevirtual 114, 3) := by decide +kernel
theorem dX3_expression_55 : decode cX3_expression 55 = .ok (.istore 4, 2) := by decide +kernel
theorem dX3_expression_57 : decode cX3_expression 57 = .ok (.aload_n 0, 1) := by decide +kernel
theorem dX3_expression_58 : decode cX3_expression 58 = .ok (.dup, 1) := by decide +kernel
theorem dX3_expression_59 : decode cX3_expression 59 = .ok (.getfield 65, 3) := by decide +kernel
theorem dX3_expression_62 : decode cX3_expression 62 = .ok (.iconst 1, 1) := by decide +kernel
theorem dX3_expression_63 : decode cX3_expression 63 = .ok (.isub, 1) := by decide +kernel
theorem dX3_expression_64 : decode cX3_expression 64 = .ok (.putfield 65, 3) := by decide +kernel
theorem dX3_expression_67 : decode cX3_expression 67 = .ok (.aload_n 0, 1) := by decide +kernel
theorem dX3_expression_68 : decode cX3_expression 68 = .ok (.getfield 78, 3) := by decide +kernel
theorem dX3_expression_71 : decode cX3_expression 71 = .ok (.getfield 166, 3) := by decide +kernel
theorem dX3_expression_74 : decode cX3_expression 74 = .ok (.iload_n 1, 1) := by decide +kernel
theorem dX3_expression_75 : decode cX3_expression 75 = .ok (.iload_n 2, 1) := by decide +kernel
theorem dX3_expression_76 : decode cX3_expression 76 = .ok (.iastore, 1) := by decide +kernel
theorem dX3_expression_77 : decode cX3_expression 77 = .ok (.aload_n 0, 1) := by decide +kernel
theorem dX3_expression_78 : decode cX3_expression 78 = .ok (.getfield 78, 3) := by decide +kernel
theorem dX3_expression_81 : decode cX3_expression 81 = .ok (.getfield 175, 3) := by decide +kernel
theorem dX3_expression_84 : decode cX3_expression 84 = .ok (.iload_n 2, 1) := by decide +kernel
theorem dX3_expression_85 : decode cX3_expression 85 = .ok (.iload_n 3, 1) := by decide +kernel
theorem dX3_expression_86 : decode cX3_expression 86 = .ok (.iastore, 1) := by decide +kernel
theorem dX3_expression_87 : decode cX3_expression 87 = .ok (.aload_n 0, 1) := by decide +kernel
theorem dX3_expression_88 : decode cX3_expression 88 = .ok (.getfield 78, 3) := by decide +kernel
theorem dX3_expression_91 : decode cX3_expression 91 = .ok (.getfield 175, 3) := by decide +kernel
theorem dX3_expression_94 : decode cX3_expression 94 = .ok (.iload_n 3, 1) := by decide +kernel
theorem dX3_expression_95 : decode cX3_expression 95 = .ok (.iload 4, 2) := by decide +kernel
theorem dX3_expression_97 : decode cX3_expression 97 = .ok (.iastore, 1) := by decide +kernel
theorem dX3_expression_98 : decode cX3_expression 98 = .ok (.iload_n 1, 1) := by decide +kernel
theorem dX3_expression_99 : decode cX3_expression 99 = .ok (.ireturn, 1) := by decide +kernel
/-! AlgebraHouse$Parser.expression()I -/
def W_X3_expression (rec : Nat → List Int → MM → (Int → MM → Prop) → (MM → Prop) → Prop) (m : MM) (Q : Int → MM → Prop) (T : MM → Prop) : Prop := P_X3_isKey 0 m (fun r1 m1 => (RI r1) ∧ (if r1 = 0 then rec 4 [] m1 (fun r10 m14 => Q r10 m14) T else P_X3_here m1 (fun r2 m2 => (isTx (m1 365 1)) ∧ P_X2_add (m1 365 1) 8 r2 m2 (fun r3 m3 => P_X3_opens m3 (fun r4 m4 => rec 5 [] m4 (fun r5 m5 => P_X3_needKey 1 m5 (fun r6 m6 => rec 5 [] m6 (fun r7 m7 => P_X3_needKey 2 m7 (fun r8 m8 => rec 5 [] m8 (fun r9 m9 => ∀ m10 : MM, m10 = up m9 365 3 ((m9 365 3) - 1) → (isTx (m10 365 1)) ∧ (0 ≤ r3 ∧ r3 < 160) ∧ ∀ m11 : MM, m11 = up m10 ((m10 365 1) + 2) r3 r5 → (isTx (m11 365 1)) ∧ (0 ≤ r5 ∧ r5 < 160) ∧ ∀ m12 : MM, m12 = up m11 ((m11 365 1) + 3) r5 r7 → (isTx (m12 365 1)) ∧ (0 ≤ r7 ∧ r7 < 160) ∧ ∀ m13 : MM, m13 = up m12 ((m12 365 1) + 3) r7 r9 → Q r3 m13) T) T) T) T) T) T))))
theorem dX3_matrix_0 : decode cX3_matrix 0 = .ok (.aload_n 0, 1) := by decide +kernel
theorem dX3_matrix_1 : decode cX3_matrix 1 = .ok (.getfield 78, 3) := by decide +kernel
theorem dX3_matrix_4 : decode cX3_matrix 4 = .ok (.bipush 7, 2) := by decide +kernel
theorem dX3_matrix_6 : decode cX3_matrix 6 = .ok (.iload_n 1, 1) := by decide +kernel
theorem dX3_matrix_7 : decode cX3_matrix 7 = .ok (.invokevirtual 153, 3) := by decide +kernel
theorem dX3_matrix_10 : decode cX3_matrix 10 = .ok (.istore_n 2, 1) := by decide +kernel
theorem dX3_matrix_11 : decode cX3_matrix 11 = .ok (.aload_n 0, 1) := by decide +kernel
theorem dX3_matrix_12 : decode cX3_matrix 12 = .ok (.invokevirtual 68, 3) := by decide +kernel
theorem dX3_matrix_15 : decode cX3_matrix 15 = .ok (.iconst 0, 1) := by decide +kernel
theorem dX3_matrix_16 : decode cX3_matrix 16 = .ok (.istore_n 3, 1) := by decide +kernel
theorem dX3_matrix_17 : decode cX3_matrix 17 = .ok (.iconst (-1), 1) := by decide +kernel
theorem dX3_matrix_18 : decode cX3_matrix 18 = .ok (.istore 4, 2) := by decide +kernel
theorem dX3_matrix_20 : decode cX3_matrix 20 = .ok (.sipush 150, 3) := by decide +kernel
theorem dX3_matrix_23 : decode cX3_matrix 23 = .ok (.istore 5, 2) := by decide +kernel
theorem dX3_matrix_25 : decode cX3_matrix 25 = .ok (.iconst 0, 1) := by decide +kernel
theorem dX3_matrix_26 : decode cX3_matrix 26 = .ok (.istore 6, 2) := by decide +kernel
theorem dX3_matrix_28 : decode cX3_matrix 28 = .ok (.aload_n 0, 1) := by decide +kernel
theorem dX3_matrix_29 : decode cX3_matrix 29 = .ok (.bipush 91, 2) := by decide +kernel
theorem dX3_matrix_31 : decode cX3_matrix 31 = .ok (.invokevirtual 162, 3) := by decide +kernel
theorem dX3_matrix_34 : decode cX3_matrix 34 = .ok (.iconst 0, 1) := by decide +kernel
theorem dX3_matrix_35 : decode cX3_matrix 35 = .ok (.istore 7, 2) := by decide +kernel
theorem dX3_matrix_37 : decode cX3_matrix 37 = .ok (.aload_n 0, 1) := by decide +kernel
theorem dX3_matrix_38 : decode cX3_matrix 38 = .ok (.invokevirtual 114, 3) := by decide +kernel
theorem dX3_matrix_41 : decode cX3_matrix 41 = .ok (.istore 8, 2) := by decide +kernel
theorem dX3_matrix_43 : decode cX3_matrix 43 = .ok (.iload 4, 2) := by decide +kernel
theorem dX3_matrix_45 : decode cX3_matrix 45 = .ok (.iconst (-1), 1) := by decide +kernel
theorem dX3_matrix_46 : decode cX3_matrix 46 = .ok (.if_icmp .ne 17, 3) := by decide +kernel
theorem dX3_matrix_49 : decode cX3_matrix 49 = .ok (.aload_n 0, 1) := by decide +kernel
theorem dX3_matrix_50 : decode cX3_matrix 50 = .ok (.getfield 78, 3) := by decide +kernel
theorem dX3_matrix_53 : decode cX3_matrix 53 = .ok (.getfield 166, 3) := by decide +kernel
theorem dX3_matrix_56 : decode cX3_matrix 56 = .ok (.iload_n 2, 1) := by decide +kernel
theorem dX3_matrix_57 : decode cX3_matrix 57 = .ok (.iload 8, 2) := by decide +kernel
theorem dX3_matrix_59 : decode cX3_matrix 59 = .ok (.iastore, 1) := by decide +kernel
theorem dX3_matrix_60 : decode cX3_matrix 60 = .ok (.goto 15, 3) := by decide +kernel
theorem dX3_matrix_63 : decode cX3_matrix 63 = .ok (.aload_n 0, 1) := by decide +kernel
theorem dX3_matrix_64 : decode cX3_matrix 64 = .ok (.getfield 78, 3) := by decide +kernel
theorem dX3_matrix_67 : decode cX3_matrix 67 = .ok (.getfield 175, 3) := by decide +kernel
theorem dX3_matrix_70 : decode cX3_matrix 70 = .ok (.iload 4, 2) := by decide +kernel
theorem dX3_matrix_72 : decode cX3_matrix 72 = .ok (.iload 8, 2) := by decide +kernel
theorem dX3_matrix_74 : decode cX3_matrix 74 = .ok (.iastore, 1) := by decide +kernel
theorem dX3_matrix_75 : decode cX3_matrix 75 = .ok (.iload 8, 2) := by decide +kernel
theorem dX3_matrix_77 : decode cX3_matrix 77 = .ok (.istore 4, 2) := by decide +kernel
theorem dX3_matrix_79 : decode cX3_matrix 79 = .ok (.iinc 7 1, 3) := by decide +kernel
theorem dX3_matrix_82 : decode cX3_matrix 82 = .ok (.aload_n 0, 1) := by decide +kernel
theorem dX3_matrix_83 : decode cX3_matrix 83 = .ok (.bipush 44, 2) := by decide +kernel
theorem dX3_matrix_85 : decode cX3_matrix 85 = .ok (.invokevirtual 56, 3) := by decide +kernel
theorem dX3_matrix_88 : decode cX3_matrix 88 = .ok (.ifCond .ne (-51), 3) := by decide +kernel
theorem dX3_matrix_91 : decode cX3_matrix 91 = .ok (.aload_n 0, 1) := by decide +kernel
theorem dX3_matrix_92 : decode cX3_matrix 92 = .ok (.bipush 93, 2) := by decide +kernel
theorem dX3_matrix_94 : decode cX3_matrix 94 = .ok (.invokevirtual 138, 3) := by decide +kernel
theorem dX3_matrix_97 : decode cX3_matrix 97 = .ok (.iload 5, 2) := by decide +kernel
theorem dX3_matrix_99 : decode cX3_matrix 99 = .ok (.iload 7, 2) := by decide +kernel
theorem dX3_matrix_101 : decode cX3_matrix 101 = .ok (.invokestatic 216, 3) := by decide +kernel
theorem dX3_matrix_104 : decode cX3_matrix 104 = .ok (.istore 5, 2) := by decide +kernel
theorem dX3_matrix_106 : decode cX3_matrix 106 = .ok (.iload 6, 2) := by decide +kernel
theorem dX3_matrix_108 : decode cX3_matrix 108 = .ok (.iload 7, 2) := by decide +kernel
theorem dX3_matrix_110 : decode cX3_matrix 110 = .ok (.invokestatic 221, 3) := by decide +kernel
theorem dX3_matrix_113 : decode cX3_matrix 113 = .ok (.istore 6, 2) := by decide +kernel
theorem dX3_matrix_115 : decode cX3_matrix 115 = .ok (.iinc 3 1, 3) := by decide +kernel
theorem dX3_matrix_118 : decode cX3_matrix 118 = .ok (.aload_n 0, 1) := by decide +kernel
theorem dX3_matrix_119 : decode cX3_matrix 119 = .ok (.bipush 44, 2) := by decide +kernel
theorem dX3_matrix_121 : decode cX3_matrix 121 = .ok (.invokevirtual 56, 3) := by decide +kernel
theorem dX3_matrix_124 : decode cX3_matrix 124 = .ok (.ifCond .ne (-96), 3) := by decide +kernel
theorem dX3_matrix_127 : decode cX3_matrix 127 = .ok (.aload_n 0, 1) := by decide +kernel
theorem dX3_matrix_128 : decode cX3_matrix 128 = .ok (.bipush 93, 2) := by decide +kernel
theorem dX3_matrix_130 : decode cX3_matrix 130 = .ok (.invokevirtual 138, 3) := by decide +kernel
theorem dX3_matrix_133 : decode cX3_matrix 133 = .ok (.aload_n 0, 1) := by decide +kernel
theorem dX3_matrix_134 : decode cX3_matrix 134 = .ok (.getfield 78, 3) := by decide +kernel
theorem dX3_matrix_137 : decode cX3_matrix 137 = .ok (.getfield 157, 3) := by decide +kernel
theorem dX3_matrix_140 : decode cX3_matrix 140 = .ok (.iload_n 2, 1) := by decide +kernel
theorem dX3_matrix_141 : decode cX3_matrix 141 = .ok (.iload 5, 2) := by decide +kernel
theorem dX3_matrix_143 : decode cX3_matrix 143 = .ok (.iload_n 3, 1) := by decide +kernel
theorem dX3_matrix_144 : decode cX3_matrix 144 = .ok (.if_icmp .ne 18, 3) := by decide +kernel
theorem dX3_matrix_147 : decode cX3_matrix 147 = .ok (.iload 6, 2) := by decide +kernel
theorem dX3_matrix_149 : decode cX3_matrix 149 = .ok (.iload_n 3, 1) := by decide +kernel
theorem dX3_matrix_150 : decode cX3_matrix 150 = .ok (.if_icmp .ne 12, 3) := by decide +kernel
theorem dX3_matrix_153 : decode cX3_matrix 153 = .ok (.iload_n 3, 1) := by decide +kernel
theorem dX3_matrix_154 : decode cX3_matrix 154 = .ok (.iconst 3, 1) := by decide +kernel
theorem dX3_matrix_155 : decode cX3_matrix 155 = .ok (.if_icmp .gt 7, 3) := by decide +kernel
theorem dX3_matrix_158 : decode cX3_matrix 158 = .ok (.iload_n 3, 1) := by decide +kernel
theorem dX3_matrix_159 : decode cX3_matrix 159 = .ok (.goto 4, 3) := by decide +kernel
theorem dX3_matrix_162 : decode cX3_matrix 162 = .ok (.iconst 0, 1) := by decide +kernel
theorem dX3_matrix_163 : decode cX3_matrix 163 = .ok (.iastore, 1) := by decide +kernel
theorem dX3_matrix_164 : decode cX3_matrix 164 = .ok (.iload_n 2, 1) := by decide +kernel
theorem dX3_matrix_165 : decode cX3_matrix 165 = .ok (.ireturn, 1) := by decide +kernel
/-! AlgebraHouse$Parser.matrix(I)I -/
def P_X3_matrix_127 (rec : Nat → List Int → MM → (Int → MM → Prop) → (MM → Prop) → Prop) (Q : Int → MM → Prop) (T : MM → Prop) (x2 : Int) (x3 : Int) (x5 : Int) (x6 : Int) (m : MM) : Prop := P_X3_closes 93 m (fun r1 m1 => (isTx (m1 365 1)) ∧ (RI x5) ∧ (RI x3) ∧ (if x5 = x3 then (RI x6) ∧ (if x6 = x3 then (if 3 < x3 then (0 ≤ x2 ∧ x2 < 160) ∧ ∀ m4 : MM, m4 = up m1 ((m1 365 1) + 4) x2 0 → Q x2 m4 else (0 ≤ x2 ∧ x2 < 160) ∧ ∀ m5 : MM, m5 = up m1 ((m1 365 1) + 4) x2 x3 → Q x2 m5) else (0 ≤ x2 ∧ x2 < 160) ∧ ∀ m3 : MM, m3 = up m1 ((m1 365 1) + 4) x2 0 → Q x2 m3) else (0 ≤ x2 ∧ x2 < 160) ∧ ∀ m2 : MM, m2 = up m1 ((m1 365 1) + 4) x2 0 → Q x2 m2)) T
def P_X3_matrix_91 (rec : Nat → List Int → MM → (Int → MM → Prop) → (MM → Prop) → Prop) (Q : Int → MM → Prop) (T : MM → Prop) (K28 : Int → Int → Int → Int → Int → MM → Prop) (x2 : Int) (x3 : Int) (x4 : Int) (x5 : Int) (x6 : Int) (x7 : Int) (m : MM) : Prop := P_X3_closes 93 m (fun r1 m1 => P_J4_min x5 x7 m1 (fun r2 m2 => P_J4_max x6 x7 m2 (fun r3 m3 => P_X3_takes 44 m3 (fun r4 m4 => (RI r4) ∧ (if r4 = 0 then P_X3_matrix_127 rec Q T x2 (x3 + 1) r2 r3 m4 else K28 x2 (x3 + 1) x4 r2 r3 m4)) T))) T
def P_X3_matrix_75 (rec : Nat → List Int → MM → (Int → MM → Prop) → (MM → Prop) → Prop) (Q : Int → MM → Prop) (T : MM → Prop) (K28 : Int → Int → Int → Int → Int → MM → Prop) (K37 : Int → Int → Int → Int → Int → Int → MM → Prop) (x2 : Int) (x3 : Int) (x5 : Int) (x6 : Int) (x7 : Int) (x8 : Int) (m : MM) : Prop := P_X3_takes 44 m (fun r1 m1 => (RI r1) ∧ (if r1 = 0 then P_X3_matrix_91 rec Q T K28 x2 x3 x8 x5 x6 (x7 + 1) m1 else K37 x2 x3 x8 x5 x6 (x7 + 1) m1)) T
def P_X3_matrix_37 (rec : Nat → List Int → MM → (Int → MM → Prop) → (MM → Prop) → Prop) (Q : Int → MM → Prop) (T : MM → Prop) (K28 : Int → Int → Int → Int → Int → MM → Prop) : Nat → Int → Int → Int → Int → Int → Int → MM → Prop
  | 0, _, _, _, _, _, _, _ => False
  | n + 1, x2, x3, x4, x5, x6, x7, m => rec 5 [] m (fun r1 m1 => (RI x4) ∧ (if x4 = (-1) then (isTx (m1 365 1)) ∧ (0 ≤ x2 ∧ x2 < 160) ∧ ∀ m3 : MM, m3 = up m1 ((m1 365 1) + 2) x2 r1 → P_X3_matrix_75 rec Q T K28 (fun z0 z1 z2 z3 z4 z5 z6 => P_X3_matrix_37 rec Q T K28 n z0 z1 z2 z3 z4 z5 z6) x2 x3 x5 x6 x7 r1 m3 else (isTx (m1 365 1)) ∧ (0 ≤ x4 ∧ x4 < 160) ∧ ∀ m2 : MM, m2 = up m1 ((m1 365 1) + 3) x4 r1 → P_X3_matrix_75 rec Q T K28 (fun z0 z1 z2 z3 z4 z5 z6 => P_X3_matrix_37 rec Q T K28 n z0 z1 z2 z3 z4 z5 z6) x2 x3 x5 x6 x7 r1 m2)) T
def P_X3_matrix_28 (rec : Nat → List Int → MM → (Int → MM → Prop) → (MM → Prop) → Prop) (Q : Int → MM → Prop) (T : MM → Prop) : Nat → Int → Int → Int → Int → Int → MM → Prop
  | 0, _, _, _, _, _, _ => False
  | n + 1, x2, x3, x4, x5, x6, m => P_X3_needOpen 91 m (fun r1 m1 => ∃ nn, P_X3_matrix_37 rec Q T (fun z0 z1 z2 z3 z4 z5 => P_X3_matrix_28 rec Q T n z0 z1 z2 z3 z4 z5) nn x2 x3 x4 x5 x6 0 m1) T
def W_X3_matrix (rec : Nat → List Int → MM → (Int → MM → Prop) → (MM → Prop) → Prop) (x1 : Int) (m : MM) (Q : Int → MM → Prop) (T : MM → Prop) : Prop := (isTx (m 365 1)) ∧ P_X2_add (m 365 1) 7 x1 m (fun r1 m1 => P_X3_opens m1 (fun r2 m2 => ∃ nn, P_X3_matrix_28 rec Q T nn r1 0 (-1) 150 0 m2) T)
theorem dX3_minus_0 : decode cX3_minus 0 = .ok (.aload_n 0, 1) := by decide +kernel
theorem dX3_minus_1 : decode cX3_minus 1 = .ok (.bipush 45, 2) := by decide +kernel
theorem dX3_minus_3 : decode cX3_minus 3 = .ok (.invokevirtual 49, 3) := by decide +kernel
theorem dX3_minus_6 : decode cX3_minus 6 = .ok (.ifCond .ne 8, 3) := by decide +kernel
theorem dX3_minus_9 : decode cX3_minus 9 = .ok (.aload_n 0, 1) := by decide +kernel
theorem dX3_minus_10 : decode cX3_minus 10 = .ok (.invokevirtual 199, 3) := by decide +kernel
theorem dX3_minus_13 : decode cX3_minus 13 = .ok (.ireturn, 1) := by decide +kernel
theorem dX3_minus_14 : decode cX3_minus 14 = .ok (.aload_n 0, 1) := by decide +kernel
theorem dX3_minus_15 : decode cX3_minus 15 = .ok (.getfield 78, 3) := by decide +kernel
theorem dX3_minus_18 : decode cX3_minus 18 = .ok (.bipush 22, 2) := by decide +kernel
theorem dX3_minus_20 : decode cX3_minus 20 = .ok (.aload_n 0, 1) := by decide +kernel
theorem dX3_minus_21 : decode cX3_minus 21 = .ok (.invokevirtual 41, 3) := by decide +kernel
theorem dX3_minus_24 : decode cX3_minus 24 = .ok (.invokevirtual 153, 3) := by decide +kernel
theorem dX3_minus_27 : decode cX3_minus 27 = .ok (.istore_n 1, 1) := by decide +kernel
theorem dX3_minus_28 : decode cX3_minus 28 = .ok (.aload_n 0, 1) := by decide +kernel
theorem dX3_minus_29 : decode cX3_minus 29 = .ok (.invokevirtual 68, 3) := by decide +kernel
theorem dX3_minus_32 : decode cX3_minus 32 = .ok (.aload_n 0, 1) := by decide +kernel
theorem dX3_minus_33 : decode cX3_minus 33 = .ok (.getfield 78, 3) := by decide +kernel
theorem dX3_minus_36 : decode cX3_minus 36 = .ok (.getfield 166, 3) := by decide +kernel
theorem dX3_minus_39 : decode cX3_minus 39 = .ok (.iload_n 1, 1) := by decide +kernel
theorem dX3_minus_40 : decode cX3_minus 40 = .ok (.aload_n 0, 1) := by decide +kernel
theorem dX3_minus_41 : decode cX3_minus 41 = .ok (.invokevirtual 196, 3) := by decide +kernel
theorem dX3_minus_44 : decode cX3_minus 44 = .ok (.iastore, 1) := by decide +kernel
theorem dX3_minus_45 : decode cX3_minus 45 = .ok (.aload_n 0, 1) := by decide +kernel
theorem dX3_minus_46 : decode cX3_minus 46 = .ok (.dup, 1) := by decide +kernel
theorem dX3_minus_47 : decode cX3_minus 47 = .ok (.getfield 65, 3) := by decide +kernel
theorem dX3_minus_50 : decode cX3_minus 50 = .ok (.iconst 1, 1) := by decide +kernel
theorem dX3_minus_51 : decode cX3_minus 51 = .ok (.isub, 1) := by decide +kernel
theorem dX3_minus_52 : decode cX3_minus 52 = .ok (.putfield 65, 3) := by decide +kernel
theorem dX3_minus_55 : decode cX3_minus 55 = .ok (.iload_n 1, 1) := by decide +kernel
theorem dX3_minus_56 : decode cX3_minus 56 = .ok (.ireturn, 1) := by decide +kernel
/-! AlgebraHouse$Parser.minus()I -/
def W_X3_minus (rec : Nat → List Int → MM → (Int → MM → Prop) → (MM → Prop) → Prop) (m : MM) (Q : Int → MM → Prop) (T : MM → Prop) : Prop := P_X3_isSign 45 m (fun r1 m1 => (RI r1) ∧ (if r1 = 0 then rec 2 [] m1 (fun r6 m8 => Q r6 m8) T else P_X3_here m1 (fun r2 m2 => (isTx (m1 365 1)) ∧ P_X2_add (m1 365 1) 22 r2 m2 (fun r3 m3 => P_X3_opens m3 (fun r4 m4 => (isTx (m4 365 1)) ∧ rec 7 [] m4 (fun r5 m5 => (0 ≤ r3 ∧ r3 < 160) ∧ ∀ m6 : MM, m6 = up m5 ((m4 365 1) + 2) r3 r5 → ∀ m7 : MM, m7 = up m6 365 3 ((m6 365 3) - 1) → Q r3 m7) T) T))))
theorem dX3_negated_0 : decode cX3_negated 0 = .ok (.aload_n 0, 1) := by decide +kernel
theorem dX3_negated_1 : decode cX3_negated 1 = .ok (.iconst 5, 1) := by decide +kernel
theorem dX3_negated_2 : decode cX3_negated 2 = .ok (.invokevirtual 59, 3) := by decide +kernel
theorem dX3_negated_5 : decode cX3_negated 5 = .ok (.ifCond .ne 8, 3) := by decide +kernel
theorem dX3_negated_8 : decode cX3_negated 8 = .ok (.aload_n 0, 1) := by decide +kernel
theorem dX3_negated_9 : decode cX3_negated 9 = .ok (.invokevirtual 187, 3) := by decide +kernel
theorem dX3_negated_12 : decode cX3_negated 12 = .ok (.ireturn, 1) := by decide +kernel
theorem dX3_negated_13 : decode cX3_negated 13 = .ok (.aload_n 0, 1) := by decide +kernel
theorem dX3_negated_14 : decode cX3_negated 14 = .ok (.getfield 78, 3) := by decide +kernel
theorem dX3_negated_17 : decode cX3_negated 17 = .ok (.bipush 11, 2) := by decide +kernel
theorem dX3_negated_19 : decode cX3_negated 19 = .ok (.aload_n 0, 1) := by decide +kernel
theorem dX3_negated_20 : decode cX3_negated 20 = .ok (.invokevirtual 41, 3) := by decide +kernel
theorem dX3_negated_23 : decode cX3_negated 23 = .ok (.invokevirtual 153, 3) := by decide +kernel
theorem dX3_negated_26 : decode cX3_negated 26 = .ok (.istore_n 1, 1) := by decide +kernel
theorem dX3_negated_27 : decode cX3_negated 27 = .ok (.aload_n 0, 1) := by decide +kernel
theorem dX3_negated_28 : decode cX3_negated 28 = .ok (.invokevirtual 68, 3) := by decide +kernel
theorem dX3_negated_31 : decode cX3_negated 31 = .ok (.aload_n 0, 1) := by decide +kernel
theorem dX3_negated_32 : decode cX3_negated 32 = .ok (.getfield 78, 3) := by decide +kernel
theorem dX3_negated_35 : decode cX3_negated 35 = .ok (.getfield 166, 3) := by decide +kernel
theorem dX3_negated_38 : decode cX3_negated 38 = .ok (.iload_n 1, 1) := by decide +kernel
theorem dX3_negated_39 : decode cX3_negated 39 = .ok (.aload_n 0, 1) := by decide +kernel
theorem dX3_negated_40 : decode cX3_negated 40 = .ok (.invokevirtual 184, 3) := by decide +kernel
theorem dX3_negated_43 : decode cX3_negated 43 = .ok (.iastore, 1) := by decide +kernel
theorem dX3_negated_44 : decode cX3_negated 44 = .ok (.aload_n 0, 1) := by decide +kernel
theorem dX3_negated_45 : decode cX3_negated 45 = .ok (.dup, 1) := by decide +kernel
theorem dX3_negated_46 : decode cX3_negated 46 = .ok (.getfield 65, 3) := by decide +kernel
theorem dX3_negated_49 : decode cX3_negated 49 = .ok (.iconst 1, 1) := by decide +kernel
theorem dX3_negated_50 : decode cX3_negated 50 = .ok (.isub, 1) := by decide +kernel
theorem dX3_negated_51 : decode cX3_negated 51 = .ok (.putfield 65, 3) := by decide +kernel
theorem dX3_negated_54 : decode cX3_negated 54 = .ok (.iload_n 1, 1) := by decide +kernel
theorem dX3_negated_55 : decode cX3_negated 55 = .ok (.ireturn, 1) := by decide +kernel
/-! AlgebraHouse$Parser.negated()I -/
def W_X3_negated (rec : Nat → List Int → MM → (Int → MM → Prop) → (MM → Prop) → Prop) (m : MM) (Q : Int → MM → Prop) (T : MM → Prop) : Prop := P_X3_isKey 5 m (fun r1 m1 => (RI r1) ∧ (if r1 = 0 then rec 10 [] m1 (fun r6 m8 => Q r6 m8) T else P_X3_here m1 (fun r2 m2 => (isTx (m1 365 1)) ∧ P_X2_add (m1 365 1) 11 r2 m2 (fun r3 m3 => P_X3_opens m3 (fun r4 m4 => (isTx (m4 365 1)) ∧ rec 8 [] m4 (fun r5 m5 => (0 ≤ r3 ∧ r3 < 160) ∧ ∀ m6 : MM, m6 = up m5 ((m4 365 1) + 2) r3 r5 → ∀ m7 : MM, m7 = up m6 365 3 ((m6 365 3) - 1) → Q r3 m7) T) T))))
theorem dX3_product_0 : decode cX3_product 0 = .ok (.aload_n 0, 1) := by decide +kernel
theorem dX3_product_1 : decode cX3_product 1 = .ok (.invokevirtual 196, 3) := by decide +kernel
theorem dX3_product_4 : decode cX3_product 4 = .ok (.istore_n 1, 1) := by decide +kernel
theorem dX3_product_5 : decode cX3_product 5 = .ok (.aload_n 0, 1) := by decide +kernel
theorem dX3_product_6 : decode cX3_product 6 = .ok (.bipush 42, 2) := by decide +kernel
theorem dX3_product_8 : decode cX3_product 8 = .ok (.invokevirtual 49, 3) := by decide +kernel
theorem dX3_product_11 : decode cX3_product 11 = .ok (.ifCond .ne 30, 3) := by decide +kernel
theorem dX3_product_14 : decode cX3_product 14 = .ok (.aload_n 0, 1) := by decide +kernel
theorem dX3_product_15 : decode cX3_product 15 = .ok (.bipush 47, 2) := by decide +kernel
theorem dX3_product_17 : decode cX3_product 17 = .ok (.invokevirtual 49, 3) := by decide +kernel
theorem dX3_product_20 : decode cX3_product 20 = .ok (.ifCond .ne 21, 3) := by decide +kernel
theorem dX3_product_23 : decode cX3_product 23 = .ok (.aload_n 0, 1) := by decide +kernel
theorem dX3_product_24 : decode cX3_product 24 = .ok (.bipush 6, 2) := by decide +kernel
theorem dX3_product_26 : decode cX3_product 26 = .ok (.invokevirtual 59, 3) := by decide +kernel
theorem dX3_product_29 : decode cX3_product 29 = .ok (.ifCond .ne 12, 3) := by decide +kernel
theorem dX3_product_32 : decode cX3_product 32 = .ok (.aload_n 0, 1) := by decide +kernel
theorem dX3_product_33 : decode cX3_product 33 = .ok (.bipush 7, 2) := by decide +kernel
theorem dX3_product_35 : decode cX3_product 35 = .ok (.invokevirtual 59, 3) := by decide +kernel
theorem dX3_product_38 : decode cX3_product 38 = .ok (.ifCond .eq 75, 3) := by decide +kernel
theorem dX3_product_41 : decode cX3_product 41 = .ok (.aload_n 0, 1) := by decide +kernel
theorem dX3_product_42 : decode cX3_product 42 = .ok (.invokevirtual 41, 3) := by decide +kernel
theorem dX3_product_45 : decode cX3_product 45 = .ok (.istore_n 2, 1) := by decide +kernel
theorem dX3_product_46 : decode cX3_product 46 = .ok (.aload_n 0, 1) := by decide +kernel
theorem dX3_product_47 : decode cX3_product 47 = .ok (.bipush 42, 2) := by decide +kernel
theorem dX3_product_49 : decode cX3_product 49 = .ok (.invokevirtual 49, 3) := by decide +kernel
theorem dX3_product_52 : decode cX3_product 52 = .ok (.ifCond .eq 8, 3) := by decide +kernel
theorem dX3_product_55 : decode cX3_product 55 = .ok (.bipush 18, 2) := by decide +kernel
theorem dX3_product_57 : decode cX3_product 57 = .ok (.goto 33, 3) := by decide +kernel
theorem dX3_product_60 : decode cX3_product 60 = .ok (.aload_n 0, 1) := by decide +kernel
theorem dX3_product_61 : decode cX3_product 61 = .ok (.bipush 47, 2) := by decide +kernel
theorem dX3_product_63 : decode cX3_product 63 = .ok (.invokevirtual 49, 3) := by decide +kernel
theorem dX3_product_66 : decode cX3_product 66 = .ok (.ifCond .eq 8, 3) := by decide +kernel
theorem dX3_product_69 : decode cX3_product 69 = .ok (.bipush 19, 2) := by decide +kernel
theorem dX3_product_71 : decode cX3_product 71 = .ok (.goto 19, 3) := by decide +kernel
theorem dX3_product_74 : decode cX3_product 74 = .ok (.aload_n 0, 1) := by decide +kernel
theorem dX3_product_75 : decode cX3_product 75 = .ok (.bipush 6, 2) := by decide +kernel
theorem dX3_product_77 : decode cX3_product 77 = .ok (.invokevirtual 59, 3) := by decide +kernel
theorem dX3_product_80 : decode cX3_product 80 = .ok (.ifCond .eq 8, 3) := by decide +kernel
theorem dX3_product_83 : decode cX3_product 83 = .ok (.bipush 20, 2) := by decide +kernel
theorem dX3_product_85 : decode cX3_product 85 = .ok (.goto 5, 3) := by decide +kernel
theorem dX3_product_88 : decode cX3_product 88 = .ok (.bipush 21, 2) := by decide +kernel
theorem dX3_product_90 : decode cX3_product 90 = .ok (.istore_n 3, 1) := by decide +kernel
theorem dX3_product_91 : decode cX3_product 91 = .ok (.aload_n 0, 1) := by decide +kernel
theorem dX3_product_92 : decode cX3_product 92 = .ok (.invokevirtual 53, 3) := by decide +kernel
theorem dX3_product_95 : decode cX3_product 95 = .ok (.aload_n 0, 1) := by decide +kernel
theorem dX3_product_96 : decode cX3_product 96 = .ok (.getfield 78, 3) := by decide +kernel
theorem dX3_product_99 : decode cX3_product 99 = .ok (.iload_n 3, 1) := by decide +kernel
theorem dX3_product_100 : decode cX3_product 100 = .ok (.iload_n 2, 1) := by decide +kernel
theorem dX3_product_101 : decode cX3_product 101 = .ok (.iload_n 1, 1) := by decide +kernel
theorem dX3_product_102 : decode cX3_product 102 = .ok (.aload_n 0, 1) := by decide +kernel
theorem dX3_product_103 : decode cX3_product 103 = .ok (.invokevirtual 196, 3) := by decide +kernel
theorem dX3_product_106 : decode cX3_product 106 = .ok (.invokevirtual 181, 3) := by decide +kernel
theorem dX3_product_109 : decode cX3_product 109 = .ok (.istore_n 1, 1) := by decide +kernel
theorem dX3_product_110 : decode cX3_product 110 = .ok (.goto (-105), 3) := by decide +kernel
theorem dX3_product_113 : decode cX3_product 113 = .ok (.iload_n 1, 1) := by decide +kernel
theorem dX3_product_114 : decode cX3_product 114 = .ok (.ireturn, 1) := by decide +kernel
/-! AlgebraHouse$Parser.product()I -/
def P_X3_product_90 (rec : Nat → List Int → MM → (Int → MM → Prop) → (MM → Prop) → Prop) (Q : Int → MM → Prop) (T : MM → Prop) (K5 : Int → MM → Prop) (x1 : Int) (x2 : Int) (s0 : Int) (m : MM) : Prop := P_X3_go m (fun r1 m1 => rec 7 [] m1 (fun r2 m2 => (isTx (m1 365 1)) ∧ P_X2_add_2 (m1 365 1) s0 x2 x1 r2 m2 (fun r3 m3 => K5 r3 m3)) T) T
def P_X3_product_41 (rec : Nat → List Int → MM → (Int → MM → Prop) → (MM → Prop) → Prop) (Q : Int → MM → Prop) (T : MM → Prop) (K5 : Int → MM → Prop) (x1 : Int) (m : MM) : Prop := P_X3_here m (fun r1 m1 => P_X3_isSign 42 m1 (fun r2 m2 => (RI r2) ∧ (if r2 = 0 then P_X3_isSign 47 m2 (fun r3 m3 => (RI r3) ∧ (if r3 = 0 then P_X3_isKey 6 m3 (fun r4 m4 => (RI r4) ∧ (if r4 = 0 then P_X3_product_90 rec Q T K5 x1 r1 21 m4 else P_X3_product_90 rec Q T K5 x1 r1 20 m4)) else P_X3_product_90 rec Q T K5 x1 r1 19 m3)) else P_X3_product_90 rec Q T K5 x1 r1 18 m2)))
def P_X3_product_5 (rec : Nat → List Int → MM → (Int → MM → Prop) → (MM → Prop) → Prop) (Q : Int → MM → Prop) (T : MM → Prop) : Nat → Int → MM → Prop
  | 0, _, _ => False
  | n + 1, x1, m => P_X3_isSign 42 m (fun r1 m1 => (RI r1) ∧ (if r1 = 0 then P_X3_isSign 47 m1 (fun r2 m2 => (RI r2) ∧ (if r2 = 0 then P_X3_isKey 6 m2 (fun r3 m3 => (RI r3) ∧ (if r3 = 0 then P_X3_isKey 7 m3 (fun r4 m4 => (RI r4) ∧ (if r4 = 0 then Q x1 m4 else P_X3_product_41 rec Q T (fun z0 z1 => P_X3_product_5 rec Q T n z0 z1) x1 m4)) else P_X3_product_41 rec Q T (fun z0 z1 => P_X3_product_5 rec Q T n z0 z1) x1 m3)) else P_X3_product_41 rec Q T (fun z0 z1 => P_X3_product_5 rec Q T n z0 z1) x1 m2)) else P_X3_product_41 rec Q T (fun z0 z1 => P_X3_product_5 rec Q T n z0 z1) x1 m1))
def W_X3_product (rec : Nat → List Int → MM → (Int → MM → Prop) → (MM → Prop) → Prop) (m : MM) (Q : Int → MM → Prop) (T : MM → Prop) : Prop := rec 7 [] m (fun r1 m1 => ∃ nn, P_X3_product_5 rec Q T nn r1 m1) T
theorem dX3_relation_0 : decode cX3_relation 0 = .ok (.aload_n 0, 1) := by decide +kernel
theorem dX3_relation_1 : decode cX3_relation 1 = .ok (.invokevirtual 190, 3) := by decide +kernel
theorem dX3_relation_4 : decode cX3_relation 4 = .ok (.istore_n 1, 1) := by decide +kernel
theorem dX3_relation_5 : decode cX3_relation 5 = .ok (.aload_n 0, 1) := by decide +kernel
theorem dX3_relation_6 : decode cX3_relation 6 = .ok (.bipush 61, 2) := by decide +kernel
theorem dX3_relation_8 : decode cX3_relation 8 = .ok (.invokevirtual 49, 3) := by decide +kernel
theorem dX3_relation_11 : decode cX3_relation 11 = .ok (.ifCond .eq 8, 3) := by decide +kernel
theorem dX3_relation_14 : decode cX3_relation 14 = .ok (.bipush 12, 2) := by decide +kernel
theorem dX3_relation_16 : decode cX3_relation 16 = .ok (.goto 47, 3) := by decide +kernel
theorem dX3_relation_19 : decode cX3_relation 19 = .ok (.aload_n 0, 1) := by decide +kernel
theorem dX3_relation_20 : decode cX3_relation 20 = .ok (.bipush 35, 2) := by decide +kernel
theorem dX3_relation_22 : decode cX3_relation 22 = .ok (.invokevirtual 49, 3) := by decide +kernel
theorem dX3_relation_25 : decode cX3_relation 25 = .ok (.ifCond .eq 8, 3) := by decide +kernel
theorem dX3_relation_28 : decode cX3_relation 28 = .ok (.bipush 13, 2) := by decide +kernel
theorem dX3_relation_30 : decode cX3_relation 30 = .ok (.goto 33, 3) := by decide +kernel
theorem dX3_relation_33 : decode cX3_relation 33 = .ok (.aload_n 0, 1) := by decide +kernel
theorem dX3_relation_34 : decode cX3_relation 34 = .ok (.bipush 60, 2) := by decide +kernel
theorem dX3_relation_36 : decode cX3_relation 36 = .ok (.invokevirtual 49, 3) := by decide +kernel
theorem dX3_relation_39 : decode cX3_relation 39 = .ok (.ifCond .eq 8, 3) := by decide +kernel
theorem dX3_relation_42 : decode cX3_relation 42 = .ok (.bipush 14, 2) := by decide +kernel
theorem dX3_relation_44 : decode cX3_relation 44 = .ok (.goto 19, 3) := by decide +kernel
theorem dX3_relation_47 : decode cX3_relation 47 = .ok (.aload_n 0, 1) := by decide +kernel
theorem dX3_relation_48 : decode cX3_relation 48 = .ok (.sipush 131, 3) := by decide +kernel
theorem dX3_relation_51 : decode cX3_relation 51 = .ok (.invokevirtual 49, 3) := by decide +kernel
theorem dX3_relation_54 : decode cX3_relation 54 = .ok (.ifCond .eq 8, 3) := by decide +kernel
theorem dX3_relation_57 : decode cX3_relation 57 = .ok (.bipush 15, 2) := by decide +kernel
theorem dX3_relation_59 : decode cX3_relation 59 = .ok (.goto 4, 3) := by decide +kernel
theorem dX3_relation_62 : decode cX3_relation 62 = .ok (.iconst (-1), 1) := by decide +kernel
theorem dX3_relation_63 : decode cX3_relation 63 = .ok (.istore_n 2, 1) := by decide +kernel
theorem dX3_relation_64 : decode cX3_relation 64 = .ok (.iload_n 2, 1) := by decide +kernel
theorem dX3_relation_65 : decode cX3_relation 65 = .ok (.iconst (-1), 1) := by decide +kernel
theorem dX3_relation_66 : decode cX3_relation 66 = .ok (.if_icmp .ne 5, 3) := by decide +kernel
theorem dX3_relation_69 : decode cX3_relation 69 = .ok (.iload_n 1, 1) := by decide +kernel
theorem dX3_relation_70 : decode cX3_relation 70 = .ok (.ireturn, 1) := by decide +kernel
theorem dX3_relation_71 : decode cX3_relation 71 = .ok (.aload_n 0, 1) := by decide +kernel
theorem dX3_relation_72 : decode cX3_relation 72 = .ok (.invokevirtual 41, 3) := by decide +kernel
theorem dX3_relation_75 : decode cX3_relation 75 = .ok (.istore_n 3, 1) := by decide +kernel
theorem dX3_relation_76 : decode cX3_relation 76 = .ok (.aload_n 0, 1) := by decide +kernel
theorem dX3_relation_77 : decode cX3_relation 77 = .ok (.invokevirtual 53, 3) := by decide +kernel
theorem dX3_relation_80 : decode cX3_relation 80 = .ok (.aload_n 0, 1) := by decide +kernel
theorem dX3_relation_81 : decode cX3_relation 81 = .ok (.getfield 78, 3) := by decide +kernel
theorem dX3_relation_84 : decode cX3_relation 84 = .ok (.iload_n 2, 1) := by decide +kernel
theorem dX3_relation_85 : decode cX3_relation 85 = .ok (.iload_n 3, 1) := by decide +kernel
theorem dX3_relation_86 : decode cX3_relation 86 = .ok (.iload_n 1, 1) := by decide +kernel
theorem dX3_relation_87 : decode cX3_relation 87 = .ok (.aload_n 0, 1) := by decide +kernel
theorem dX3_relation_88 : decode cX3_relation 88 = .ok (.invokevirtual 190, 3) := by decide +kernel
theorem dX3_relation_91 : decode cX3_relation 91 = .ok (.invokevirtual 181, 3) := by decide +kernel
theorem dX3_relation_94 : decode cX3_relation 94 = .ok (.ireturn, 1) := by decide +kernel
/-! AlgebraHouse$Parser.relation()I -/
def P_X3_relation_63 (rec : Nat → List Int → MM → (Int → MM → Prop) → (MM → Prop) → Prop) (Q : Int → MM → Prop) (T : MM → Prop) (x1 : Int) (s0 : Int) (m : MM) : Prop := (RI s0) ∧ (if s0 = (-1) then Q x1 m else P_X3_here m (fun r1 m1 => P_X3_go m1 (fun r2 m2 => rec 12 [] m2 (fun r3 m3 => (isTx (m2 365 1)) ∧ P_X2_add_2 (m2 365 1) s0 r1 x1 r3 m3 (fun r4 m4 => Q r4 m4)) T) T))
def W_X3_relation (rec : Nat → List Int → MM → (Int → MM → Prop) → (MM → Prop) → Prop) (m : MM) (Q : Int → MM → Prop) (T : MM → Prop) : Prop := rec 12 [] m (fun r1 m1 => P_X3_isSign 61 m1 (fun r2 m2 => (RI r2) ∧ (if r2 = 0 then P_X3_isSign 35 m2 (fun r3 m3 => (RI r3) ∧ (if r3 = 0 then P_X3_isSign 60 m3 (fun r4 m4 => (RI r4) ∧ (if r4 = 0 then P_X3_isSign 131 m4 (fun r5 m5 => (RI r5) ∧ (if r5 = 0 then P_X3_relation_63 rec Q T r1 (-1) m5 else P_X3_relation_63 rec Q T r1 15 m5)) else P_X3_relation_63 rec Q T r1 14 m4)) else P_X3_relation_63 rec Q T r1 13 m3)) else P_X3_relation_63 rec Q T r1 12 m2))) T
theorem dX3_signed_0 : decode cX3_signed 0 = .ok (.aload_n 0, 1) := by decide +kernel
theorem dX3_signed_1 : decode cX3_signed 1 = .ok (.bipush 40, 2) := by decide +kernel
theorem dX3_signed_3 : decode cX3_signed 3 = .ok (.invokevirtual 49, 3) := by decide +kernel
theorem dX3_signed_6 : decode cX3_signed 6 = .ok (.ifCond .eq 20, 3) := by decide +kernel
theorem dX3_signed_9 : decode cX3_signed 9 = .ok (.aload_n 0, 1) := by decide +kernel
theorem dX3_signed_10 : decode cX3_signed 10 = .ok (.invokevirtual 68, 3) := by decide +kernel
theorem dX3_signed_13 : decode cX3_signed 13 = .ok (.aload_n 0, 1) := by decide +kernel
theorem dX3_signed_14 : decode cX3_signed 14 = .ok (.invokevirtual 114, 3) := by decide +kernel
theorem dX3_signed_17 : decode cX3_signed 17 = .ok (.istore_n 2, 1) := by decide +kernel
theorem dX3_signed_18 : decode cX3_signed 18 = .ok (.aload_n 0, 1) := by decide +kernel
theorem dX3_signed_19 : decode cX3_signed 19 = .ok (.bipush 41, 2) := by decide +kernel
theorem dX3_signed_21 : decode cX3_signed 21 = .ok (.invokevirtual 138, 3) := by decide +kernel
theorem dX3_signed_24 : decode cX3_signed 24 = .ok (.iload_n 2, 1) := by decide +kernel
theorem dX3_signed_25 : decode cX3_signed 25 = .ok (.ireturn, 1) := by decide +kernel
theorem dX3_signed_26 : decode cX3_signed 26 = .ok (.aload_n 0, 1) := by decide +kernel
theorem dX3_signed_27 : decode cX3_signed 27 = .ok (.bipush 91, 2) := by decide +kernel
theorem dX3_signed_29 : decode cX3_signed 29 = .ok (.invokevirtual 49, 3) := by decide +kernel
theorem dX3_signed_32 : decode cX3_signed 32 = .ok (.ifCond .eq 9, 3) := by decide +kernel
theorem dX3_signed_35 : decode cX3_signed 35 = .ok (.aload_n 0, 1) := by decide +kernel
theorem dX3_signed_36 : decode cX3_signed 36 = .ok (.iload_n 1, 1) := by decide +kernel
theorem dX3_signed_37 : decode cX3_signed 37 = .ok (.invokevirtual 213, 3) := by decide +kernel
theorem dX3_signed_40 : decode cX3_signed 40 = .ok (.ireturn, 1) := by decide +kernel
theorem dX3_signed_41 : decode cX3_signed 41 = .ok (.aload_n 0, 1) := by decide +kernel
theorem dX3_signed_42 : decode cX3_signed 42 = .ok (.bipush 37, 2) := by decide +kernel
theorem dX3_signed_44 : decode cX3_signed 44 = .ok (.invokevirtual 49, 3) := by decide +kernel
theorem dX3_signed_47 : decode cX3_signed 47 = .ok (.ifCond .ne 9, 3) := by decide +kernel
theorem dX3_signed_50 : decode cX3_signed 50 = .ok (.aload_n 0, 1) := by decide +kernel
theorem dX3_signed_51 : decode cX3_signed 51 = .ok (.iconst 1, 1) := by decide +kernel
theorem dX3_signed_52 : decode cX3_signed 52 = .ok (.iload_n 1, 1) := by decide +kernel
theorem dX3_signed_53 : decode cX3_signed 53 = .ok (.invokevirtual 45, 3) := by decide +kernel
theorem dX3_signed_56 : decode cX3_signed 56 = .ok (.aload_n 0, 1) := by decide +kernel
theorem dX3_signed_57 : decode cX3_signed 57 = .ok (.getfield 78, 3) := by decide +kernel
theorem dX3_signed_60 : decode cX3_signed 60 = .ok (.iconst 3, 1) := by decide +kernel
theorem dX3_signed_61 : decode cX3_signed 61 = .ok (.iload_n 1, 1) := by decide +kernel
theorem dX3_signed_62 : decode cX3_signed 62 = .ok (.invokevirtual 153, 3) := by decide +kernel
theorem dX3_signed_65 : decode cX3_signed 65 = .ok (.istore_n 2, 1) := by decide +kernel
theorem dX3_signed_66 : decode cX3_signed 66 = .ok (.aload_n 0, 1) := by decide +kernel
theorem dX3_signed_67 : decode cX3_signed 67 = .ok (.invokevirtual 53, 3) := by decide +kernel
theorem dX3_signed_70 : decode cX3_signed 70 = .ok (.aload_n 0, 1) := by decide +kernel
theorem dX3_signed_71 : decode cX3_signed 71 = .ok (.getfield 12, 3) := by decide +kernel
theorem dX3_signed_74 : decode cX3_signed 74 = .ok (.getfield 29, 3) := by decide +kernel
theorem dX3_signed_77 : decode cX3_signed 77 = .ok (.aload_n 0, 1) := by decide +kernel
theorem dX3_signed_78 : decode cX3_signed 78 = .ok (.getfield 33, 3) := by decide +kernel
theorem dX3_signed_81 : decode cX3_signed 81 = .ok (.iaload, 1) := by decide +kernel
theorem dX3_signed_82 : decode cX3_signed 82 = .ok (.iconst 1, 1) := by decide +kernel
theorem dX3_signed_83 : decode cX3_signed 83 = .ok (.if_icmp .eq 12, 3) := by decide +kernel
theorem dX3_signed_86 : decode cX3_signed 86 = .ok (.aload_n 0, 1) := by decide +kernel
theorem dX3_signed_87 : decode cX3_signed 87 = .ok (.iconst 1, 1) := by decide +kernel
theorem dX3_signed_88 : decode cX3_signed 88 = .ok (.aload_n 0, 1) := by decide +kernel
theorem dX3_signed_89 : decode cX3_signed 89 = .ok (.invokevirtual 41, 3) := by decide +kernel
theorem dX3_signed_92 : decode cX3_signed 92 = .ok (.invokevirtual 45, 3) := by decide +kernel
theorem dX3_signed_95 : decode cX3_signed 95 = .ok (.aload_n 0, 1) := by decide +kernel
theorem dX3_signed_96 : decode cX3_signed 96 = .ok (.getfield 78, 3) := by decide +kernel
theorem dX3_signed_99 : decode cX3_signed 99 = .ok (.getfield 157, 3) := by decide +kernel
theorem dX3_signed_102 : decode cX3_signed 102 = .ok (.iload_n 2, 1) := by decide +kernel
theorem dX3_signed_103 : decode cX3_signed 103 = .ok (.aload_n 0, 1) := by decide +kernel
theorem dX3_signed_104 : decode cX3_signed 104 = .ok (.getfield 12, 3) := by decide +kernel
theorem dX3_signed_107 : decode cX3_signed 107 = .ok (.getfield 36, 3) := by decide +kernel
theorem dX3_signed_110 : decode cX3_signed 110 = .ok (.aload_n 0, 1) := by decide +kernel
theorem dX3_signed_111 : decode cX3_signed 111 = .ok (.getfield 33, 3) := by decide +kernel
theorem dX3_signed_114 : decode cX3_signed 114 = .ok (.iaload, 1) := by decide +kernel
theorem dX3_signed_115 : decode cX3_signed 115 = .ok (.iastore, 1) := by decide +kernel
theorem dX3_signed_116 : decode cX3_signed 116 = .ok (.aload_n 0, 1) := by decide +kernel
theorem dX3_signed_117 : decode cX3_signed 117 = .ok (.invokevirtual 53, 3) := by decide +kernel
theorem dX3_signed_120 : decode cX3_signed 120 = .ok (.iload_n 2, 1) := by decide +kernel
theorem dX3_signed_121 : decode cX3_signed 121 = .ok (.ireturn, 1) := by decide +kernel
/-! AlgebraHouse$Parser.signed(I)I -/
def P_X3_signed_95 (rec : Nat → List Int → MM → (Int → MM → Prop) → (MM → Prop) → Prop) (Q : Int → MM → Prop) (T : MM → Prop) (x2 : Int) (m : MM) : Prop := (isTx (m 365 1)) ∧ (0 ≤ (m 365 2) ∧ (m 365 2) < 401) ∧ (0 ≤ x2 ∧ x2 < 160) ∧ ∀ m1 : MM, m1 = up m ((m 365 1) + 4) x2 (m 369 (m 365 2)) → P_X3_go m1 (fun r1 m2 => Q x2 m2) T
def P_X3_signed_56 (rec : Nat → List Int → MM → (Int → MM → Prop) → (MM → Prop) → Prop) (Q : Int → MM → Prop) (T : MM → Prop) (x1 : Int) (m : MM) : Prop := (isTx (m 365 1)) ∧ P_X2_add (m 365 1) 3 x1 m (fun r1 m1 => P_X3_go m1 (fun r2 m2 => (0 ≤ (m2 365 2) ∧ (m2 365 2) < 401) ∧ (RI (m2 368 (m2 365 2))) ∧ (if (m2 368 (m2 365 2)) = 1 then P_X3_signed_95 rec Q T r1 m2 else P_X3_here m2 (fun r3 m3 => P_X3_fail 1 r3 m3 (fun r4 m4 => P_X3_signed_95 rec Q T r1 m4) T))) T)
def W_X3_signed (rec : Nat → List Int → MM → (Int → MM → Prop) → (MM → Prop) → Prop) (x1 : Int) (m : MM) (Q : Int → MM → Prop) (T : MM → Prop) : Prop := P_X3_isSign 40 m (fun r1 m1 => (RI r1) ∧ (if r1 = 0 then P_X3_isSign 91 m1 (fun r2 m2 => (RI r2) ∧ (if r2 = 0 then P_X3_isSign 37 m2 (fun r3 m3 => (RI r3) ∧ (if r3 = 0 then P_X3_fail 1 x1 m3 (fun r4 m4 => P_X3_signed_56 rec Q T x1 m4) T else P_X3_signed_56 rec Q T x1 m3)) else rec 6 [x1] m2 (fun r5 m5 => Q r5 m5) T)) else P_X3_opens m1 (fun r6 m6 => rec 5 [] m6 (fun r7 m7 => P_X3_closes 41 m7 (fun r8 m8 => Q r7 m8) T) T) T))
theorem dX3_sum_0 : decode cX3_sum 0 = .ok (.aload_n 0, 1) := by decide +kernel
theorem dX3_sum_1 : decode cX3_sum 1 = .ok (.invokevirtual 193, 3) := by decide +kernel
theorem dX3_sum_4 : decode cX3_sum 4 = .ok (.istore_n 1, 1) := by decide +kernel
theorem dX3_sum_5 : decode cX3_sum 5 = .ok (.aload_n 0, 1) := by decide +kernel
theorem dX3_sum_6 : decode cX3_sum 6 = .ok (.bipush 43, 2) := by decide +kernel
theorem dX3_sum_8 : decode cX3_sum 8 = .ok (.invokevirtual 49, 3) := by decide +kernel
theorem dX3_sum_11 : decode cX3_sum 11 = .ok (.ifCond .ne 12, 3) := by decide +kernel
theorem dX3_sum_14 : decode cX3_sum 14 = .ok (.aload_n 0, 1) := by decide +kernel
theorem dX3_sum_15 : decode cX3_sum 15 = .ok (.bipush 45, 2) := by decide +kernel
theorem dX3_sum_17 : decode cX3_sum 17 = .ok (.invokevirtual 49, 3) := by decide +kernel
theorem dX3_sum_20 : decode cX3_sum 20 = .ok (.ifCond .eq 47, 3) := by decide +kernel
theorem dX3_sum_23 : decode cX3_sum 23 = .ok (.aload_n 0, 1) := by decide +kernel
theorem dX3_sum_24 : decode cX3_sum 24 = .ok (.invokevirtual 41, 3) := by decide +kernel
theorem dX3_sum_27 : decode cX3_sum 27 = .ok (.istore_n 2, 1) := by decide +kernel
theorem dX3_sum_28 : decode cX3_sum 28 = .ok (.aload_n 0, 1) := by decide +kernel
theorem dX3_sum_29 : decode cX3_sum 29 = .ok (.bipush 43, 2) := by decide +kernel
theorem dX3_sum_31 : decode cX3_sum 31 = .ok (.invokevirtual 49, 3) := by decide +kernel
theorem dX3_sum_34 : decode cX3_sum 34 = .ok (.ifCond .eq 8, 3) := by decide +kernel
theorem dX3_sum_37 : decode cX3_sum 37 = .ok (.bipush 16, 2) := by decide +kernel
theorem dX3_sum_39 : decode cX3_sum 39 = .ok (.goto 5, 3) := by decide +kernel
theorem dX3_sum_42 : decode cX3_sum 42 = .ok (.bipush 17, 2) := by decide +kernel
theorem dX3_sum_44 : decode cX3_sum 44 = .ok (.istore_n 3, 1) := by decide +kernel
theorem dX3_sum_45 : decode cX3_sum 45 = .ok (.aload_n 0, 1) := by decide +kernel
theorem dX3_sum_46 : decode cX3_sum 46 = .ok (.invokevirtual 53, 3) := by decide +kernel
theorem dX3_sum_49 : decode cX3_sum 49 = .ok (.aload_n 0, 1) := by decide +kernel
theorem dX3_sum_50 : decode cX3_sum 50 = .ok (.getfield 78, 3) := by decide +kernel
theorem dX3_sum_53 : decode cX3_sum 53 = .ok (.iload_n 3, 1) := by decide +kernel
theorem dX3_sum_54 : decode cX3_sum 54 = .ok (.iload_n 2, 1) := by decide +kernel
theorem dX3_sum_55 : decode cX3_sum 55 = .ok (.iload_n 1, 1) := by decide +kernel
theorem dX3_sum_56 : decode cX3_sum 56 = .ok (.aload_n 0, 1) := by decide +kernel
theorem dX3_sum_57 : decode cX3_sum 57 = .ok (.invokevirtual 193, 3) := by decide +kernel
theorem dX3_sum_60 : decode cX3_sum 60 = .ok (.invokevirtual 181, 3) := by decide +kernel
theorem dX3_sum_63 : decode cX3_sum 63 = .ok (.istore_n 1, 1) := by decide +kernel
theorem dX3_sum_64 : decode cX3_sum 64 = .ok (.goto (-59), 3) := by decide +kernel
theorem dX3_sum_67 : decode cX3_sum 67 = .ok (.iload_n 1, 1) := by decide +kernel
theorem dX3_sum_68 : decode cX3_sum 68 = .ok (.ireturn, 1) := by decide +kernel
/-! AlgebraHouse$Parser.sum()I -/
def P_X3_sum_23 (rec : Nat → List Int → MM → (Int → MM → Prop) → (MM → Prop) → Prop) (Q : Int → MM → Prop) (T : MM → Prop) (K5 : Int → MM → Prop) (x1 : Int) (m : MM) : Prop := P_X3_here m (fun r1 m1 => P_X3_isSign 43 m1 (fun r2 m2 => ((RI r2)) ∧ P_X3_go m2 (fun r3 m3 => rec 9 [] m3 (fun r4 m4 => (isTx (m3 365 1)) ∧ P_X2_add_2 (m3 365 1) (if r2 = 0 then 17 else 16 : Int) r1 x1 r4 m4 (fun r5 m5 => K5 r5 m5)) T) T))
def P_X3_sum_5 (rec : Nat → List Int → MM → (Int → MM → Prop) → (MM → Prop) → Prop) (Q : Int → MM → Prop) (T : MM → Prop) : Nat → Int → MM → Prop
  | 0, _, _ => False
  | n + 1, x1, m => P_X3_isSign 43 m (fun r1 m1 => (RI r1) ∧ (if r1 = 0 then P_X3_isSign 45 m1 (fun r2 m2 => (RI r2) ∧ (if r2 = 0 then Q x1 m2 else P_X3_sum_23 rec Q T (fun z0 z1 => P_X3_sum_5 rec Q T n z0 z1) x1 m2)) else P_X3_sum_23 rec Q T (fun z0 z1 => P_X3_sum_5 rec Q T n z0 z1) x1 m1))
def W_X3_sum (rec : Nat → List Int → MM → (Int → MM → Prop) → (MM → Prop) → Prop) (m : MM) (Q : Int → MM → Prop) (T : MM → Prop) : Prop := rec 9 [] m (fun r1 m1 => ∃ nn, P_X3_sum_5 rec Q T nn r1 m1) T
def HR_X3_expression (rec : Nat → List Int → MM → (Int → MM → Prop) → (MM → Prop) → Prop) (fr : Nat) : Prop := (∀ (x1 : Int) (x2 : Int) (m : MM) (Q : Int → MM → Prop) (T : MM → Prop), rec 0 [x1, x2] m Q T → CC fr M_X3_arguments [vR 365, vI x1, vI x2] m Q T) ∧ (∀ (m : MM) (Q : Int → MM → Prop) (T : MM → Prop), rec 1 [] m Q T → CC fr M_X3_atom [vR 365] m Q T) ∧ (∀ (m : MM) (Q : Int → MM → Prop) (T : MM → Prop), rec 2 [] m Q T → CC fr M_X3_behind [vR 365] m Q T) ∧ (∀ (m : MM) (Q : Int → MM → Prop) (T : MM → Prop), rec 3 [] m Q T → CC fr M_X3_both [vR 365] m Q T) ∧ (∀ (m : MM) (Q : Int → MM → Prop) (T : MM → Prop), rec 4 [] m Q T → CC fr M_X3_either [vR 365] m Q T) ∧ (∀ (m : MM) (Q : Int → MM → Prop) (T : MM → Prop), rec 5 [] m Q T → CC fr M_X3_expression [vR 365] m Q T) ∧ (∀ (x1 : Int) (m : MM) (Q : Int → MM → Prop) (T : MM → Prop), rec 6 [x1] m Q T → CC fr M_X3_matrix [vR 365, vI x1] m Q T) ∧ (∀ (m : MM) (Q : Int → MM → Prop) (T : MM → Prop), rec 7 [] m Q T → CC fr M_X3_minus [vR 365] m Q T) ∧ (∀ (m : MM) (Q : Int → MM → Prop) (T : MM → Prop), rec 8 [] m Q T → CC fr M_X3_negated [vR 365] m Q T) ∧ (∀ (m : MM) (Q : Int → MM → Prop) (T : MM → Prop), rec 9 [] m Q T → CC fr M_X3_product [vR 365] m Q T) ∧ (∀ (m : MM) (Q : Int → MM → Prop) (T : MM → Prop), rec 10 [] m Q T → CC fr M_X3_relation [vR 365] m Q T) ∧ (∀ (x1 : Int) (m : MM) (Q : Int → MM → Prop) (T : MM → Prop), rec 11 [x1] m Q T → CC fr M_X3_signed [vR 365, vI x1] m Q T) ∧ (∀ (m : MM) (Q : Int → MM → Prop) (T : MM → Prop), rec 12 [] m Q T → CC fr M_X3_sum [vR 365] m Q T) ∧ True
theorem pl_X3_arguments_66 {f : Nat} {Q : Int → MM → Prop} {T : MM → Prop} {rec : Nat → List Int → MM → (Int → MM → Prop) → (MM → Prop) → Prop} {fr : Nat} (hrec : HR_X3_expression rec fr) (hf : 27 ≤ f ∧ fr + 1 ≤ f) : ∀ (m : MM), P_X3_arguments_66 rec Q T m → B f M_X3_arguments 66 [vR 365, vU, vU, vU, vU] [] m Q T := by
  intro m h
  have h : P_X3_closes 41 m (fun r1 m1 => Q 0 m1) T := h
  refine b_aload_n dX3_arguments_66 rfl ?_
  refine b_bipush dX3_arguments_67 (by decide) ?_
  refine b_cVv (as := [vI 41]) (st := []) dX3_arguments_69 mf_X3_closes qs18 lk_X3_138 ly_365 rfl (p_X3_closes (f := 5) (Nat.le_refl _) _ _ h) (by omega) rfl rfl (Nat.le_of_ble_eq_true rfl) (by decide) rfl (fun _ => rfl) (fun r1 m1 h => ?_) (fun _ h => h)
  exact b_vret dX3_arguments_72 rfl h
theorem pl_X3_arguments_54 {f : Nat} {Q : Int → MM → Prop} {T : MM → Prop} {rec : Nat → List Int → MM → (Int → MM → Prop) → (MM → Prop) → Prop} {fr : Nat} (hrec : HR_X3_expression rec fr) (hf : 27 ≤ f ∧ fr + 1 ≤ f) {K18 : Int → Int → MM → Prop} (hK18 : ∀ (x1 : Int) (x3 : Int) (m : MM), K18 x1 x3 m → B f M_X3_arguments 18 [vR 365, vI x1, vU, vI x3, vU] [] m Q T) : ∀ (x1 : Int) (x4 : Int) (m : MM), P_X3_arguments_54 rec Q T K18 x1 x4 m → B f M_X3_arguments 54 [vR 365, vI x1, vU, vU, vI x4] [] m Q T := by
  intro x1 x4 m h
  have h : P_X3_takes 44 m (fun r1 m1 => (RI r1) ∧ (if r1 = 0 then P_X3_arguments_66 rec Q T m1 else K18 x1 x4 m1)) T := h
  refine b_iload dX3_arguments_54 rfl ?_
  refine b_istore_n (ls' := [vR 365, vI x1, vU, vI x4, vI x4]) dX3_arguments_56 (Nat.le_of_ble_eq_true rfl) rfl ?_
  refine b_aload_n dX3_arguments_57 rfl ?_
  refine b_bipush dX3_arguments_58 (by decide) ?_
  refine b_cVi (as := [vI 44]) (st := []) dX3_arguments_60 mf_X3_takes qs14 lk_X3_56 ly_365 rfl (p_X3_takes (f := 3) (Nat.le_refl _) _ _ h) (by omega) rfl rfl (Nat.le_of_ble_eq_true rfl) (by decide) rfl (fun _ => rfl) (fun r1 m1 h => ?_) (fun _ h => h)
  obtain ⟨g1, h⟩ := h
  refine b_if_ne 18 dX3_arguments_63 g1 (by decide) (fun c1 => ?_) (fun c1 => ?_)
  · have h := ifF c1 h
    refine b_fgt [true, true, false, true, false] (ls' := [vR 365, vI x1, vU, vI x4, vU]) rfl rfl ?_
    exact hK18 _ _ _ h
  · have h := ifT (Decidable.of_not_not c1) h
    refine b_fgt [true, false, false, false, false] (ls' := [vR 365, vU, vU, vU, vU]) rfl rfl ?_
    exact pl_X3_arguments_66 hrec hf _ h
theorem pl_X3_arguments_18 {f : Nat} {Q : Int → MM → Prop} {T : MM → Prop} {rec : Nat → List Int → MM → (Int → MM → Prop) → (MM → Prop) → Prop} {fr : Nat} (hrec : HR_X3_expression rec fr) (hf : 27 ≤ f ∧ fr + 1 ≤ f) : ∀ (n : Nat) (x1 : Int) (x3 : Int) (m : MM), P_X3_arguments_18 rec Q T n x1 x3 m → B f M_X3_arguments 18 [vR 365, vI x1, vU, vI x3, vU] [] m Q T := by
  intro n
  induction n with
  | zero => intro x1 x3 m h; exact h.elim
  | succ n ih =>
    intro x1 x3 m h
    have h : rec 5 [] m (fun r1 m1 => (RI x3) ∧ (if x3 = (-1) then (isTx (m1 365 1)) ∧ (0 ≤ x1 ∧ x1 < 160) ∧ ∀ m3 : MM, m3 = up m1 ((m1 365 1) + 2) x1 r1 → P_X3_arguments_54 rec Q T (fun z0 z1 z2 => P_X3_arguments_18 rec Q T n z0 z1 z2) x1 r1 m3 else (isTx (m1 365 1)) ∧ (0 ≤ x3 ∧ x3 < 160) ∧ ∀ m2 : MM, m2 = up m1 ((m1 365 1) + 3) x3 r1 → P_X3_arguments_54 rec Q T (fun z0 z1 z2 => P_X3_arguments_18 rec Q T n z0 z1 z2) x1 r1 m2)) T := h
    refine b_aload_n dX3_arguments_18 rfl ?_
    refine b_cVi (as := []) (st := []) dX3_arguments_19 mf_X3_expression qs20 lk_X3_114 ly_365 rfl (hrec.2.2.2.2.2.1 _ _ _ h) (by omega) rfl rfl (Nat.le_of_ble_eq_true rfl) (by decide) rfl (fun _ => rfl) (fun r1 m1 h => ?_) (fun _ h => h)
    refine b_istore (ls' := [vR 365, vI x1, vU, vI x3, vI r1]) dX3_arguments_22 (Nat.le_of_ble_eq_true rfl) rfl ?_
    refine b_iload_n dX3_arguments_24 rfl ?_
    refine b_iconst dX3_arguments_25 ?_
    obtain ⟨g1, h⟩ := h
    refine b_icmp_ne 43 dX3_arguments_26 g1 (by decide) (by decide) (fun c1 => ?_) (fun c1 => ?_)
    · have h := ifF c1 h
      refine b_aload_n dX3_arguments_43 rfl ?_
      refine b_getM dX3_arguments_44 fk_X3_78 ly_365 ?_
      obtain ⟨g2, h⟩ := h
      refine b_getR dX3_arguments_47 fk_X3_175 (tx_ly0 g2) (tx_gg9 g2) ?_
      refine b_iload_n dX3_arguments_50 rfl ?_
      refine b_iload dX3_arguments_51 rfl ?_
      obtain ⟨g3, h⟩ := h
      refine b_iast dX3_arguments_53 (tx_ly3 g2) g3 (fun m2 em2 => ?_)
      have h := h m2 em2
      refine b_fgt [true, true, false, false, true] (ls' := [vR 365, vI x1, vU, vU, vI r1]) rfl rfl ?_
      exact pl_X3_arguments_54 hrec hf (fun _ _ _ h => ih _ _ _ h) _ _ _ h
    · have h := ifT (Decidable.of_not_not c1) h
      refine b_aload_n dX3_arguments_29 rfl ?_
      refine b_getM dX3_arguments_30 fk_X3_78 ly_365 ?_
      obtain ⟨g4, h⟩ := h
      refine b_getR dX3_arguments_33 fk_X3_166 (tx_ly0 g4) (tx_gg8 g4) ?_
      refine b_iload_n dX3_arguments_36 rfl ?_
      refine b_iload dX3_arguments_37 rfl ?_
      obtain ⟨g5, h⟩ := h
      refine b_iast dX3_arguments_39 (tx_ly2 g4) g5 (fun m3 em3 => ?_)
      have h := h m3 em3
      refine b_goto 54 dX3_arguments_40 (by decide) ?_
      refine b_fgt [true, true, false, false, true] (ls' := [vR 365, vI x1, vU, vU, vI r1]) rfl rfl ?_
      exact pl_X3_arguments_54 hrec hf (fun _ _ _ h => ih _ _ _ h) _ _ _ h
theorem w_X3_arguments {f : Nat} {Q : Int → MM → Prop} {T : MM → Prop} {rec : Nat → List Int → MM → (Int → MM → Prop) → (MM → Prop) → Prop} {fr : Nat} (hrec : HR_X3_expression rec fr) (hf : 27 ≤ f ∧ fr + 1 ≤ f) (x1 : Int) (x2 : Int) (m : MM) (h : W_X3_arguments rec x1 x2 m Q T) : CC f M_X3_arguments [vR 365, vI x1, vI x2] m Q T := by
  refine CC.of (plainFor_of_name (by decide)) (Nat.le_of_ble_eq_true rfl) (ls := [vR 365, vI x1, vI x2, vU, vU]) rfl ?_
  have h : (isTx (m 365 1)) ∧ (0 ≤ x1 ∧ x1 < 160) ∧ ∀ m1 : MM, m1 = up m ((m 365 1) + 1) x1 x2 → P_X3_needOpen 40 m1 (fun r1 m2 => ∃ nn, P_X3_arguments_18 rec Q T nn x1 (-1) m2) T := h
  refine b_aload_n dX3_arguments_0 rfl ?_
  refine b_getM dX3_arguments_1 fk_X3_78 ly_365 ?_
  obtain ⟨g1, h⟩ := h
  refine b_getR dX3_arguments_4 fk_X3_212 (tx_ly0 g1) (tx_gg7 g1) ?_
  refine b_iload_n dX3_arguments_7 rfl ?_
  refine b_iload_n dX3_arguments_8 rfl ?_
  obtain ⟨g2, h⟩ := h
  refine b_iast dX3_arguments_9 (tx_ly1 g1) g2 (fun m1 em1 => ?_)
  have h := h m1 em1
  refine b_aload_n dX3_arguments_10 rfl ?_
  refine b_bipush dX3_arguments_11 (by decide) ?_
  refine b_cVv (as := [vI 40]) (st := []) dX3_arguments_13 mf_X3_needOpen qs17 lk_X3_162 ly_365 rfl (p_X3_needOpen (f := 4) (Nat.le_refl _) _ _ h) (by omega) rfl rfl (Nat.le_of_ble_eq_true rfl) (by decide) rfl (fun _ => rfl) (fun r1 m2 h => ?_) (fun _ h => h)
  refine b_iconst dX3_arguments_16 ?_
  refine b_istore_n (ls' := [vR 365, vI x1, vI x2, vI (-1), vU]) dX3_arguments_17 (Nat.le_of_ble_eq_true rfl) rfl ?_
  refine b_fgt [true, true, false, true, false] (ls' := [vR 365, vI x1, vU, vI (-1), vU]) rfl rfl ?_
  obtain ⟨nn, h⟩ := h
  exact pl_X3_arguments_18 hrec hf nn _ _ _ h
theorem pl_X3_atom_206 {f : Nat} {Q : Int → MM → Prop} {T : MM → Prop} {rec : Nat → List Int → MM → (Int → MM → Prop) → (MM → Prop) → Prop} {fr : Nat} (hrec : HR_X3_expression rec fr) (hf : 27 ≤ f ∧ fr + 1 ≤ f) : ∀ (x1 : Int) (m : MM), P_X3_atom_206 rec Q T x1 m → B f M_X3_atom 206 [vR 365, vI x1, vU] [] m Q T := by
  intro x1 m h
  have h : P_X3_isKey 12 m (fun r1 m1 => ((RI r1)) ∧ (isTx (m 365 1)) ∧ P_X2_add (m 365 1) (if r1 = 0 then 2 else 1 : Int) x1 m1 (fun r2 m2 => P_X3_go m2 (fun r3 m3 => Q r2 m3) T)) := h
  refine b_aload_n dX3_atom_206 rfl ?_
  refine b_getM dX3_atom_207 fk_X3_78 ly_365 ?_
  refine b_aload_n dX3_atom_210 rfl ?_
  refine b_bipush dX3_atom_211 (by decide) ?_
  refine b_cVi (as := [vI 12]) (st := [vR (m 365 1)]) dX3_atom_213 mf_X3_isKey qs19 lk_X3_59 ly_365 rfl (p_X3_isKey (f := 1) (Nat.le_refl _) _ _ h) (by omega) rfl rfl (Nat.le_of_ble_eq_true rfl) (by decide) rfl (fun _ => rfl) (fun r1 m1 h => ?_) (fun _ h => h)
  obtain ⟨hs, h⟩ := h
  have K : B f M_X3_atom 224 [vR 365, vI x1, vU] [vI (if r1 = 0 then 2 else 1 : Int), vR (m 365 1)] m1 Q T := by
    clear hs
    refine b_iload_n dX3_atom_224 rfl ?_
    obtain ⟨g2, h⟩ := h
    refine b_cVi (as := [vI (if r1 = 0 then 2 else 1 : Int), vI x1]) (st := []) dX3_atom_225 mf_X2_add q951 lk_X3_153 (tx_ly0 g2) rfl (p_X2_add (f := 1) (Nat.le_refl _) _ _ _ _ h) (by omega) rfl rfl (Nat.le_of_ble_eq_true rfl) (by decide) rfl (fun _ => rfl) (fun r2 m2 h => ?_) (fun _ h => h)
    refine b_istore_n (ls' := [vR 365, vI x1, vI r2]) dX3_atom_228 (Nat.le_of_ble_eq_true rfl) rfl ?_
    refine b_aload_n dX3_atom_229 rfl ?_
    refine b_cVv (as := []) (st := []) dX3_atom_230 mf_X3_go qs10 lk_X3_53 ly_365 rfl (p_X3_go (f := 2) (Nat.le_refl _) _ h) (by omega) rfl rfl (Nat.le_of_ble_eq_true rfl) (by decide) rfl (fun _ => rfl) (fun r3 m3 h => ?_) (fun _ h => h)
    refine b_iload_n dX3_atom_233 rfl ?_
    exact b_iret dX3_atom_234 rfl h
  have g1 := hs
  refine b_if_eq 223 dX3_atom_216 g1 (by decide) (fun c1 => ?_) (fun c1 => ?_)
  ·
    refine b_iconst dX3_atom_223 ?_
    rw [if_pos c1] at K
    exact K
  ·
    refine b_iconst dX3_atom_219 ?_
    refine b_goto 224 dX3_atom_220 (by decide) ?_
    rw [if_neg c1] at K
    exact K
theorem w_X3_atom {f : Nat} {Q : Int → MM → Prop} {T : MM → Prop} {rec : Nat → List Int → MM → (Int → MM → Prop) → (MM → Prop) → Prop} {fr : Nat} (hrec : HR_X3_expression rec fr) (hf : 27 ≤ f ∧ fr + 1 ≤ f) (m : MM) (h : W_X3_atom rec m Q T) : CC f M_X3_atom [vR 365] m Q T := by
  refine CC.of (plainFor_of_name (by decide)) (Nat.le_of_ble_eq_true rfl) (ls := [vR 365, vU, vU]) rfl ?_
  have h : P_X3_here m (fun r1 m1 => (0 ≤ (m1 365 2) ∧ (m1 365 2) < 401) ∧ (RI (m1 368 (m1 365 2))) ∧ (if (m1 368 (m1 365 2)) = 1 then (isTx (m1 365 1)) ∧ P_X2_add (m1 365 1) 0 r1 m1 (fun r2 m2 => (isTx (m2 365 1)) ∧ (0 ≤ (m2 365 2) ∧ (m2 365 2) < 401) ∧ (0 ≤ r2 ∧ r2 < 160) ∧ ∀ m3 : MM, m3 = up m2 ((m2 365 1) + 4) r2 (m2 369 (m2 365 2)) → P_X3_go m3 (fun r3 m4 => Q r2 m4) T) else (if (m1 368 (m1 365 2)) = 2 then (isTx (m1 365 1)) ∧ P_X2_add (m1 365 1) 4 r1 m1 (fun r4 m5 => (isTx (m5 365 1)) ∧ (0 ≤ (m5 365 2) ∧ (m5 365 2) < 401) ∧ (0 ≤ r4 ∧ r4 < 160) ∧ ∀ m6 : MM, m6 = up m5 ((m5 365 1) + 9) r4 (m5 371 (m5 365 2)) → P_X3_go m6 (fun r5 m7 => P_X3_isSign 40 m7 (fun r6 m8 => (RI r6) ∧ (if r6 = 0 then Q r4 m8 else rec 0 [r4, 5] m8 (fun r7 m9 => Q r4 m9) T))) T) else (if (m1 368 (m1 365 2)) = 3 then P_X3_isKey 12 m1 (fun r8 m10 => (RI r8) ∧ (if r8 = 0 then P_X3_isKey 13 m10 (fun r9 m11 => (RI r9) ∧ (if r9 = 0 then P_X3_fail 1 r1 m11 (fun r10 m12 => P_X3_atom_206 rec Q T r1 m12) T else P_X3_atom_206 rec Q T r1 m11)) else P_X3_atom_206 rec Q T r1 m10)) else (if (m1 368 (m1 365 2)) = 4 then (isTx (m1 365 1)) ∧ P_X2_add (m1 365 1) 6 r1 m1 (fun r11 m13 => (isTx (m13 365 1)) ∧ (0 ≤ (m13 365 2) ∧ (m13 365 2) < 401) ∧ (0 ≤ r11 ∧ r11 < 160) ∧ ∀ m14 : MM, m14 = up m13 ((m13 365 1) + 4) r11 (m13 369 (m13 365 2)) → P_X3_go m14 (fun r12 m15 => rec 0 [r11, 6] m15 (fun r13 m16 => Q r11 m16) T) T) else rec 11 [r1] m1 (fun r14 m17 => Q r14 m17) T))))) := h
  refine b_aload_n dX3_atom_0 rfl ?_
  refine b_cVi (as := []) (st := []) dX3_atom_1 mf_X3_here qs9 lk_X3_41 ly_365 rfl (p_X3_here (f := 1) (Nat.le_refl _) _ h) (by omega) rfl rfl (Nat.le_of_ble_eq_true rfl) (by decide) rfl (fun _ => rfl) (fun r1 m1 h => ?_) (fun _ h => h)
  refine b_istore_n (ls' := [vR 365, vI r1, vU]) dX3_atom_4 (Nat.le_of_ble_eq_true rfl) rfl ?_
  refine b_aload_n dX3_atom_5 rfl ?_
  refine b_getR dX3_atom_6 fk_X3_12 ly_365 gg_365_0 ?_
  refine b_getR dX3_atom_9 fk_X3_29 ly_366 gg_366_3 ?_
  refine b_aload_n dX3_atom_12 rfl ?_
  refine b_getI dX3_atom_13 fk_X3_33 ly_365 ?_
  obtain ⟨g1, h⟩ := h
  refine b_iald dX3_atom_16 ly_368 g1 ?_
  obtain ⟨g2, h⟩ := h
  by_cases c1 : (m1 368 (m1 365 2)) = 1
  · have h := ifT c1 h
    refine b_tswIn 48 dX3_atom_17 g2 (by omega) (by omega) (by rw [c1]; rfl) (by decide) ?_
    refine b_aload_n dX3_atom_48 rfl ?_
    refine b_getM dX3_atom_49 fk_X3_78 ly_365 ?_
    refine b_iconst dX3_atom_52 ?_
    refine b_iload_n dX3_atom_53 rfl ?_
    obtain ⟨g3, h⟩ := h
    refine b_cVi (as := [vI 0, vI r1]) (st := []) dX3_atom_54 mf_X2_add q951 lk_X3_153 (tx_ly0 g3) rfl (p_X2_add (f := 1) (Nat.le_refl _) _ _ _ _ h) (by omega) rfl rfl (Nat.le_of_ble_eq_true rfl) (by decide) rfl (fun _ => rfl) (fun r2 m2 h => ?_) (fun _ h => h)
    refine b_istore_n (ls' := [vR 365, vI r1, vI r2]) dX3_atom_57 (Nat.le_of_ble_eq_true rfl) rfl ?_
    refine b_aload_n dX3_atom_58 rfl ?_
    refine b_getM dX3_atom_59 fk_X3_78 ly_365 ?_
    obtain ⟨g4, h⟩ := h
    refine b_getR dX3_atom_62 fk_X3_157 (tx_ly0 g4) (tx_gg10 g4) ?_
    refine b_iload_n dX3_atom_65 rfl ?_
    refine b_aload_n dX3_atom_66 rfl ?_
    refine b_getR dX3_atom_67 fk_X3_12 ly_365 gg_365_0 ?_
    refine b_getR dX3_atom_70 fk_X3_36 ly_366 gg_366_4 ?_
    refine b_aload_n dX3_atom_73 rfl ?_
    refine b_getI dX3_atom_74 fk_X3_33 ly_365 ?_
    obtain ⟨g5, h⟩ := h
    refine b_iald dX3_atom_77 ly_369 g5 ?_
    obtain ⟨g6, h⟩ := h
    refine b_iast dX3_atom_78 (tx_ly4 g4) g6 (fun m3 em3 => ?_)
    have h := h m3 em3
    refine b_aload_n dX3_atom_79 rfl ?_
    refine b_cVv (as := []) (st := []) dX3_atom_80 mf_X3_go qs10 lk_X3_53 ly_365 rfl (p_X3_go (f := 2) (Nat.le_refl _) _ h) (by omega) rfl rfl (Nat.le_of_ble_eq_true rfl) (by decide) rfl (fun _ => rfl) (fun r3 m4 h => ?_) (fun _ h => h)
    refine b_iload_n dX3_atom_83 rfl ?_
    exact b_iret dX3_atom_84 rfl h
  have h := ifF c1 h
  by_cases c2 : (m1 368 (m1 365 2)) = 2
  · have h := ifT c2 h
    refine b_tswIn 85 dX3_atom_17 g2 (by omega) (by omega) (by rw [c2]; rfl) (by decide) ?_
    refine b_aload_n dX3_atom_85 rfl ?_
    refine b_getM dX3_atom_86 fk_X3_78 ly_365 ?_
    refine b_iconst dX3_atom_89 ?_
    refine b_iload_n dX3_atom_90 rfl ?_
    obtain ⟨g7, h⟩ := h
    refine b_cVi (as := [vI 4, vI r1]) (st := []) dX3_atom_91 mf_X2_add q951 lk_X3_153 (tx_ly0 g7) rfl (p_X2_add (f := 1) (Nat.le_refl _) _ _ _ _ h) (by omega) rfl rfl (Nat.le_of_ble_eq_true rfl) (by decide) rfl (fun _ => rfl) (fun r4 m5 h => ?_) (fun _ h => h)
    refine b_istore_n (ls' := [vR 365, vI r1, vI r4]) dX3_atom_94 (Nat.le_of_ble_eq_true rfl) rfl ?_
    refine b_aload_n dX3_atom_95 rfl ?_
    refine b_getM dX3_atom_96 fk_X3_78 ly_365 ?_
    obtain ⟨g8, h⟩ := h
    refine b_getR dX3_atom_99 fk_X3_165 (tx_ly0 g8) (tx_gg15 g8) ?_
    refine b_iload_n dX3_atom_102 rfl ?_
    refine b_aload_n dX3_atom_103 rfl ?_
    refine b_getR dX3_atom_104 fk_X3_12 ly_365 gg_365_0 ?_
    refine b_getR dX3_atom_107 fk_X3_106 ly_366 gg_366_6 ?_
    refine b_aload_n dX3_atom_110 rfl ?_
    refine b_getI dX3_atom_111 fk_X3_33 ly_365 ?_
    obtain ⟨g9, h⟩ := h
    refine b_lald dX3_atom_114 ly_371 g9 ?_
    obtain ⟨g10, h⟩ := h
    refine b_last dX3_atom_115 (tx_ly9 g8) g10 (fun m6 em6 => ?_)
    have h := h m6 em6
    refine b_aload_n dX3_atom_116 rfl ?_
    refine b_cVv (as := []) (st := []) dX3_atom_117 mf_X3_go qs10 lk_X3_53 ly_365 rfl (p_X3_go (f := 2) (Nat.le_refl _) _ h) (by omega) rfl rfl (Nat.le_of_ble_eq_true rfl) (by decide) rfl (fun _ => rfl) (fun r5 m7 h => ?_) (fun _ h => h)
    refine b_aload_n dX3_atom_120 rfl ?_
    refine b_bipush dX3_atom_121 (by decide) ?_
    refine b_cVi (as := [vI 40]) (st := []) dX3_atom_123 mf_X3_isSign qs15 lk_X3_49 ly_365 rfl (p_X3_isSign (f := 1) (Nat.le_refl _) _ _ h) (by omega) rfl rfl (Nat.le_of_ble_eq_true rfl) (by decide) rfl (fun _ => rfl) (fun r6 m8 h => ?_) (fun _ h => h)
    obtain ⟨g11, h⟩ := h
    refine b_if_eq 135 dX3_atom_126 g11 (by decide) (fun c3 => ?_) (fun c3 => ?_)
    · have h := ifT c3 h
      refine b_iload_n dX3_atom_135 rfl ?_
      exact b_iret dX3_atom_136 rfl h
    · have h := ifF c3 h
      refine b_aload_n dX3_atom_129 rfl ?_
      refine b_iload_n dX3_atom_130 rfl ?_
      refine b_iconst dX3_atom_131 ?_
      refine b_cVv (as := [vI r4, vI 5]) (st := []) dX3_atom_132 mf_X3_arguments qs30 lk_X3_205 ly_365 rfl (hrec.1 _ _ _ _ _ h) (by omega) rfl rfl (Nat.le_of_ble_eq_true rfl) (by decide) rfl (fun _ => rfl) (fun r7 m9 h => ?_) (fun _ h => h)
      refine b_iload_n dX3_atom_135 rfl ?_
      exact b_iret dX3_atom_136 rfl h
  have h := ifF c2 h
  by_cases c4 : (m1 368 (m1 365 2)) = 3
  · have h := ifT c4 h
    refine b_tswIn 182 dX3_atom_17 g2 (by omega) (by omega) (by rw [c4]; rfl) (by decide) ?_
    refine b_aload_n dX3_atom_182 rfl ?_
    refine b_bipush dX3_atom_183 (by decide) ?_
    refine b_cVi (as := [vI 12]) (st := []) dX3_atom_185 mf_X3_isKey qs19 lk_X3_59 ly_365 rfl (p_X3_isKey (f := 1) (Nat.le_refl _) _ _ h) (by omega) rfl rfl (Nat.le_of_ble_eq_true rfl) (by decide) rfl (fun _ => rfl) (fun r8 m10 h => ?_) (fun _ h => h)
    obtain ⟨g12, h⟩ := h
    refine b_if_ne 206 dX3_atom_188 g12 (by decide) (fun c5 => ?_) (fun c5 => ?_)
    · have h := ifF c5 h
      exact pl_X3_atom_206 hrec hf _ _ h
    · have h := ifT (Decidable.of_not_not c5) h
      refine b_aload_n dX3_atom_191 rfl ?_
      refine b_bipush dX3_atom_192 (by decide) ?_
      refine b_cVi (as := [vI 13]) (st := []) dX3_atom_194 mf_X3_isKey qs19 lk_X3_59 ly_365 rfl (p_X3_isKey (f := 1) (Nat.le_refl _) _ _ h) (by omega) rfl rfl (Nat.le_of_ble_eq_true rfl) (by decide) rfl (fun _ => rfl) (fun r9 m11 h => ?_) (fun _ h => h)
      obtain ⟨g13, h⟩ := h
      refine b_if_ne 206 dX3_atom_197 g13 (by decide) (fun c6 => ?_) (fun c6 => ?_)
      · have h := ifF c6 h
        exact pl_X3_atom_206 hrec hf _ _ h
      · have h := ifT (Decidable.of_not_not c6) h
        refine b_aload_n dX3_atom_200 rfl ?_
        refine b_iconst dX3_atom_201 ?_
        refine b_iload_n dX3_atom_202 rfl ?_
        refine b_cVv (as := [vI 1, vI r1]) (st := []) dX3_atom_203 mf_X3_fail qs11 lk_X3_45 ly_365 rfl (p_X3_fail (f := 1) (Nat.le_refl _) _ _ _ h) (by omega) rfl rfl (Nat.le_of_ble_eq_true rfl) (by decide) rfl (fun _ => rfl) (fun r10 m12 h => ?_) (fun _ h => h)
        exact pl_X3_atom_206 hrec hf _ _ h
  have h := ifF c4 h
  by_cases c7 : (m1 368 (m1 365 2)) = 4
  · have h := ifT c7 h
    refine b_tswIn 137 dX3_atom_17 g2 (by omega) (by omega) (by rw [c7]; rfl) (by decide) ?_
    refine b_aload_n dX3_atom_137 rfl ?_
    refine b_getM dX3_atom_138 fk_X3_78 ly_365 ?_
    refine b_bipush dX3_atom_141 (by decide) ?_
    refine b_iload_n dX3_atom_143 rfl ?_
    obtain ⟨g14, h⟩ := h
    refine b_cVi (as := [vI 6, vI r1]) (st := []) dX3_atom_144 mf_X2_add q951 lk_X3_153 (tx_ly0 g14) rfl (p_X2_add (f := 1) (Nat.le_refl _) _ _ _ _ h) (by omega) rfl rfl (Nat.le_of_ble_eq_true rfl) (by decide) rfl (fun _ => rfl) (fun r11 m13 h => ?_) (fun _ h => h)
    refine b_istore_n (ls' := [vR 365, vI r1, vI r11]) dX3_atom_147 (Nat.le_of_ble_eq_true rfl) rfl ?_
    refine b_aload_n dX3_atom_148 rfl ?_
    refine b_getM dX3_atom_149 fk_X3_78 ly_365 ?_
    obtain ⟨g15, h⟩ := h
    refine b_getR dX3_atom_152 fk_X3_157 (tx_ly0 g15) (tx_gg10 g15) ?_
    refine b_iload_n dX3_atom_155 rfl ?_
    refine b_aload_n dX3_atom_156 rfl ?_
    refine b_getR dX3_atom_157 fk_X3_12 ly_365 gg_365_0 ?_
    refine b_getR dX3_atom_160 fk_X3_36 ly_366 gg_366_4 ?_
    refine b_aload_n dX3_atom_163 rfl ?_
    refine b_getI dX3_atom_164 fk_X3_33 ly_365 ?_
    obtain ⟨g16, h⟩ := h
    refine b_iald dX3_atom_167 ly_369 g16 ?_
    obtain ⟨g17, h⟩ := h
    refine b_iast dX3_atom_168 (tx_ly4 g15) g17 (fun m14 em14 => ?_)
    have h := h m14 em14
    refine b_aload_n dX3_atom_169 rfl ?_
    refine b_cVv (as := []) (st := []) dX3_atom_170 mf_X3_go qs10 lk_X3_53 ly_365 rfl (p_X3_go (f := 2) (Nat.le_refl _) _ h) (by omega) rfl rfl (Nat.le_of_ble_eq_true rfl) (by decide) rfl (fun _ => rfl) (fun r12 m15 h => ?_) (fun _ h => h)
    refine b_aload_n dX3_atom_173 rfl ?_
    refine b_iload_n dX3_atom_174 rfl ?_
    refine b_bipush dX3_atom_175 (by decide) ?_
    refine b_cVv (as := [vI r11, vI 6]) (st := []) dX3_atom_177 mf_X3_arguments qs30 lk_X3_205 ly_365 rfl (hrec.1 _ _ _ _ _ h) (by omega) rfl rfl (Nat.le_of_ble_eq_true rfl) (by decide) rfl (fun _ => rfl) (fun r13 m16 h => ?_) (fun _ h => h)
    refine b_iload_n dX3_atom_180 rfl ?_
    exact b_iret dX3_atom_181 rfl h
  have h := ifF c7 h
  refine b_tswOut 235 dX3_atom_17 g2 (by omega) (by decide) ?_
  refine b_aload_n dX3_atom_235 rfl ?_
  refine b_iload_n dX3_atom_236 rfl ?_
  refine b_cVi (as := [vI r1]) (st := []) dX3_atom_237 mf_X3_signed qs31 lk_X3_208 ly_365 rfl (hrec.2.2.2.2.2.2.2.2.2.2.2.1 _ _ _ _ h) (by omega) rfl rfl (Nat.le_of_ble_eq_true rfl) (by decide) rfl (fun _ => rfl) (fun r14 m17 h => ?_) (fun _ h => h)
  exact b_iret dX3_atom_240 rfl h
theorem pl_X3_behind_105 {f : Nat} {Q : Int → MM → Prop} {T : MM → Prop} {rec : Nat → List Int → MM → (Int → MM → Prop) → (MM → Prop) → Prop} {fr : Nat} (hrec : HR_X3_expression rec fr) (hf : 27 ≤ f ∧ fr + 1 ≤ f) {K5 : Int → MM → Prop} (hK5 : ∀ (x1 : Int) (m : MM), K5 x1 m → B f M_X3_behind 5 [vR 365, vI x1, vU, vU, vU, vU] [] m Q T) : ∀ (x1 : Int) (x2 : Int) (x4 : Int) (m : MM), P_X3_behind_105 rec Q T K5 x1 x2 x4 m → B f M_X3_behind 105 [vR 365, vI x1, vI x2, vU, vI x4, vU] [] m Q T := by
  intro x1 x2 x4 m h
  have h : (isTx (m 365 1)) ∧ P_X2_add (m 365 1) x4 x2 m (fun r1 m1 => (isTx (m1 365 1)) ∧ (0 ≤ r1 ∧ r1 < 160) ∧ ∀ m2 : MM, m2 = up m1 ((m1 365 1) + 2) r1 x1 → (isTx (m2 365 1)) ∧ (0 ≤ (m2 365 2) ∧ (m2 365 2) < 401) ∧ ∀ m3 : MM, m3 = up m2 ((m2 365 1) + 4) r1 (m2 369 (m2 365 2)) → P_X3_go m3 (fun r2 m4 => K5 r1 m4) T) := h
  refine b_aload_n dX3_behind_105 rfl ?_
  refine b_getM dX3_behind_106 fk_X3_78 ly_365 ?_
  refine b_iload dX3_behind_109 rfl ?_
  refine b_iload_n dX3_behind_111 rfl ?_
  obtain ⟨g1, h⟩ := h
  refine b_cVi (as := [vI x4, vI x2]) (st := []) dX3_behind_112 mf_X2_add q951 lk_X3_153 (tx_ly0 g1) rfl (p_X2_add (f := 1) (Nat.le_refl _) _ _ _ _ h) (by omega) rfl rfl (Nat.le_of_ble_eq_true rfl) (by decide) rfl (fun _ => rfl) (fun r1 m1 h => ?_) (fun _ h => h)
  refine b_istore (ls' := [vR 365, vI x1, vI x2, vU, vI x4, vI r1]) dX3_behind_115 (Nat.le_of_ble_eq_true rfl) rfl ?_
  refine b_aload_n dX3_behind_117 rfl ?_
  refine b_getM dX3_behind_118 fk_X3_78 ly_365 ?_
  obtain ⟨g2, h⟩ := h
  refine b_getR dX3_behind_121 fk_X3_166 (tx_ly0 g2) (tx_gg8 g2) ?_
  refine b_iload dX3_behind_124 rfl ?_
  refine b_iload_n dX3_behind_126 rfl ?_
  obtain ⟨g3, h⟩ := h
  refine b_iast dX3_behind_127 (tx_ly2 g2) g3 (fun m2 em2 => ?_)
  have h := h m2 em2
  refine b_aload_n dX3_behind_128 rfl ?_
  refine b_getM dX3_behind_129 fk_X3_78 ly_365 ?_
  obtain ⟨g4, h⟩ := h
  refine b_getR dX3_behind_132 fk_X3_157 (tx_ly0 g4) (tx_gg10 g4) ?_
  refine b_iload dX3_behind_135 rfl ?_
  refine b_aload_n dX3_behind_137 rfl ?_
  refine b_getR dX3_behind_138 fk_X3_12 ly_365 gg_365_0 ?_
  refine b_getR dX3_behind_141 fk_X3_36 ly_366 gg_366_4 ?_
  refine b_aload_n dX3_behind_144 rfl ?_
  refine b_getI dX3_behind_145 fk_X3_33 ly_365 ?_
  obtain ⟨g5, h⟩ := h
  refine b_iald dX3_behind_148 ly_369 g5 ?_
  refine b_iast dX3_behind_149 (tx_ly4 g4) g3 (fun m3 em3 => ?_)
  have h := h m3 em3
  refine b_aload_n dX3_behind_150 rfl ?_
  refine b_cVv (as := []) (st := []) dX3_behind_151 mf_X3_go qs10 lk_X3_53 ly_365 rfl (p_X3_go (f := 2) (Nat.le_refl _) _ h) (by omega) rfl rfl (Nat.le_of_ble_eq_true rfl) (by decide) rfl (fun _ => rfl) (fun r2 m4 h => ?_) (fun _ h => h)
  refine b_iload dX3_behind_154 rfl ?_
  refine b_istore_n (ls' := [vR 365, vI r1, vI x2, vU, vI x4, vI r1]) dX3_behind_156 (Nat.le_of_ble_eq_true rfl) rfl ?_
  refine b_goto 176 dX3_behind_157 (by decide) ?_
  refine b_goto 5 dX3_behind_176 (by decide) ?_
  refine b_fgt [true, true, false, false, false, false] (ls' := [vR 365, vI r1, vU, vU, vU, vU]) rfl rfl ?_
  exact hK5 _ _ h
theorem pl_X3_behind_70 {f : Nat} {Q : Int → MM → Prop} {T : MM → Prop} {rec : Nat → List Int → MM → (Int → MM → Prop) → (MM → Prop) → Prop} {fr : Nat} (hrec : HR_X3_expression rec fr) (hf : 27 ≤ f ∧ fr + 1 ≤ f) {K5 : Int → MM → Prop} (hK5 : ∀ (x1 : Int) (m : MM), K5 x1 m → B f M_X3_behind 5 [vR 365, vI x1, vU, vU, vU, vU] [] m Q T) : ∀ (x1 : Int) (x2 : Int) (x3 : Int) (s0 : Int) (m : MM), P_X3_behind_70 rec Q T K5 x1 x2 x3 s0 m → B f M_X3_behind 70 [vR 365, vI x1, vI x2, vI x3, vU, vU] [vI s0] m Q T := by
  intro x1 x2 x3 s0 m h
  have h : P_X3_go m (fun r1 m1 => (RI x3) ∧ (if x3 = 0 then R_X3_type 20 0 [] m1 (fun r2 m2 => (isTx (m1 365 1)) ∧ P_X2_add_2 (m1 365 1) s0 x2 x1 r2 m2 (fun r3 m3 => K5 r3 m3)) T else (0 ≤ (m1 365 2) ∧ (m1 365 2) < 401) ∧ (RI (m1 368 (m1 365 2))) ∧ (if (m1 368 (m1 365 2)) = 1 then P_X3_behind_105 rec Q T K5 x1 x2 s0 m1 else P_X3_here m1 (fun r4 m4 => P_X3_fail 1 r4 m4 (fun r5 m5 => P_X3_behind_105 rec Q T K5 x1 x2 s0 m5) T)))) T := h
  refine b_istore (ls' := [vR 365, vI x1, vI x2, vI x3, vI s0, vU]) dX3_behind_70 (Nat.le_of_ble_eq_true rfl) rfl ?_
  refine b_aload_n dX3_behind_72 rfl ?_
  refine b_cVv (as := []) (st := []) dX3_behind_73 mf_X3_go qs10 lk_X3_53 ly_365 rfl (p_X3_go (f := 2) (Nat.le_refl _) _ h) (by omega) rfl rfl (Nat.le_of_ble_eq_true rfl) (by decide) rfl (fun _ => rfl) (fun r1 m1 h => ?_) (fun _ h => h)
  refine b_iload_n dX3_behind_76 rfl ?_
  obtain ⟨g1, h⟩ := h
  refine b_if_eq 160 dX3_behind_77 g1 (by decide) (fun c1 => ?_) (fun c1 => ?_)
  · have h := ifT c1 h
    refine b_aload_n dX3_behind_160 rfl ?_
    refine b_getM dX3_behind_161 fk_X3_78 ly_365 ?_
    refine b_iload dX3_behind_164 rfl ?_
    refine b_iload_n dX3_behind_166 rfl ?_
    refine b_iload_n dX3_behind_167 rfl ?_
    refine b_aload_n dX3_behind_168 rfl ?_
    refine b_cVi (as := []) (st := [vI x1, vI x2, vI s0, vR (m1 365 1)]) dX3_behind_169 mf_X3_type qs16 lk_X3_135 ly_365 rfl ((pr_X3_type 20 26 (Nat.le_refl _)).1 _ _ _ h) (by omega) rfl rfl (Nat.le_of_ble_eq_true rfl) (by decide) rfl (fun _ => rfl) (fun r2 m2 h => ?_) (fun _ h => h)
    obtain ⟨g2, h⟩ := h
    refine b_cVi (as := [vI s0, vI x2, vI x1, vI r2]) (st := []) dX3_behind_172 mf_X2_add_2 q1021 lk_X3_181 (tx_ly0 g2) rfl (p_X2_add_2 (f := 2) (Nat.le_refl _) _ _ _ _ _ _ h) (by omega) rfl rfl (Nat.le_of_ble_eq_true rfl) (by decide) rfl (fun _ => rfl) (fun r3 m3 h => ?_) (fun _ h => h)
    refine b_istore_n (ls' := [vR 365, vI r3, vI x2, vI x3, vI s0, vU]) dX3_behind_175 (Nat.le_of_ble_eq_true rfl) rfl ?_
    refine b_goto 5 dX3_behind_176 (by decide) ?_
    refine b_fgt [true, true, false, false, false, false] (ls' := [vR 365, vI r3, vU, vU, vU, vU]) rfl rfl ?_
    exact hK5 _ _ h
  · have h := ifF c1 h
    refine b_aload_n dX3_behind_80 rfl ?_
    refine b_getR dX3_behind_81 fk_X3_12 ly_365 gg_365_0 ?_
    refine b_getR dX3_behind_84 fk_X3_29 ly_366 gg_366_3 ?_
    refine b_aload_n dX3_behind_87 rfl ?_
    refine b_getI dX3_behind_88 fk_X3_33 ly_365 ?_
    obtain ⟨g3, h⟩ := h
    refine b_iald dX3_behind_91 ly_368 g3 ?_
    refine b_iconst dX3_behind_92 ?_
    obtain ⟨g4, h⟩ := h
    refine b_icmp_eq 105 dX3_behind_93 g4 (by decide) (by decide) (fun c2 => ?_) (fun c2 => ?_)
    · have h := ifT c2 h
      refine b_fgt [true, true, true, false, true, false] (ls' := [vR 365, vI x1, vI x2, vU, vI s0, vU]) rfl rfl ?_
      exact pl_X3_behind_105 hrec hf hK5 _ _ _ _ h
    · have h := ifF c2 h
      refine b_aload_n dX3_behind_96 rfl ?_
      refine b_iconst dX3_behind_97 ?_
      refine b_aload_n dX3_behind_98 rfl ?_
      refine b_cVi (as := []) (st := [vI 1, vR 365]) dX3_behind_99 mf_X3_here qs9 lk_X3_41 ly_365 rfl (p_X3_here (f := 1) (Nat.le_refl _) _ h) (by omega) rfl rfl (Nat.le_of_ble_eq_true rfl) (by decide) rfl (fun _ => rfl) (fun r4 m4 h => ?_) (fun _ h => h)
      refine b_cVv (as := [vI 1, vI r4]) (st := []) dX3_behind_102 mf_X3_fail qs11 lk_X3_45 ly_365 rfl (p_X3_fail (f := 1) (Nat.le_refl _) _ _ _ h) (by omega) rfl rfl (Nat.le_of_ble_eq_true rfl) (by decide) rfl (fun _ => rfl) (fun r5 m5 h => ?_) (fun _ h => h)
      refine b_fgt [true, true, true, false, true, false] (ls' := [vR 365, vI x1, vI x2, vU, vI s0, vU]) rfl rfl ?_
      exact pl_X3_behind_105 hrec hf hK5 _ _ _ _ h
theorem pl_X3_behind_33 {f : Nat} {Q : Int → MM → Prop} {T : MM → Prop} {rec : Nat → List Int → MM → (Int → MM → Prop) → (MM → Prop) → Prop} {fr : Nat} (hrec : HR_X3_expression rec fr) (hf : 27 ≤ f ∧ fr + 1 ≤ f) {K5 : Int → MM → Prop} (hK5 : ∀ (x1 : Int) (m : MM), K5 x1 m → B f M_X3_behind 5 [vR 365, vI x1, vU, vU, vU, vU] [] m Q T) : ∀ (x1 : Int) (m : MM), P_X3_behind_33 rec Q T K5 x1 m → B f M_X3_behind 33 [vR 365, vI x1, vU, vU, vU, vU] [] m Q T := by
  intro x1 m h
  have h : P_X3_here m (fun r1 m1 => P_X3_isSign 94 m1 (fun r2 m2 => (RI r2) ∧ (if r2 = 0 then P_X3_isSign 33 m2 (fun r3 m3 => (RI r3) ∧ (if r3 = 0 then P_X3_behind_70 rec Q T K5 x1 r1 r2 24 m3 else P_X3_behind_70 rec Q T K5 x1 r1 r2 25 m3)) else P_X3_behind_70 rec Q T K5 x1 r1 r2 23 m2))) := h
  refine b_aload_n dX3_behind_33 rfl ?_
  refine b_cVi (as := []) (st := []) dX3_behind_34 mf_X3_here qs9 lk_X3_41 ly_365 rfl (p_X3_here (f := 1) (Nat.le_refl _) _ h) (by omega) rfl rfl (Nat.le_of_ble_eq_true rfl) (by decide) rfl (fun _ => rfl) (fun r1 m1 h => ?_) (fun _ h => h)
  refine b_istore_n (ls' := [vR 365, vI x1, vI r1, vU, vU, vU]) dX3_behind_37 (Nat.le_of_ble_eq_true rfl) rfl ?_
  refine b_aload_n dX3_behind_38 rfl ?_
  refine b_bipush dX3_behind_39 (by decide) ?_
  refine b_cVi (as := [vI 94]) (st := []) dX3_behind_41 mf_X3_isSign qs15 lk_X3_49 ly_365 rfl (p_X3_isSign (f := 1) (Nat.le_refl _) _ _ h) (by omega) rfl rfl (Nat.le_of_ble_eq_true rfl) (by decide) rfl (fun _ => rfl) (fun r2 m2 h => ?_) (fun _ h => h)
  refine b_istore_n (ls' := [vR 365, vI x1, vI r1, vI r2, vU, vU]) dX3_behind_44 (Nat.le_of_ble_eq_true rfl) rfl ?_
  refine b_iload_n dX3_behind_45 rfl ?_
  obtain ⟨g1, h⟩ := h
  refine b_if_eq 54 dX3_behind_46 g1 (by decide) (fun c1 => ?_) (fun c1 => ?_)
  · have h := ifT c1 h
    refine b_aload_n dX3_behind_54 rfl ?_
    refine b_bipush dX3_behind_55 (by decide) ?_
    refine b_cVi (as := [vI 33]) (st := []) dX3_behind_57 mf_X3_isSign qs15 lk_X3_49 ly_365 rfl (p_X3_isSign (f := 1) (Nat.le_refl _) _ _ h) (by omega) rfl rfl (Nat.le_of_ble_eq_true rfl) (by decide) rfl (fun _ => rfl) (fun r3 m3 h => ?_) (fun _ h => h)
    obtain ⟨g2, h⟩ := h
    refine b_if_eq 68 dX3_behind_60 g2 (by decide) (fun c2 => ?_) (fun c2 => ?_)
    · have h := ifT c2 h
      refine b_bipush dX3_behind_68 (by decide) ?_
      exact pl_X3_behind_70 hrec hf hK5 _ _ _ _ _ h
    · have h := ifF c2 h
      refine b_bipush dX3_behind_63 (by decide) ?_
      refine b_goto 70 dX3_behind_65 (by decide) ?_
      exact pl_X3_behind_70 hrec hf hK5 _ _ _ _ _ h
  · have h := ifF c1 h
    refine b_bipush dX3_behind_49 (by decide) ?_
    refine b_goto 70 dX3_behind_51 (by decide) ?_
    exact pl_X3_behind_70 hrec hf hK5 _ _ _ _ _ h
theorem pl_X3_behind_5 {f : Nat} {Q : Int → MM → Prop} {T : MM → Prop} {rec : Nat → List Int → MM → (Int → MM → Prop) → (MM → Prop) → Prop} {fr : Nat} (hrec : HR_X3_expression rec fr) (hf : 27 ≤ f ∧ fr + 1 ≤ f) : ∀ (n : Nat) (x1 : Int) (m : MM), P_X3_behind_5 rec Q T n x1 m → B f M_X3_behind 5 [vR 365, vI x1, vU, vU, vU, vU] [] m Q T := by
  intro n
  induction n with
  | zero => intro x1 m h; exact h.elim
  | succ n ih =>
    intro x1 m h
    have h : P_X3_isSign 94 m (fun r1 m1 => (RI r1) ∧ (if r1 = 0 then P_X3_isSign 130 m1 (fun r2 m2 => (RI r2) ∧ (if r2 = 0 then P_X3_isSign 33 m2 (fun r3 m3 => (RI r3) ∧ (if r3 = 0 then Q x1 m3 else P_X3_behind_33 rec Q T (fun z0 z1 => P_X3_behind_5 rec Q T n z0 z1) x1 m3)) else P_X3_behind_33 rec Q T (fun z0 z1 => P_X3_behind_5 rec Q T n z0 z1) x1 m2)) else P_X3_behind_33 rec Q T (fun z0 z1 => P_X3_behind_5 rec Q T n z0 z1) x1 m1)) := h
    refine b_aload_n dX3_behind_5 rfl ?_
    refine b_bipush dX3_behind_6 (by decide) ?_
    refine b_cVi (as := [vI 94]) (st := []) dX3_behind_8 mf_X3_isSign qs15 lk_X3_49 ly_365 rfl (p_X3_isSign (f := 1) (Nat.le_refl _) _ _ h) (by omega) rfl rfl (Nat.le_of_ble_eq_true rfl) (by decide) rfl (fun _ => rfl) (fun r1 m1 h => ?_) (fun _ h => h)
    obtain ⟨g1, h⟩ := h
    refine b_if_ne 33 dX3_behind_11 g1 (by decide) (fun c1 => ?_) (fun c1 => ?_)
    · have h := ifF c1 h
      exact pl_X3_behind_33 hrec hf (fun _ _ h => ih _ _ h) _ _ h
    · have h := ifT (Decidable.of_not_not c1) h
      refine b_aload_n dX3_behind_14 rfl ?_
      refine b_sipush dX3_behind_15 (by decide) ?_
      refine b_cVi (as := [vI 130]) (st := []) dX3_behind_18 mf_X3_isSign qs15 lk_X3_49 ly_365 rfl (p_X3_isSign (f := 1) (Nat.le_refl _) _ _ h) (by omega) rfl rfl (Nat.le_of_ble_eq_true rfl) (by decide) rfl (fun _ => rfl) (fun r2 m2 h => ?_) (fun _ h => h)
      obtain ⟨g2, h⟩ := h
      refine b_if_ne 33 dX3_behind_21 g2 (by decide) (fun c2 => ?_) (fun c2 => ?_)
      · have h := ifF c2 h
        exact pl_X3_behind_33 hrec hf (fun _ _ h => ih _ _ h) _ _ h
      · have h := ifT (Decidable.of_not_not c2) h
        refine b_aload_n dX3_behind_24 rfl ?_
        refine b_bipush dX3_behind_25 (by decide) ?_
        refine b_cVi (as := [vI 33]) (st := []) dX3_behind_27 mf_X3_isSign qs15 lk_X3_49 ly_365 rfl (p_X3_isSign (f := 1) (Nat.le_refl _) _ _ h) (by omega) rfl rfl (Nat.le_of_ble_eq_true rfl) (by decide) rfl (fun _ => rfl) (fun r3 m3 h => ?_) (fun _ h => h)
        obtain ⟨g3, h⟩ := h
        refine b_if_eq 179 dX3_behind_30 g3 (by decide) (fun c3 => ?_) (fun c3 => ?_)
        · have h := ifT c3 h
          refine b_iload_n dX3_behind_179 rfl ?_
          exact b_iret dX3_behind_180 rfl h
        · have h := ifF c3 h
          exact pl_X3_behind_33 hrec hf (fun _ _ h => ih _ _ h) _ _ h
theorem w_X3_behind {f : Nat} {Q : Int → MM → Prop} {T : MM → Prop} {rec : Nat → List Int → MM → (Int → MM → Prop) → (MM → Prop) → Prop} {fr : Nat} (hrec : HR_X3_expression rec fr) (hf : 27 ≤ f ∧ fr + 1 ≤ f) (m : MM) (h : W_X3_behind rec m Q T) : CC f M_X3_behind [vR 365] m Q T := by
  refine CC.of (plainFor_of_name (by decide)) (Nat.le_of_ble_eq_true rfl) (ls := [vR 365, vU, vU, vU, vU, vU]) rfl ?_
  have h : rec 1 [] m (fun r1 m1 => ∃ nn, P_X3_behind_5 rec Q T nn r1 m1) T := h
  refine b_aload_n dX3_behind_0 rfl ?_
  refine b_cVi (as := []) (st := []) dX3_behind_1 mf_X3_atom qs29 lk_X3_202 ly_365 rfl (hrec.2.1 _ _ _ h) (by omega) rfl rfl (Nat.le_of_ble_eq_true rfl) (by decide) rfl (fun _ => rfl) (fun r1 m1 h => ?_) (fun _ h => h)
  refine b_istore_n (ls' := [vR 365, vI r1, vU, vU, vU, vU]) dX3_behind_4 (Nat.le_of_ble_eq_true rfl) rfl ?_
  obtain ⟨nn, h⟩ := h
  exact pl_X3_behind_5 hrec hf nn _ _ h
theorem pl_X3_both_5 {f : Nat} {Q : Int → MM → Prop} {T : MM → Prop} {rec : Nat → List Int → MM → (Int → MM → Prop) → (MM → Prop) → Prop} {fr : Nat} (hrec : HR_X3_expression rec fr) (hf : 27 ≤ f ∧ fr + 1 ≤ f) : ∀ (n : Nat) (x1 : Int) (m : MM), P_X3_both_5 rec Q T n x1 m → B f M_X3_both 5 [vR 365, vI x1, vU] [] m Q T := by
  intro n
  induction n with
  | zero => intro x1 m h; exact h.elim
  | succ n ih =>
    intro x1 m h
    have h : P_X3_isKey 3 m (fun r1 m1 => (RI r1) ∧ (if r1 = 0 then Q x1 m1 else P_X3_here m1 (fun r2 m2 => P_X3_go m2 (fun r3 m3 => rec 8 [] m3 (fun r4 m4 => (isTx (m3 365 1)) ∧ P_X2_add_2 (m3 365 1) 10 r2 x1 r4 m4 (fun r5 m5 => P_X3_both_5 rec Q T n r5 m5)) T) T))) := h
    refine b_aload_n dX3_both_5 rfl ?_
    refine b_iconst dX3_both_6 ?_
    refine b_cVi (as := [vI 3]) (st := []) dX3_both_7 mf_X3_isKey qs19 lk_X3_59 ly_365 rfl (p_X3_isKey (f := 1) (Nat.le_refl _) _ _ h) (by omega) rfl rfl (Nat.le_of_ble_eq_true rfl) (by decide) rfl (fun _ => rfl) (fun r1 m1 h => ?_) (fun _ h => h)
    obtain ⟨g1, h⟩ := h
    refine b_if_eq 41 dX3_both_10 g1 (by decide) (fun c1 => ?_) (fun c1 => ?_)
    · have h := ifT c1 h
      refine b_iload_n dX3_both_41 rfl ?_
      exact b_iret dX3_both_42 rfl h
    · have h := ifF c1 h
      refine b_aload_n dX3_both_13 rfl ?_
      refine b_cVi (as := []) (st := []) dX3_both_14 mf_X3_here qs9 lk_X3_41 ly_365 rfl (p_X3_here (f := 1) (Nat.le_refl _) _ h) (by omega) rfl rfl (Nat.le_of_ble_eq_true rfl) (by decide) rfl (fun _ => rfl) (fun r2 m2 h => ?_) (fun _ h => h)
      refine b_istore_n (ls' := [vR 365, vI x1, vI r2]) dX3_both_17 (Nat.le_of_ble_eq_true rfl) rfl ?_
      refine b_aload_n dX3_both_18 rfl ?_
      refine b_cVv (as := []) (st := []) dX3_both_19 mf_X3_go qs10 lk_X3_53 ly_365 rfl (p_X3_go (f := 2) (Nat.le_refl _) _ h) (by omega) rfl rfl (Nat.le_of_ble_eq_true rfl) (by decide) rfl (fun _ => rfl) (fun r3 m3 h => ?_) (fun _ h => h)
      refine b_aload_n dX3_both_22 rfl ?_
      refine b_getM dX3_both_23 fk_X3_78 ly_365 ?_
      refine b_bipush dX3_both_26 (by decide) ?_
      refine b_iload_n dX3_both_28 rfl ?_
      refine b_iload_n dX3_both_29 rfl ?_
      refine b_aload_n dX3_both_30 rfl ?_
      refine b_cVi (as := []) (st := [vI x1, vI r2, vI 10, vR (m3 365 1)]) dX3_both_31 mf_X3_negated qs23 lk_X3_184 ly_365 rfl (hrec.2.2.2.2.2.2.2.2.1 _ _ _ h) (by omega) rfl rfl (Nat.le_of_ble_eq_true rfl) (by decide) rfl (fun _ => rfl) (fun r4 m4 h => ?_) (fun _ h => h)
      obtain ⟨g2, h⟩ := h
      refine b_cVi (as := [vI 10, vI r2, vI x1, vI r4]) (st := []) dX3_both_34 mf_X2_add_2 q1021 lk_X3_181 (tx_ly0 g2) rfl (p_X2_add_2 (f := 2) (Nat.le_refl _) _ _ _ _ _ _ h) (by omega) rfl rfl (Nat.le_of_ble_eq_true rfl) (by decide) rfl (fun _ => rfl) (fun r5 m5 h => ?_) (fun _ h => h)
      refine b_istore_n (ls' := [vR 365, vI r5, vI r2]) dX3_both_37 (Nat.le_of_ble_eq_true rfl) rfl ?_
      refine b_goto 5 dX3_both_38 (by decide) ?_
      refine b_fgt [true, true, false] (ls' := [vR 365, vI r5, vU]) rfl rfl ?_
      exact ih _ _ h
theorem w_X3_both {f : Nat} {Q : Int → MM → Prop} {T : MM → Prop} {rec : Nat → List Int → MM → (Int → MM → Prop) → (MM → Prop) → Prop} {fr : Nat} (hrec : HR_X3_expression rec fr) (hf : 27 ≤ f ∧ fr + 1 ≤ f) (m : MM) (h : W_X3_both rec m Q T) : CC f M_X3_both [vR 365] m Q T := by
  refine CC.of (plainFor_of_name (by decide)) (Nat.le_of_ble_eq_true rfl) (ls := [vR 365, vU, vU]) rfl ?_
  have h : rec 8 [] m (fun r1 m1 => ∃ nn, P_X3_both_5 rec Q T nn r1 m1) T := h
  refine b_aload_n dX3_both_0 rfl ?_
  refine b_cVi (as := []) (st := []) dX3_both_1 mf_X3_negated qs23 lk_X3_184 ly_365 rfl (hrec.2.2.2.2.2.2.2.2.1 _ _ _ h) (by omega) rfl rfl (Nat.le_of_ble_eq_true rfl) (by decide) rfl (fun _ => rfl) (fun r1 m1 h => ?_) (fun _ h => h)
  refine b_istore_n (ls' := [vR 365, vI r1, vU]) dX3_both_4 (Nat.le_of_ble_eq_true rfl) rfl ?_
  obtain ⟨nn, h⟩ := h
  exact pl_X3_both_5 hrec hf nn _ _ h
theorem pl_X3_either_5 {f : Nat} {Q : Int → MM → Prop} {T : MM → Prop} {rec : Nat → List Int → MM → (Int → MM → Prop) → (MM → Prop) → Prop} {fr : Nat} (hrec : HR_X3_expression rec fr) (hf : 27 ≤ f ∧ fr + 1 ≤ f) : ∀ (n : Nat) (x1 : Int) (m : MM), P_X3_either_5 rec Q T n x1 m → B f M_X3_either 5 [vR 365, vI x1, vU] [] m Q T := by
  intro n
  induction n with
  | zero => intro x1 m h; exact h.elim
  | succ n ih =>
    intro x1 m h
    have h : P_X3_isKey 4 m (fun r1 m1 => (RI r1) ∧ (if r1 = 0 then Q x1 m1 else P_X3_here m1 (fun r2 m2 => P_X3_go m2 (fun r3 m3 => rec 3 [] m3 (fun r4 m4 => (isTx (m3 365 1)) ∧ P_X2_add_2 (m3 365 1) 9 r2 x1 r4 m4 (fun r5 m5 => P_X3_either_5 rec Q T n r5 m5)) T) T))) := h
    refine b_aload_n dX3_either_5 rfl ?_
    refine b_iconst dX3_either_6 ?_
    refine b_cVi (as := [vI 4]) (st := []) dX3_either_7 mf_X3_isKey qs19 lk_X3_59 ly_365 rfl (p_X3_isKey (f := 1) (Nat.le_refl _) _ _ h) (by omega) rfl rfl (Nat.le_of_ble_eq_true rfl) (by decide) rfl (fun _ => rfl) (fun r1 m1 h => ?_) (fun _ h => h)
    obtain ⟨g1, h⟩ := h
    refine b_if_eq 41 dX3_either_10 g1 (by decide) (fun c1 => ?_) (fun c1 => ?_)
    · have h := ifT c1 h
      refine b_iload_n dX3_either_41 rfl ?_
      exact b_iret dX3_either_42 rfl h
    · have h := ifF c1 h
      refine b_aload_n dX3_either_13 rfl ?_
      refine b_cVi (as := []) (st := []) dX3_either_14 mf_X3_here qs9 lk_X3_41 ly_365 rfl (p_X3_here (f := 1) (Nat.le_refl _) _ h) (by omega) rfl rfl (Nat.le_of_ble_eq_true rfl) (by decide) rfl (fun _ => rfl) (fun r2 m2 h => ?_) (fun _ h => h)
      refine b_istore_n (ls' := [vR 365, vI x1, vI r2]) dX3_either_17 (Nat.le_of_ble_eq_true rfl) rfl ?_
      refine b_aload_n dX3_either_18 rfl ?_
      refine b_cVv (as := []) (st := []) dX3_either_19 mf_X3_go qs10 lk_X3_53 ly_365 rfl (p_X3_go (f := 2) (Nat.le_refl _) _ h) (by omega) rfl rfl (Nat.le_of_ble_eq_true rfl) (by decide) rfl (fun _ => rfl) (fun r3 m3 h => ?_) (fun _ h => h)
      refine b_aload_n dX3_either_22 rfl ?_
      refine b_getM dX3_either_23 fk_X3_78 ly_365 ?_
      refine b_bipush dX3_either_26 (by decide) ?_
      refine b_iload_n dX3_either_28 rfl ?_
      refine b_iload_n dX3_either_29 rfl ?_
      refine b_aload_n dX3_either_30 rfl ?_
      refine b_cVi (as := []) (st := [vI x1, vI r2, vI 9, vR (m3 365 1)]) dX3_either_31 mf_X3_both qs22 lk_X3_178 ly_365 rfl (hrec.2.2.2.1 _ _ _ h) (by omega) rfl rfl (Nat.le_of_ble_eq_true rfl) (by decide) rfl (fun _ => rfl) (fun r4 m4 h => ?_) (fun _ h => h)
      obtain ⟨g2, h⟩ := h
      refine b_cVi (as := [vI 9, vI r2, vI x1, vI r4]) (st := []) dX3_either_34 mf_X2_add_2 q1021 lk_X3_181 (tx_ly0 g2) rfl (p_X2_add_2 (f := 2) (Nat.le_refl _) _ _ _ _ _ _ h) (by omega) rfl rfl (Nat.le_of_ble_eq_true rfl) (by decide) rfl (fun _ => rfl) (fun r5 m5 h => ?_) (fun _ h => h)
      refine b_istore_n (ls' := [vR 365, vI r5, vI r2]) dX3_either_37 (Nat.le_of_ble_eq_true rfl) rfl ?_
      refine b_goto 5 dX3_either_38 (by decide) ?_
      refine b_fgt [true, true, false] (ls' := [vR 365, vI r5, vU]) rfl rfl ?_
      exact ih _ _ h
theorem w_X3_either {f : Nat} {Q : Int → MM → Prop} {T : MM → Prop} {rec : Nat → List Int → MM → (Int → MM → Prop) → (MM → Prop) → Prop} {fr : Nat} (hrec : HR_X3_expression rec fr) (hf : 27 ≤ f ∧ fr + 1 ≤ f) (m : MM) (h : W_X3_either rec m Q T) : CC f M_X3_either [vR 365] m Q T := by
  refine CC.of (plainFor_of_name (by decide)) (Nat.le_of_ble_eq_true rfl) (ls := [vR 365, vU, vU]) rfl ?_
  have h : rec 3 [] m (fun r1 m1 => ∃ nn, P_X3_either_5 rec Q T nn r1 m1) T := h
  refine b_aload_n dX3_either_0 rfl ?_
  refine b_cVi (as := []) (st := []) dX3_either_1 mf_X3_both qs22 lk_X3_178 ly_365 rfl (hrec.2.2.2.1 _ _ _ h) (by omega) rfl rfl (Nat.le_of_ble_eq_true rfl) (by decide) rfl (fun _ => rfl) (fun r1 m1 h => ?_) (fun _ h => h)
  refine b_istore_n (ls' := [vR 365, vI r1, vU]) dX3_either_4 (Nat.le_of_ble_eq_true rfl) rfl ?_
  obtain ⟨nn, h⟩ := h
  exact pl_X3_either_5 hrec hf nn _ _ h
theorem w_X3_expression {f : Nat} {Q : Int → MM → Prop} {T : MM → Prop} {rec : Nat → List Int → MM → (Int → MM → Prop) → (MM → Prop) → Prop} {fr : Nat} (hrec : HR_X3_expression rec fr) (hf : 27 ≤ f ∧ fr + 1 ≤ f) (m : MM) (h : W_X3_expression rec m Q T) : CC f M_X3_expression [vR 365] m Q T := by
  refine CC.of (plainFor_of_name (by decide)) (Nat.le_of_ble_eq_true rfl) (ls := [vR 365, vU, vU, vU, vU]) rfl ?_
  have h : P_X3_isKey 0 m (fun r1 m1 => (RI r1) ∧ (if r1 = 0 then rec 4 [] m1 (fun r10 m14 => Q r10 m14) T else P_X3_here m1 (fun r2 m2 => (isTx (m1 365 1)) ∧ P_X2_add (m1 365 1) 8 r2 m2 (fun r3 m3 => P_X3_opens m3 (fun r4 m4 => rec 5 [] m4 (fun r5 m5 => P_X3_needKey 1 m5 (fun r6 m6 => rec 5 [] m6 (fun r7 m7 => P_X3_needKey 2 m7 (fun r8 m8 => rec 5 [] m8 (fun r9 m9 => ∀ m10 : MM, m10 = up m9 365 3 ((m9 365 3) - 1) → (isTx (m10 365 1)) ∧ (0 ≤ r3 ∧ r3 < 160) ∧ ∀ m11 : MM, m11 = up m10 ((m10 365 1) + 2) r3 r5 → (isTx (m11 365 1)) ∧ (0 ≤ r5 ∧ r5 < 160) ∧ ∀ m12 : MM, m12 = up m11 ((m11 365 1) + 3) r5 r7 → (isTx (m12 365 1)) ∧ (0 ≤ r7 ∧ r7 < 160) ∧ ∀ m13 : MM, m13 = up m12 ((m12 365 1) + 3) r7 r9 → Q r3 m13) T) T) T) T) T) T)))) := h
  refine b_aload_n dX3_expression_0 rfl ?_
  refine b_iconst dX3_expression_1 ?_
  refine b_cVi (as := [vI 0]) (st := []) dX3_expression_2 mf_X3_isKey qs19 lk_X3_59 ly_365 rfl (p_X3_isKey (f := 1) (Nat.le_refl _) _ _ h) (by omega) rfl rfl (Nat.le_of_ble_eq_true rfl) (by decide) rfl (fun _ => rfl) (fun r1 m1 h => ?_) (fun _ h => h)
  obtain ⟨g1, h⟩ := h
  refine b_if_ne 13 dX3_expression_5 g1 (by decide) (fun c1 => ?_) (fun c1 => ?_)
  · have h := ifF c1 h
    refine b_aload_n dX3_expression_13 rfl ?_
    refine b_getM dX3_expression_14 fk_X3_78 ly_365 ?_
    refine b_bipush dX3_expression_17 (by decide) ?_
    refine b_aload_n dX3_expression_19 rfl ?_
    refine b_cVi (as := []) (st := [vI 8, vR (m1 365 1)]) dX3_expression_20 mf_X3_here qs9 lk_X3_41 ly_365 rfl (p_X3_here (f := 1) (Nat.le_refl _) _ h) (by omega) rfl rfl (Nat.le_of_ble_eq_true rfl) (by decide) rfl (fun _ => rfl) (fun r2 m2 h => ?_) (fun _ h => h)
    obtain ⟨g2, h⟩ := h
    refine b_cVi (as := [vI 8, vI r2]) (st := []) dX3_expression_23 mf_X2_add q951 lk_X3_153 (tx_ly0 g2) rfl (p_X2_add (f := 1) (Nat.le_refl _) _ _ _ _ h) (by omega) rfl rfl (Nat.le_of_ble_eq_true rfl) (by decide) rfl (fun _ => rfl) (fun r3 m3 h => ?_) (fun _ h => h)
    refine b_istore_n (ls' := [vR 365, vI r3, vU, vU, vU]) dX3_expression_26 (Nat.le_of_ble_eq_true rfl) rfl ?_
    refine b_aload_n dX3_expression_27 rfl ?_
    refine b_cVv (as := []) (st := []) dX3_expression_28 mf_X3_opens qs12 lk_X3_68 ly_365 rfl (p_X3_opens (f := 3) (Nat.le_refl _) _ h) (by omega) rfl rfl (Nat.le_of_ble_eq_true rfl) (by decide) rfl (fun _ => rfl) (fun r4 m4 h => ?_) (fun _ h => h)
    refine b_aload_n dX3_expression_31 rfl ?_
    refine b_cVi (as := []) (st := []) dX3_expression_32 mf_X3_expression qs20 lk_X3_114 ly_365 rfl (hrec.2.2.2.2.2.1 _ _ _ h) (by omega) rfl rfl (Nat.le_of_ble_eq_true rfl) (by decide) rfl (fun _ => rfl) (fun r5 m5 h => ?_) (fun _ h => h)
    refine b_istore_n (ls' := [vR 365, vI r3, vI r5, vU, vU]) dX3_expression_35 (Nat.le_of_ble_eq_true rfl) rfl ?_
    refine b_aload_n dX3_expression_36 rfl ?_
    refine b_iconst dX3_expression_37 ?_
    refine b_cVv (as := [vI 1]) (st := []) dX3_expression_38 mf_X3_needKey qs33 lk_X3_172 ly_365 rfl (p_X3_needKey (f := 4) (Nat.le_refl _) _ _ h) (by omega) rfl rfl (Nat.le_of_ble_eq_true rfl) (by decide) rfl (fun _ => rfl) (fun r6 m6 h => ?_) (fun _ h => h)
    refine b_aload_n dX3_expression_41 rfl ?_
    refine b_cVi (as := []) (st := []) dX3_expression_42 mf_X3_expression qs20 lk_X3_114 ly_365 rfl (hrec.2.2.2.2.2.1 _ _ _ h) (by omega) rfl rfl (Nat.le_of_ble_eq_true rfl) (by decide) rfl (fun _ => rfl) (fun r7 m7 h => ?_) (fun _ h => h)
    refine b_istore_n (ls' := [vR 365, vI r3, vI r5, vI r7, vU]) dX3_expression_45 (Nat.le_of_ble_eq_true rfl) rfl ?_
    refine b_aload_n dX3_expression_46 rfl ?_
    refine b_iconst dX3_expression_47 ?_
    refine b_cVv (as := [vI 2]) (st := []) dX3_expression_48 mf_X3_needKey qs33 lk_X3_172 ly_365 rfl (p_X3_needKey (f := 4) (Nat.le_refl _) _ _ h) (by omega) rfl rfl (Nat.le_of_ble_eq_true rfl) (by decide) rfl (fun _ => rfl) (fun r8 m8 h => ?_) (fun _ h => h)
    refine b_aload_n dX3_expression_51 rfl ?_
    refine b_cVi (as := []) (st := []) dX3_expression_52 mf_X3_expression qs20 lk_X3_114 ly_365 rfl (hrec.2.2.2.2.2.1 _ _ _ h) (by omega) rfl rfl (Nat.le_of_ble_eq_true rfl) (by decide) rfl (fun _ => rfl) (fun r9 m9 h => ?_) (fun _ h => h)
    refine b_istore (ls' := [vR 365, vI r3, vI r5, vI r7, vI r9]) dX3_expression_55 (Nat.le_of_ble_eq_true rfl) rfl ?_
    refine b_aload_n dX3_expression_57 rfl ?_
    refine b_dup dX3_expression_58 rfl ?_
    refine b_getI dX3_expression_59 fk_X3_65 ly_365 ?_
    refine b_iconst dX3_expression_62 ?_
    refine b_isub dX3_expression_63 ?_
    refine b_putI dX3_expression_64 fk_X3_65 ly_365 (fun m10 em10 => ?_)
    have h := h m10 em10
    refine b_aload_n dX3_expression_67 rfl ?_
    refine b_getM dX3_expression_68 fk_X3_78 ly_365 ?_
    obtain ⟨g3, h⟩ := h
    refine b_getR dX3_expression_71 fk_X3_166 (tx_ly0 g3) (tx_gg8 g3) ?_
    refine b_iload_n dX3_expression_74 rfl ?_
    refine b_iload_n dX3_expression_75 rfl ?_
    obtain ⟨g4, h⟩ := h
    refine b_iast dX3_expression_76 (tx_ly2 g3) g4 (fun m11 em11 => ?_)
    have h := h m11 em11
    refine b_aload_n dX3_expression_77 rfl ?_
    refine b_getM dX3_expression_78 fk_X3_78 ly_365 ?_
    obtain ⟨g5, h⟩ := h
    refine b_getR dX3_expression_81 fk_X3_175 (tx_ly0 g5) (tx_gg9 g5) ?_
    refine b_iload_n dX3_expression_84 rfl ?_
    refine b_iload_n dX3_expression_85 rfl ?_
    obtain ⟨g6, h⟩ := h
    refine b_iast dX3_expression_86 (tx_ly3 g5) g6 (fun m12 em12 => ?_)
    have h := h m12 em12
    refine b_aload_n dX3_expression_87 rfl ?_
    refine b_getM dX3_expression_88 fk_X3_78 ly_365 ?_
    obtain ⟨g7, h⟩ := h
    refine b_getR dX3_expression_91 fk_X3_175 (tx_ly0 g7) (tx_gg9 g7) ?_
    refine b_iload_n dX3_expression_94 rfl ?_
    refine b_iload dX3_expression_95 rfl ?_
    obtain ⟨g8, h⟩ := h
    refine b_iast dX3_expression_97 (tx_ly3 g7) g8 (fun m13 em13 => ?_)
    have h := h m13 em13
    refine b_iload_n dX3_expression_98 rfl ?_
    exact b_iret dX3_expression_99 rfl h
  · have h := ifT (Decidable.of_not_not c1) h
    refine b_aload_n dX3_expression_8 rfl ?_
    refine b_cVi (as := []) (st := []) dX3_expression_9 mf_X3_either qs21 lk_X3_169 ly_365 rfl (hrec.2.2.2.2.1 _ _ _ h) (by omega) rfl rfl (Nat.le_of_ble_eq_true rfl) (by decide) rfl (fun _ => rfl) (fun r10 m14 h => ?_) (fun _ h => h)
    exact b_iret dX3_expression_12 rfl h
theorem pl_X3_matrix_127 {f : Nat} {Q : Int → MM → Prop} {T : MM → Prop} {rec : Nat → List Int → MM → (Int → MM → Prop) → (MM → Prop) → Prop} {fr : Nat} (hrec : HR_X3_expression rec fr) (hf : 27 ≤ f ∧ fr + 1 ≤ f) : ∀ (x2 : Int) (x3 : Int) (x5 : Int) (x6 : Int) (m : MM), P_X3_matrix_127 rec Q T x2 x3 x5 x6 m → B f M_X3_matrix 127 [vR 365, vU, vI x2, vI x3, vU, vI x5, vI x6, vU, vU] [] m Q T := by
  intro x2 x3 x5 x6 m h
  have h : P_X3_closes 93 m (fun r1 m1 => (isTx (m1 365 1)) ∧ (RI x5) ∧ (RI x3) ∧ (if x5 = x3 then (RI x6) ∧ (if x6 = x3 then (if 3 < x3 then (0 ≤ x2 ∧ x2 < 160) ∧ ∀ m4 : MM, m4 = up m1 ((m1 365 1) + 4) x2 0 → Q x2 m4 else (0 ≤ x2 ∧ x2 < 160) ∧ ∀ m5 : MM, m5 = up m1 ((m1 365 1) + 4) x2 x3 → Q x2 m5) else (0 ≤ x2 ∧ x2 < 160) ∧ ∀ m3 : MM, m3 = up m1 ((m1 365 1) + 4) x2 0 → Q x2 m3) else (0 ≤ x2 ∧ x2 < 160) ∧ ∀ m2 : MM, m2 = up m1 ((m1 365 1) + 4) x2 0 → Q x2 m2)) T := h
  refine b_aload_n dX3_matrix_127 rfl ?_
  refine b_bipush dX3_matrix_128 (by decide) ?_
  refine b_cVv (as := [vI 93]) (st := []) dX3_matrix_130 mf_X3_closes qs18 lk_X3_138 ly_365 rfl (p_X3_closes (f := 5) (Nat.le_refl _) _ _ h) (by omega) rfl rfl (Nat.le_of_ble_eq_true rfl) (by decide) rfl (fun _ => rfl) (fun r1 m1 h => ?_) (fun _ h => h)
  refine b_aload_n dX3_matrix_133 rfl ?_
  refine b_getM dX3_matrix_134 fk_X3_78 ly_365 ?_
  obtain ⟨g1, h⟩ := h
  refine b_getR dX3_matrix_137 fk_X3_157 (tx_ly0 g1) (tx_gg10 g1) ?_
  refine b_iload_n dX3_matrix_140 rfl ?_
  refine b_iload dX3_matrix_141 rfl ?_
  refine b_iload_n dX3_matrix_143 rfl ?_
  obtain ⟨g2, h⟩ := h
  obtain ⟨g3, h⟩ := h
  refine b_icmp_ne 162 dX3_matrix_144 g2 g3 (by decide) (fun c1 => ?_) (fun c1 => ?_)
  · have h := ifF c1 h
    refine b_iconst dX3_matrix_162 ?_
    obtain ⟨g4, h⟩ := h
    refine b_iast dX3_matrix_163 (tx_ly4 g1) g4 (fun m2 em2 => ?_)
    have h := h m2 em2
    refine b_iload_n dX3_matrix_164 rfl ?_
    exact b_iret dX3_matrix_165 rfl h
  · have h := ifT (Decidable.of_not_not c1) h
    refine b_iload dX3_matrix_147 rfl ?_
    refine b_iload_n dX3_matrix_149 rfl ?_
    obtain ⟨g5, h⟩ := h
    refine b_icmp_ne 162 dX3_matrix_150 g5 g3 (by decide) (fun c2 => ?_) (fun c2 => ?_)
    · have h := ifF c2 h
      refine b_iconst dX3_matrix_162 ?_
      obtain ⟨g6, h⟩ := h
      refine b_iast dX3_matrix_163 (tx_ly4 g1) g6 (fun m3 em3 => ?_)
      have h := h m3 em3
      refine b_iload_n dX3_matrix_164 rfl ?_
      exact b_iret dX3_matrix_165 rfl h
    · have h := ifT (Decidable.of_not_not c2) h
      refine b_iload_n dX3_matrix_153 rfl ?_
      refine b_iconst dX3_matrix_154 ?_
      refine b_icmp_gt 162 dX3_matrix_155 g3 (by decide) (by decide) (fun c3 => ?_) (fun c3 => ?_)
      · have h := ifT c3 h
        refine b_iconst dX3_matrix_162 ?_
        obtain ⟨g7, h⟩ := h
        refine b_iast dX3_matrix_163 (tx_ly4 g1) g7 (fun m4 em4 => ?_)
        have h := h m4 em4
        refine b_iload_n dX3_matrix_164 rfl ?_
        exact b_iret dX3_matrix_165 rfl h
      · have h := ifF c3 h
        refine b_iload_n dX3_matrix_158 rfl ?_
        refine b_goto 163 dX3_matrix_159 (by decide) ?_
        obtain ⟨g8, h⟩ := h
        refine b_iast dX3_matrix_163 (tx_ly4 g1) g8 (fun m5 em5 => ?_)
        have h := h m5 em5
        refine b_iload_n dX3_matrix_164 rfl ?_
        exact b_iret dX3_matrix_165 rfl h
theorem pl_X3_matrix_91 {f : Nat} {Q : Int → MM → Prop} {T : MM → Prop} {rec : Nat → List Int → MM → (Int → MM → Prop) → (MM → Prop) → Prop} {fr : Nat} (hrec : HR_X3_expression rec fr) (hf : 27 ≤ f ∧ fr + 1 ≤ f) {K28 : Int → Int → Int → Int → Int → MM → Prop} (hK28 : ∀ (x2 : Int) (x3 : Int) (x4 : Int) (x5 : Int) (x6 : Int) (m : MM), K28 x2 x3 x4 x5 x6 m → B f M_X3_matrix 28 [vR 365, vU, vI x2, vI x3, vI x4, vI x5, vI x6, vU, vU] [] m Q T) : ∀ (x2 : Int) (x3 : Int) (x4 : Int) (x5 : Int) (x6 : Int) (x7 : Int) (m : MM), P_X3_matrix_91 rec Q T K28 x2 x3 x4 x5 x6 x7 m → B f M_X3_matrix 91 [vR 365, vU, vI x2, vI x3, vI x4, vI x5, vI x6, vI x7, vU] [] m Q T := by
  intro x2 x3 x4 x5 x6 x7 m h
  have h : P_X3_closes 93 m (fun r1 m1 => P_J4_min x5 x7 m1 (fun r2 m2 => P_J4_max x6 x7 m2 (fun r3 m3 => P_X3_takes 44 m3 (fun r4 m4 => (RI r4) ∧ (if r4 = 0 then P_X3_matrix_127 rec Q T x2 (x3 + 1) r2 r3 m4 else K28 x2 (x3 + 1) x4 r2 r3 m4)) T))) T := h
  refine b_aload_n dX3_matrix_91 rfl ?_
  refine b_bipush dX3_matrix_92 (by decide) ?_
  refine b_cVv (as := [vI 93]) (st := []) dX3_matrix_94 mf_X3_closes qs18 lk_X3_138 ly_365 rfl (p_X3_closes (f := 5) (Nat.le_refl _) _ _ h) (by omega) rfl rfl (Nat.le_of_ble_eq_true rfl) (by decide) rfl (fun _ => rfl) (fun r1 m1 h => ?_) (fun _ h => h)
  refine b_iload dX3_matrix_97 rfl ?_
  refine b_iload dX3_matrix_99 rfl ?_
  refine b_cSi (as := [vI x5, vI x7]) (st := []) dX3_matrix_101 mf_J4_min lk_X3_216 (p_J4_min (f := 1) (Nat.le_refl _) _ _ _ h) (by omega) rfl rfl (Nat.le_of_ble_eq_true rfl) (by decide) rfl (fun _ => rfl) (fun r2 m2 h => ?_) (fun _ h => h)
  refine b_istore (ls' := [vR 365, vU, vI x2, vI x3, vI x4, vI r2, vI x6, vI x7, vU]) dX3_matrix_104 (Nat.le_of_ble_eq_true rfl) rfl ?_
  refine b_iload dX3_matrix_106 rfl ?_
  refine b_iload dX3_matrix_108 rfl ?_
  refine b_cSi (as := [vI x6, vI x7]) (st := []) dX3_matrix_110 mf_J4_max lk_X3_221 (p_J4_max (f := 1) (Nat.le_refl _) _ _ _ h) (by omega) rfl rfl (Nat.le_of_ble_eq_true rfl) (by decide) rfl (fun _ => rfl) (fun r3 m3 h => ?_) (fun _ h => h)
  refine b_istore (ls' := [vR 365, vU, vI x2, vI x3, vI x4, vI r2, vI r3, vI x7, vU]) dX3_matrix_113 (Nat.le_of_ble_eq_true rfl) rfl ?_
  refine b_iinc (ls' := [vR 365, vU, vI x2, vI (x3 + 1), vI x4, vI r2, vI r3, vI x7, vU]) dX3_matrix_115 rfl rfl ?_
  refine b_aload_n dX3_matrix_118 rfl ?_
  refine b_bipush dX3_matrix_119 (by decide) ?_
  refine b_cVi (as := [vI 44]) (st := []) dX3_matrix_121 mf_X3_takes qs14 lk_X3_56 ly_365 rfl (p_X3_takes (f := 3) (Nat.le_refl _) _ _ h) (by omega) rfl rfl (Nat.le_of_ble_eq_true rfl) (by decide) rfl (fun _ => rfl) (fun r4 m4 h => ?_) (fun _ h => h)
  obtain ⟨g1, h⟩ := h
  refine b_if_ne 28 dX3_matrix_124 g1 (by decide) (fun c1 => ?_) (fun c1 => ?_)
  · have h := ifF c1 h
    refine b_fgt [true, false, true, true, true, true, true, false, false] (ls' := [vR 365, vU, vI x2, vI (x3 + 1), vI x4, vI r2, vI r3, vU, vU]) rfl rfl ?_
    exact hK28 _ _ _ _ _ _ h
  · have h := ifT (Decidable.of_not_not c1) h
    refine b_fgt [true, false, true, true, false, true, true, false, false] (ls' := [vR 365, vU, vI x2, vI (x3 + 1), vU, vI r2, vI r3, vU, vU]) rfl rfl ?_
    exact pl_X3_matrix_127 hrec hf _ _ _ _ _ h
theorem pl_X3_matrix_75 {f : Nat} {Q : Int → MM → Prop} {T : MM → Prop} {rec : Nat → List Int → MM → (Int → MM → Prop) → (MM → Prop) → Prop} {fr : Nat} (hrec : HR_X3_expression rec fr) (hf : 27 ≤ f ∧ fr + 1 ≤ f) {K28 : Int → Int → Int → Int → Int → MM → Prop} {K37 : Int → Int → Int → Int → Int → Int → MM → Prop} (hK28 : ∀ (x2 : Int) (x3 : Int) (x4 : Int) (x5 : Int) (x6 : Int) (m : MM), K28 x2 x3 x4 x5 x6 m → B f M_X3_matrix 28 [vR 365, vU, vI x2, vI x3, vI x4, vI x5, vI x6, vU, vU] [] m Q T) (hK37 : ∀ (x2 : Int) (x3 : Int) (x4 : Int) (x5 : Int) (x6 : Int) (x7 : Int) (m : MM), K37 x2 x3 x4 x5 x6 x7 m → B f M_X3_matrix 37 [vR 365, vU, vI x2, vI x3, vI x4, vI x5, vI x6, vI x7, vU] [] m Q T) : ∀ (x2 : Int) (x3 : Int) (x5 : Int) (x6 : Int) (x7 : Int) (x8 : Int) (m : MM), P_X3_matrix_75 rec Q T K28 K37 x2 x3 x5 x6 x7 x8 m → B f M_X3_matrix 75 [vR 365, vU, vI x2, vI x3, vU, vI x5, vI x6, vI x7, vI x8] [] m Q T := by
  intro x2 x3 x5 x6 x7 x8 m h
  have h : P_X3_takes 44 m (fun r1 m1 => (RI r1) ∧ (if r1 = 0 then P_X3_matrix_91 rec Q T K28 x2 x3 x8 x5 x6 (x7 + 1) m1 else K37 x2 x3 x8 x5 x6 (x7 + 1) m1)) T := h
  refine b_iload dX3_matrix_75 rfl ?_
  refine b_istore (ls' := [vR 365, vU, vI x2, vI x3, vI x8, vI x5, vI x6, vI x7, vI x8]) dX3_matrix_77 (Nat.le_of_ble_eq_true rfl) rfl ?_
  refine b_iinc (ls' := [vR 365, vU, vI x2, vI x3, vI x8, vI x5, vI x6, vI (x7 + 1), vI x8]) dX3_matrix_79 rfl rfl ?_
  refine b_aload_n dX3_matrix_82 rfl ?_
  refine b_bipush dX3_matrix_83 (by decide) ?_
  refine b_cVi (as := [vI 44]) (st := []) dX3_matrix_85 mf_X3_takes qs14 lk_X3_56 ly_365 rfl (p_X3_takes (f := 3) (Nat.le_refl _) _ _ h) (by omega) rfl rfl (Nat.le_of_ble_eq_true rfl) (by decide) rfl (fun _ => rfl) (fun r1 m1 h => ?_) (fun _ h => h)
  obtain ⟨g1, h⟩ := h
  refine b_if_ne 37 dX3_matrix_88 g1 (by decide) (fun c1 => ?_) (fun c1 => ?_)
  · have h := ifF c1 h
    refine b_fgt [true, false, true, true, true, true, true, true, false] (ls' := [vR 365, vU, vI x2, vI x3, vI x8, vI x5, vI x6, vI (x7 + 1), vU]) rfl rfl ?_
    exact hK37 _ _ _ _ _ _ _ h
  · have h := ifT (Decidable.of_not_not c1) h
    refine b_fgt [true, false, true, true, true, true, true, true, false] (ls' := [vR 365, vU, vI x2, vI x3, vI x8, vI x5, vI x6, vI (x7 + 1), vU]) rfl rfl ?_
    exact pl_X3_matrix_91 hrec hf hK28 _ _ _ _ _ _ _ h
theorem pl_X3_matrix_37 {f : Nat} {Q : Int → MM → Prop} {T : MM → Prop} {rec : Nat → List Int → MM → (Int → MM → Prop) → (MM → Prop) → Prop} {fr : Nat} (hrec : HR_X3_expression rec fr) (hf : 27 ≤ f ∧ fr + 1 ≤ f) {K28 : Int → Int → Int → Int → Int → MM → Prop} (hK28 : ∀ (x2 : Int) (x3 : Int) (x4 : Int) (x5 : Int) (x6 : Int) (m : MM), K28 x2 x3 x4 x5 x6 m → B f M_X3_matrix 28 [vR 365, vU, vI x2, vI x3, vI x4, vI x5, vI x6, vU, vU] [] m Q T) : ∀ (n : Nat) (x2 : Int) (x3 : Int) (x4 : Int) (x5 : Int) (x6 : Int) (x7 : Int) (m : MM), P_X3_matrix_37 rec Q T K28 n x2 x3 x4 x5 x6 x7 m → B f M_X3_matrix 37 [vR 365, vU, vI x2, vI x3, vI x4, vI x5, vI x6, vI x7, vU] [] m Q T := by
  intro n
  induction n with
  | zero => intro x2 x3 x4 x5 x6 x7 m h; exact h.elim
  | succ n ih =>
    intro x2 x3 x4 x5 x6 x7 m h
    have h : rec 5 [] m (fun r1 m1 => (RI x4) ∧ (if x4 = (-1) then (isTx (m1 365 1)) ∧ (0 ≤ x2 ∧ x2 < 160) ∧ ∀ m3 : MM, m3 = up m1 ((m1 365 1) + 2) x2 r1 → P_X3_matrix_75 rec Q T K28 (fun z0 z1 z2 z3 z4 z5 z6 => P_X3_matrix_37 rec Q T K28 n z0 z1 z2 z3 z4 z5 z6) x2 x3 x5 x6 x7 r1 m3 else (isTx (m1 365 1)) ∧ (0 ≤ x4 ∧ x4 < 160) ∧ ∀ m2 : MM, m2 = up m1 ((m1 365 1) + 3) x4 r1 → P_X3_matrix_75 rec Q T K28 (fun z0 z1 z2 z3 z4 z5 z6 => P_X3_matrix_37 rec Q T K28 n z0 z1 z2 z3 z4 z5 z6) x2 x3 x5 x6 x7 r1 m2)) T := h
    refine b_aload_n dX3_matrix_37 rfl ?_
    refine b_cVi (as := []) (st := []) dX3_matrix_38 mf_X3_expression qs20 lk_X3_114 ly_365 rfl (hrec.2.2.2.2.2.1 _ _ _ h) (by omega) rfl rfl (Nat.le_of_ble_eq_true rfl) (by decide) rfl (fun _ => rfl) (fun r1 m1 h => ?_) (fun _ h => h)
    refine b_istore (ls' := [vR 365, vU, vI x2, vI x3, vI x4, vI x5, vI x6, vI x7, vI r1]) dX3_matrix_41 (Nat.le_of_ble_eq_true rfl) rfl ?_
    refine b_iload dX3_matrix_43 rfl ?_
    refine b_iconst dX3_matrix_45 ?_
    obtain ⟨g1, h⟩ := h
    refine b_icmp_ne 63 dX3_matrix_46 g1 (by decide) (by decide) (fun c1 => ?_) (fun c1 => ?_)
    · have h := ifF c1 h
      refine b_aload_n dX3_matrix_63 rfl ?_
      refine b_getM dX3_matrix_64 fk_X3_78 ly_365 ?_
      obtain ⟨g2, h⟩ := h
      refine b_getR dX3_matrix_67 fk_X3_175 (tx_ly0 g2) (tx_gg9 g2) ?_
      refine b_iload dX3_matrix_70 rfl ?_
      refine b_iload dX3_matrix_72 rfl ?_
      obtain ⟨g3, h⟩ := h
      refine b_iast dX3_matrix_74 (tx_ly3 g2) g3 (fun m2 em2 => ?_)
      have h := h m2 em2
      refine b_fgt [true, false, true, true, false, true, true, true, true] (ls' := [vR 365, vU, vI x2, vI x3, vU, vI x5, vI x6, vI x7, vI r1]) rfl rfl ?_
      exact pl_X3_matrix_75 hrec hf hK28 (fun _ _ _ _ _ _ _ h => ih _ _ _ _ _ _ _ h) _ _ _ _ _ _ _ h
    · have h := ifT (Decidable.of_not_not c1) h
      refine b_aload_n dX3_matrix_49 rfl ?_
      refine b_getM dX3_matrix_50 fk_X3_78 ly_365 ?_
      obtain ⟨g4, h⟩ := h
      refine b_getR dX3_matrix_53 fk_X3_166 (tx_ly0 g4) (tx_gg8 g4) ?_
      refine b_iload_n dX3_matrix_56 rfl ?_
      refine b_iload dX3_matrix_57 rfl ?_
      obtain ⟨g5, h⟩ := h
      refine b_iast dX3_matrix_59 (tx_ly2 g4) g5 (fun m3 em3 => ?_)
      have h := h m3 em3
      refine b_goto 75 dX3_matrix_60 (by decide) ?_
      refine b_fgt [true, false, true, true, false, true, true, true, true] (ls' := [vR 365, vU, vI x2, vI x3, vU, vI x5, vI x6, vI x7, vI r1]) rfl rfl ?_
      exact pl_X3_matrix_75 hrec hf hK28 (fun _ _ _ _ _ _ _ h => ih _ _ _ _ _ _ _ h) _ _ _ _ _ _ _ h
theorem pl_X3_matrix_28 {f : Nat} {Q : Int → MM → Prop} {T : MM → Prop} {rec : Nat → List Int → MM → (Int → MM → Prop) → (MM → Prop) → Prop} {fr : Nat} (hrec : HR_X3_expression rec fr) (hf : 27 ≤ f ∧ fr + 1 ≤ f) : ∀ (n : Nat) (x2 : Int) (x3 : Int) (x4 : Int) (x5 : Int) (x6 : Int) (m : MM), P_X3_matrix_28 rec Q T n x2 x3 x4 x5 x6 m → B f M_X3_matrix 28 [vR 365, vU, vI x2, vI x3, vI x4, vI x5, vI x6, vU, vU] [] m Q T := by
  intro n
  induction n with
  | zero => intro x2 x3 x4 x5 x6 m h; exact h.elim
  | succ n ih =>
    intro x2 x3 x4 x5 x6 m h
    have h : P_X3_needOpen 91 m (fun r1 m1 => ∃ nn, P_X3_matrix_37 rec Q T (fun z0 z1 z2 z3 z4 z5 => P_X3_matrix_28 rec Q T n z0 z1 z2 z3 z4 z5) nn x2 x3 x4 x5 x6 0 m1) T := h
    refine b_aload_n dX3_matrix_28 rfl ?_
    refine b_bipush dX3_matrix_29 (by decide) ?_
    refine b_cVv (as := [vI 91]) (st := []) dX3_matrix_31 mf_X3_needOpen qs17 lk_X3_162 ly_365 rfl (p_X3_needOpen (f := 4) (Nat.le_refl _) _ _ h) (by omega) rfl rfl (Nat.le_of_ble_eq_true rfl) (by decide) rfl (fun _ => rfl) (fun r1 m1 h => ?_) (fun _ h => h)
    refine b_iconst dX3_matrix_34 ?_
    refine b_istore (ls' := [vR 365, vU, vI x2, vI x3, vI x4, vI x5, vI x6, vI 0, vU]) dX3_matrix_35 (Nat.le_of_ble_eq_true rfl) rfl ?_
    obtain ⟨nn, h⟩ := h
    exact pl_X3_matrix_37 hrec hf (fun _ _ _ _ _ _ h => ih _ _ _ _ _ _ h) nn _ _ _ _ _ _ _ h
theorem w_X3_matrix {f : Nat} {Q : Int → MM → Prop} {T : MM → Prop} {rec : Nat → List Int → MM → (Int → MM → Prop) → (MM → Prop) → Prop} {fr : Nat} (hrec : HR_X3_expression rec fr) (hf : 27 ≤ f ∧ fr + 1 ≤ f) (x1 : Int) (m : MM) (h : W_X3_matrix rec x1 m Q T) : CC f M_X3_matrix [vR 365, vI x1] m Q T := by
  refine CC.of (plainFor_of_name (by decide)) (Nat.le_of_ble_eq_true rfl) (ls := [vR 365, vI x1, vU, vU, vU, vU, vU, vU, vU]) rfl ?_
  have h : (isTx (m 365 1)) ∧ P_X2_add (m 365 1) 7 x1 m (fun r1 m1 => P_X3_opens m1 (fun r2 m2 => ∃ nn, P_X3_matrix_28 rec Q T nn r1 0 (-1) 150 0 m2) T) := h
  refine b_aload_n dX3_matrix_0 rfl ?_
  refine b_getM dX3_matrix_1 fk_X3_78 ly_365 ?_
  refine b_bipush dX3_matrix_4 (by decide) ?_
  refine b_iload_n dX3_matrix_6 rfl ?_
  obtain ⟨g1, h⟩ := h
  refine b_cVi (as := [vI 7, vI x1]) (st := []) dX3_matrix_7 mf_X2_add q951 lk_X3_153 (tx_ly0 g1) rfl (p_X2_add (f := 1) (Nat.le_refl _) _ _ _ _ h) (by omega) rfl rfl (Nat.le_of_ble_eq_true rfl) (by decide) rfl (fun _ => rfl) (fun r1 m1 h => ?_) (fun _ h => h)
  refine b_istore_n (ls' := [vR 365, vI x1, vI r1, vU, vU, vU, vU, vU, vU]) dX3_matrix_10 (Nat.le_of_ble_eq_true rfl) rfl ?_
  refine b_aload_n dX3_matrix_11 rfl ?_
  refine b_cVv (as := []) (st := []) dX3_matrix_12 mf_X3_opens qs12 lk_X3_68 ly_365 rfl (p_X3_opens (f := 3) (Nat.le_refl _) _ h) (by omega) rfl rfl (Nat.le_of_ble_eq_true rfl) (by decide) rfl (fun _ => rfl) (fun r2 m2 h => ?_) (fun _ h => h)
  refine b_iconst dX3_matrix_15 ?_
  refine b_istore_n (ls' := [vR 365, vI x1, vI r1, vI 0, vU, vU, vU, vU, vU]) dX3_matrix_16 (Nat.le_of_ble_eq_true rfl) rfl ?_
  refine b_iconst dX3_matrix_17 ?_
  refine b_istore (ls' := [vR 365, vI x1, vI r1, vI 0, vI (-1), vU, vU, vU, vU]) dX3_matrix_18 (Nat.le_of_ble_eq_true rfl) rfl ?_
  refine b_sipush dX3_matrix_20 (by decide) ?_
  refine b_istore (ls' := [vR 365, vI x1, vI r1, vI 0, vI (-1), vI 150, vU, vU, vU]) dX3_matrix_23 (Nat.le_of_ble_eq_true rfl) rfl ?_
  refine b_iconst dX3_matrix_25 ?_
  refine b_istore (ls' := [vR 365, vI x1, vI r1, vI 0, vI (-1), vI 150, vI 0, vU, vU]) dX3_matrix_26 (Nat.le_of_ble_eq_true rfl) rfl ?_
  refine b_fgt [true, false, true, true, true, true, true, false, false] (ls' := [vR 365, vU, vI r1, vI 0, vI (-1), vI 150, vI 0, vU, vU]) rfl rfl ?_
  obtain ⟨nn, h⟩ := h
  exact pl_X3_matrix_28 hrec hf nn _ _ _ _ _ _ h
theorem w_X3_minus {f : Nat} {Q : Int → MM → Prop} {T : MM → Prop} {rec : Nat → List Int → MM → (Int → MM → Prop) → (MM → Prop) → Prop} {fr : Nat} (hrec : HR_X3_expression rec fr) (hf : 27 ≤ f ∧ fr + 1 ≤ f) (m : MM) (h : W_X3_minus rec m Q T) : CC f M_X3_minus [vR 365] m Q T := by
  refine CC.of (plainFor_of_name (by decide)) (Nat.le_of_ble_eq_true rfl) (ls := [vR 365, vU]) rfl ?_
  have h : P_X3_isSign 45 m (fun r1 m1 => (RI r1) ∧ (if r1 = 0 then rec 2 [] m1 (fun r6 m8 => Q r6 m8) T else P_X3_here m1 (fun r2 m2 => (isTx (m1 365 1)) ∧ P_X2_add (m1 365 1) 22 r2 m2 (fun r3 m3 => P_X3_opens m3 (fun r4 m4 => (isTx (m4 365 1)) ∧ rec 7 [] m4 (fun r5 m5 => (0 ≤ r3 ∧ r3 < 160) ∧ ∀ m6 : MM, m6 = up m5 ((m4 365 1) + 2) r3 r5 → ∀ m7 : MM, m7 = up m6 365 3 ((m6 365 3) - 1) → Q r3 m7) T) T)))) := h
  refine b_aload_n dX3_minus_0 rfl ?_
  refine b_bipush dX3_minus_1 (by decide) ?_
  refine b_cVi (as := [vI 45]) (st := []) dX3_minus_3 mf_X3_isSign qs15 lk_X3_49 ly_365 rfl (p_X3_isSign (f := 1) (Nat.le_refl _) _ _ h) (by omega) rfl rfl (Nat.le_of_ble_eq_true rfl) (by decide) rfl (fun _ => rfl) (fun r1 m1 h => ?_) (fun _ h => h)
  obtain ⟨g1, h⟩ := h
  refine b_if_ne 14 dX3_minus_6 g1 (by decide) (fun c1 => ?_) (fun c1 => ?_)
  · have h := ifF c1 h
    refine b_aload_n dX3_minus_14 rfl ?_
    refine b_getM dX3_minus_15 fk_X3_78 ly_365 ?_
    refine b_bipush dX3_minus_18 (by decide) ?_
    refine b_aload_n dX3_minus_20 rfl ?_
    refine b_cVi (as := []) (st := [vI 22, vR (m1 365 1)]) dX3_minus_21 mf_X3_here qs9 lk_X3_41 ly_365 rfl (p_X3_here (f := 1) (Nat.le_refl _) _ h) (by omega) rfl rfl (Nat.le_of_ble_eq_true rfl) (by decide) rfl (fun _ => rfl) (fun r2 m2 h => ?_) (fun _ h => h)
    obtain ⟨g2, h⟩ := h
    refine b_cVi (as := [vI 22, vI r2]) (st := []) dX3_minus_24 mf_X2_add q951 lk_X3_153 (tx_ly0 g2) rfl (p_X2_add (f := 1) (Nat.le_refl _) _ _ _ _ h) (by omega) rfl rfl (Nat.le_of_ble_eq_true rfl) (by decide) rfl (fun _ => rfl) (fun r3 m3 h => ?_) (fun _ h => h)
    refine b_istore_n (ls' := [vR 365, vI r3]) dX3_minus_27 (Nat.le_of_ble_eq_true rfl) rfl ?_
    refine b_aload_n dX3_minus_28 rfl ?_
    refine b_cVv (as := []) (st := []) dX3_minus_29 mf_X3_opens qs12 lk_X3_68 ly_365 rfl (p_X3_opens (f := 3) (Nat.le_refl _) _ h) (by omega) rfl rfl (Nat.le_of_ble_eq_true rfl) (by decide) rfl (fun _ => rfl) (fun r4 m4 h => ?_) (fun _ h => h)
    refine b_aload_n dX3_minus_32 rfl ?_
    refine b_getM dX3_minus_33 fk_X3_78 ly_365 ?_
    obtain ⟨g3, h⟩ := h
    refine b_getR dX3_minus_36 fk_X3_166 (tx_ly0 g3) (tx_gg8 g3) ?_
    refine b_iload_n dX3_minus_39 rfl ?_
    refine b_aload_n dX3_minus_40 rfl ?_
    refine b_cVi (as := []) (st := [vI r3, vR ((m4 365 1) + 2)]) dX3_minus_41 mf_X3_minus qs27 lk_X3_196 ly_365 rfl (hrec.2.2.2.2.2.2.2.1 _ _ _ h) (by omega) rfl rfl (Nat.le_of_ble_eq_true rfl) (by decide) rfl (fun _ => rfl) (fun r5 m5 h => ?_) (fun _ h => h)
    obtain ⟨g4, h⟩ := h
    refine b_iast dX3_minus_44 (tx_ly2 g3) g4 (fun m6 em6 => ?_)
    have h := h m6 em6
    refine b_aload_n dX3_minus_45 rfl ?_
    refine b_dup dX3_minus_46 rfl ?_
    refine b_getI dX3_minus_47 fk_X3_65 ly_365 ?_
    refine b_iconst dX3_minus_50 ?_
    refine b_isub dX3_minus_51 ?_
    refine b_putI dX3_minus_52 fk_X3_65 ly_365 (fun m7 em7 => ?_)
    have h := h m7 em7
    refine b_iload_n dX3_minus_55 rfl ?_
    exact b_iret dX3_minus_56 rfl h
  · have h := ifT (Decidable.of_not_not c1) h
    refine b_aload_n dX3_minus_9 rfl ?_
    refine b_cVi (as := []) (st := []) dX3_minus_10 mf_X3_behind qs28 lk_X3_199 ly_365 rfl (hrec.2.2.1 _ _ _ h) (by omega) rfl rfl (Nat.le_of_ble_eq_true rfl) (by decide) rfl (fun _ => rfl) (fun r6 m8 h => ?_) (fun _ h => h)
    exact b_iret dX3_minus_13 rfl h
theorem w_X3_negated {f : Nat} {Q : Int → MM → Prop} {T : MM → Prop} {rec : Nat → List Int → MM → (Int → MM → Prop) → (MM → Prop) → Prop} {fr : Nat} (hrec : HR_X3_expression rec fr) (hf : 27 ≤ f ∧ fr + 1 ≤ f) (m : MM) (h : W_X3_negated rec m Q T) : CC f M_X3_negated [vR 365] m Q T := by
  refine CC.of (plainFor_of_name (by decide)) (Nat.le_of_ble_eq_true rfl) (ls := [vR 365, vU]) rfl ?_
  have h : P_X3_isKey 5 m (fun r1 m1 => (RI r1) ∧ (if r1 = 0 then rec 10 [] m1 (fun r6 m8 => Q r6 m8) T else P_X3_here m1 (fun r2 m2 => (isTx (m1 365 1)) ∧ P_X2_add (m1 365 1) 11 r2 m2 (fun r3 m3 => P_X3_opens m3 (fun r4 m4 => (isTx (m4 365 1)) ∧ rec 8 [] m4 (fun r5 m5 => (0 ≤ r3 ∧ r3 < 160) ∧ ∀ m6 : MM, m6 = up m5 ((m4 365 1) + 2) r3 r5 → ∀ m7 : MM, m7 = up m6 365 3 ((m6 365 3) - 1) → Q r3 m7) T) T)))) := h
  refine b_aload_n dX3_negated_0 rfl ?_
  refine b_iconst dX3_negated_1 ?_
  refine b_cVi (as := [vI 5]) (st := []) dX3_negated_2 mf_X3_isKey qs19 lk_X3_59 ly_365 rfl (p_X3_isKey (f := 1) (Nat.le_refl _) _ _ h) (by omega) rfl rfl (Nat.le_of_ble_eq_true rfl) (by decide) rfl (fun _ => rfl) (fun r1 m1 h => ?_) (fun _ h => h)
  obtain ⟨g1, h⟩ := h
  refine b_if_ne 13 dX3_negated_5 g1 (by decide) (fun c1 => ?_) (fun c1 => ?_)
  · have h := ifF c1 h
    refine b_aload_n dX3_negated_13 rfl ?_
    refine b_getM dX3_negated_14 fk_X3_78 ly_365 ?_
    refine b_bipush dX3_negated_17 (by decide) ?_
    refine b_aload_n dX3_negated_19 rfl ?_
    refine b_cVi (as := []) (st := [vI 11, vR (m1 365 1)]) dX3_negated_20 mf_X3_here qs9 lk_X3_41 ly_365 rfl (p_X3_here (f := 1) (Nat.le_refl _) _ h) (by omega) rfl rfl (Nat.le_of_ble_eq_true rfl) (by decide) rfl (fun _ => rfl) (fun r2 m2 h => ?_) (fun _ h => h)
    obtain ⟨g2, h⟩ := h
    refine b_cVi (as := [vI 11, vI r2]) (st := []) dX3_negated_23 mf_X2_add q951 lk_X3_153 (tx_ly0 g2) rfl (p_X2_add (f := 1) (Nat.le_refl _) _ _ _ _ h) (by omega) rfl rfl (Nat.le_of_ble_eq_true rfl) (by decide) rfl (fun _ => rfl) (fun r3 m3 h => ?_) (fun _ h => h)
    refine b_istore_n (ls' := [vR 365, vI r3]) dX3_negated_26 (Nat.le_of_ble_eq_true rfl) rfl ?_
    refine b_aload_n dX3_negated_27 rfl ?_
    refine b_cVv (as := []) (st := []) dX3_negated_28 mf_X3_opens qs12 lk_X3_68 ly_365 rfl (p_X3_opens (f := 3) (Nat.le_refl _) _ h) (by omega) rfl rfl (Nat.le_of_ble_eq_true rfl) (by decide) rfl (fun _ => rfl) (fun r4 m4 h => ?_) (fun _ h => h)
    refine b_aload_n dX3_negated_31 rfl ?_
    refine b_getM dX3_negated_32 fk_X3_78 ly_365 ?_
    obtain ⟨g3, h⟩ := h
    refine b_getR dX3_negated_35 fk_X3_166 (tx_ly0 g3) (tx_gg8 g3) ?_
    refine b_iload_n dX3_negated_38 rfl ?_
    refine b_aload_n dX3_negated_39 rfl ?_
    refine b_cVi (as := []) (st := [vI r3, vR ((m4 365 1) + 2)]) dX3_negated_40 mf_X3_negated qs23 lk_X3_184 ly_365 rfl (hrec.2.2.2.2.2.2.2.2.1 _ _ _ h) (by omega) rfl rfl (Nat.le_of_ble_eq_true rfl) (by decide) rfl (fun _ => rfl) (fun r5 m5 h => ?_) (fun _ h => h)
    obtain ⟨g4, h⟩ := h
    refine b_iast dX3_negated_43 (tx_ly2 g3) g4 (fun m6 em6 => ?_)
    have h := h m6 em6
    refine b_aload_n dX3_negated_44 rfl ?_
    refine b_dup dX3_negated_45 rfl ?_
    refine b_getI dX3_negated_46 fk_X3_65 ly_365 ?_
    refine b_iconst dX3_negated_49 ?_
    refine b_isub dX3_negated_50 ?_
    refine b_putI dX3_negated_51 fk_X3_65 ly_365 (fun m7 em7 => ?_)
    have h := h m7 em7
    refine b_iload_n dX3_negated_54 rfl ?_
    exact b_iret dX3_negated_55 rfl h
  · have h := ifT (Decidable.of_not_not c1) h
    refine b_aload_n dX3_negated_8 rfl ?_
    refine b_cVi (as := []) (st := []) dX3_negated_9 mf_X3_relation qs24 lk_X3_187 ly_365 rfl (hrec.2.2.2.2.2.2.2.2.2.2.1 _ _ _ h) (by omega) rfl rfl (Nat.le_of_ble_eq_true rfl) (by decide) rfl (fun _ => rfl) (fun r6 m8 h => ?_) (fun _ h => h)
    exact b_iret dX3_negated_12 rfl h
theorem pl_X3_product_90 {f : Nat} {Q : Int → MM → Prop} {T : MM → Prop} {rec : Nat → List Int → MM → (Int → MM → Prop) → (MM → Prop) → Prop} {fr : Nat} (hrec : HR_X3_expression rec fr) (hf : 27 ≤ f ∧ fr + 1 ≤ f) {K5 : Int → MM → Prop} (hK5 : ∀ (x1 : Int) (m : MM), K5 x1 m → B f M_X3_product 5 [vR 365, vI x1, vU, vU] [] m Q T) : ∀ (x1 : Int) (x2 : Int) (s0 : Int) (m : MM), P_X3_product_90 rec Q T K5 x1 x2 s0 m → B f M_X3_product 90 [vR 365, vI x1, vI x2, vU] [vI s0] m Q T := by
  intro x1 x2 s0 m h
  have h : P_X3_go m (fun r1 m1 => rec 7 [] m1 (fun r2 m2 => (isTx (m1 365 1)) ∧ P_X2_add_2 (m1 365 1) s0 x2 x1 r2 m2 (fun r3 m3 => K5 r3 m3)) T) T := h
  refine b_istore_n (ls' := [vR 365, vI x1, vI x2, vI s0]) dX3_product_90 (Nat.le_of_ble_eq_true rfl) rfl ?_
  refine b_aload_n dX3_product_91 rfl ?_
  refine b_cVv (as := []) (st := []) dX3_product_92 mf_X3_go qs10 lk_X3_53 ly_365 rfl (p_X3_go (f := 2) (Nat.le_refl _) _ h) (by omega) rfl rfl (Nat.le_of_ble_eq_true rfl) (by decide) rfl (fun _ => rfl) (fun r1 m1 h => ?_) (fun _ h => h)
  refine b_aload_n dX3_product_95 rfl ?_
  refine b_getM dX3_product_96 fk_X3_78 ly_365 ?_
  refine b_iload_n dX3_product_99 rfl ?_
  refine b_iload_n dX3_product_100 rfl ?_
  refine b_iload_n dX3_product_101 rfl ?_
  refine b_aload_n dX3_product_102 rfl ?_
  refine b_cVi (as := []) (st := [vI x1, vI x2, vI s0, vR (m1 365 1)]) dX3_product_103 mf_X3_minus qs27 lk_X3_196 ly_365 rfl (hrec.2.2.2.2.2.2.2.1 _ _ _ h) (by omega) rfl rfl (Nat.le_of_ble_eq_true rfl) (by decide) rfl (fun _ => rfl) (fun r2 m2 h => ?_) (fun _ h => h)
  obtain ⟨g1, h⟩ := h
  refine b_cVi (as := [vI s0, vI x2, vI x1, vI r2]) (st := []) dX3_product_106 mf_X2_add_2 q1021 lk_X3_181 (tx_ly0 g1) rfl (p_X2_add_2 (f := 2) (Nat.le_refl _) _ _ _ _ _ _ h) (by omega) rfl rfl (Nat.le_of_ble_eq_true rfl) (by decide) rfl (fun _ => rfl) (fun r3 m3 h => ?_) (fun _ h => h)
  refine b_istore_n (ls' := [vR 365, vI r3, vI x2, vI s0]) dX3_product_109 (Nat.le_of_ble_eq_true rfl) rfl ?_
  refine b_goto 5 dX3_product_110 (by decide) ?_
  refine b_fgt [true, true, false, false] (ls' := [vR 365, vI r3, vU, vU]) rfl rfl ?_
  exact hK5 _ _ h
theorem pl_X3_product_41 {f : Nat} {Q : Int → MM → Prop} {T : MM → Prop} {rec : Nat → List Int → MM → (Int → MM → Prop) → (MM → Prop) → Prop} {fr : Nat} (hrec : HR_X3_expression rec fr) (hf : 27 ≤ f ∧ fr + 1 ≤ f) {K5 : Int → MM → Prop} (hK5 : ∀ (x1 : Int) (m : MM), K5 x1 m → B f M_X3_product 5 [vR 365, vI x1, vU, vU] [] m Q T) : ∀ (x1 : Int) (m : MM), P_X3_product_41 rec Q T K5 x1 m → B f M_X3_product 41 [vR 365, vI x1, vU, vU] [] m Q T := by
  intro x1 m h
  have h : P_X3_here m (fun r1 m1 => P_X3_isSign 42 m1 (fun r2 m2 => (RI r2) ∧ (if r2 = 0 then P_X3_isSign 47 m2 (fun r3 m3 => (RI r3) ∧ (if r3 = 0 then P_X3_isKey 6 m3 (fun r4 m4 => (RI r4) ∧ (if r4 = 0 then P_X3_product_90 rec Q T K5 x1 r1 21 m4 else P_X3_product_90 rec Q T K5 x1 r1 20 m4)) else P_X3_product_90 rec Q T K5 x1 r1 19 m3)) else P_X3_product_90 rec Q T K5 x1 r1 18 m2))) := h
  refine b_aload_n dX3_product_41 rfl ?_
  refine b_cVi (as := []) (st := []) dX3_product_42 mf_X3_here qs9 lk_X3_41 ly_365 rfl (p_X3_here (f := 1) (Nat.le_refl _) _ h) (by omega) rfl rfl (Nat.le_of_ble_eq_true rfl) (by decide) rfl (fun _ => rfl) (fun r1 m1 h => ?_) (fun _ h => h)
  refine b_istore_n (ls' := [vR 365, vI x1, vI r1, vU]) dX3_product_45 (Nat.le_of_ble_eq_true rfl) rfl ?_
  refine b_aload_n dX3_product_46 rfl ?_
  refine b_bipush dX3_product_47 (by decide) ?_
  refine b_cVi (as := [vI 42]) (st := []) dX3_product_49 mf_X3_isSign qs15 lk_X3_49 ly_365 rfl (p_X3_isSign (f := 1) (Nat.le_refl _) _ _ h) (by omega) rfl rfl (Nat.le_of_ble_eq_true rfl) (by decide) rfl (fun _ => rfl) (fun r2 m2 h => ?_) (fun _ h => h)
  obtain ⟨g1, h⟩ := h
  refine b_if_eq 60 dX3_product_52 g1 (by decide) (fun c1 => ?_) (fun c1 => ?_)
  · have h := ifT c1 h
    refine b_aload_n dX3_product_60 rfl ?_
    refine b_bipush dX3_product_61 (by decide) ?_
    refine b_cVi (as := [vI 47]) (st := []) dX3_product_63 mf_X3_isSign qs15 lk_X3_49 ly_365 rfl (p_X3_isSign (f := 1) (Nat.le_refl _) _ _ h) (by omega) rfl rfl (Nat.le_of_ble_eq_true rfl) (by decide) rfl (fun _ => rfl) (fun r3 m3 h => ?_) (fun _ h => h)
    obtain ⟨g2, h⟩ := h
    refine b_if_eq 74 dX3_product_66 g2 (by decide) (fun c2 => ?_) (fun c2 => ?_)
    · have h := ifT c2 h
      refine b_aload_n dX3_product_74 rfl ?_
      refine b_bipush dX3_product_75 (by decide) ?_
      refine b_cVi (as := [vI 6]) (st := []) dX3_product_77 mf_X3_isKey qs19 lk_X3_59 ly_365 rfl (p_X3_isKey (f := 1) (Nat.le_refl _) _ _ h) (by omega) rfl rfl (Nat.le_of_ble_eq_true rfl) (by decide) rfl (fun _ => rfl) (fun r4 m4 h => ?_) (fun _ h => h)
      obtain ⟨g3, h⟩ := h
      refine b_if_eq 88 dX3_product_80 g3 (by decide) (fun c3 => ?_) (fun c3 => ?_)
      · have h := ifT c3 h
        refine b_bipush dX3_product_88 (by decide) ?_
        exact pl_X3_product_90 hrec hf hK5 _ _ _ _ h
      · have h := ifF c3 h
        refine b_bipush dX3_product_83 (by decide) ?_
        refine b_goto 90 dX3_product_85 (by decide) ?_
        exact pl_X3_product_90 hrec hf hK5 _ _ _ _ h
    · have h := ifF c2 h
      refine b_bipush dX3_product_69 (by decide) ?_
      refine b_goto 90 dX3_product_71 (by decide) ?_
      exact pl_X3_product_90 hrec hf hK5 _ _ _ _ h
  · have h := ifF c1 h
    refine b_bipush dX3_product_55 (by decide) ?_
    refine b_goto 90 dX3_product_57 (by decide) ?_
    exact pl_X3_product_90 hrec hf hK5 _ _ _ _ h
theorem pl_X3_product_5 {f : Nat} {Q : Int → MM → Prop} {T : MM → Prop} {rec : Nat → List Int → MM → (Int → MM → Prop) → (MM → Prop) → Prop} {fr : Nat} (hrec : HR_X3_expression rec fr) (hf : 27 ≤ f ∧ fr + 1 ≤ f) : ∀ (n : Nat) (x1 : Int) (m : MM), P_X3_product_5 rec Q T n x1 m → B f M_X3_product 5 [vR 365, vI x1, vU, vU] [] m Q T := by
  intro n
  induction n with
  | zero => intro x1 m h; exact h.elim
  | succ n ih =>
    intro x1 m h
    have h : P_X3_isSign 42 m (fun r1 m1 => (RI r1) ∧ (if r1 = 0 then P_X3_isSign 47 m1 (fun r2 m2 => (RI r2) ∧ (if r2 = 0 then P_X3_isKey 6 m2 (fun r3 m3 => (RI r3) ∧ (if r3 = 0 then P_X3_isKey 7 m3 (fun r4 m4 => (RI r4) ∧ (if r4 = 0 then Q x1 m4 else P_X3_product_41 rec Q T (fun z0 z1 => P_X3_product_5 rec Q T n z0 z1) x1 m4)) else P_X3_product_41 rec Q T (fun z0 z1 => P_X3_product_5 rec Q T n z0 z1) x1 m3)) else P_X3_product_41 rec Q T (fun z0 z1 => P_X3_product_5 rec Q T n z0 z1) x1 m2)) else P_X3_product_41 rec Q T (fun z0 z1 => P_X3_product_5 rec Q T n z0 z1) x1 m1)) := h
    refine b_aload_n dX3_product_5 rfl ?_
    refine b_bipush dX3_product_6 (by decide) ?_
    refine b_cVi (as := [vI 42]) (st := []) dX3_product_8 mf_X3_isSign qs15 lk_X3_49 ly_365 rfl (p_X3_isSign (f := 1) (Nat.le_refl _) _ _ h) (by omega) rfl rfl (Nat.le_of_ble_eq_true rfl) (by decide) rfl (fun _ => rfl) (fun r1 m1 h => ?_) (fun _ h => h)
    obtain ⟨g1, h⟩ := h
    refine b_if_ne 41 dX3_product_11 g1 (by decide) (fun c1 => ?_) (fun c1 => ?_)
    · have h := ifF c1 h
      exact pl_X3_product_41 hrec hf (fun _ _ h => ih _ _ h) _ _ h
    · have h := ifT (Decidable.of_not_not c1) h
      refine b_aload_n dX3_product_14 rfl ?_
      refine b_bipush dX3_product_15 (by decide) ?_
      refine b_cVi (as := [vI 47]) (st := []) dX3_product_17 mf_X3_isSign qs15 lk_X3_49 ly_365 rfl (p_X3_isSign (f := 1) (Nat.le_refl _) _ _ h) (by omega) rfl rfl (Nat.le_of_ble_eq_true rfl) (by decide) rfl (fun _ => rfl) (fun r2 m2 h => ?_) (fun _ h => h)
      obtain ⟨g2, h⟩ := h
      refine b_if_ne 41 dX3_product_20 g2 (by decide) (fun c2 => ?_) (fun c2 => ?_)
      · have h := ifF c2 h
        exact pl_X3_product_41 hrec hf (fun _ _ h => ih _ _ h) _ _ h
      · have h := ifT (Decidable.of_not_not c2) h
        refine b_aload_n dX3_product_23 rfl ?_
        refine b_bipush dX3_product_24 (by decide) ?_
        refine b_cVi (as := [vI 6]) (st := []) dX3_product_26 mf_X3_isKey qs19 lk_X3_59 ly_365 rfl (p_X3_isKey (f := 1) (Nat.le_refl _) _ _ h) (by omega) rfl rfl (Nat.le_of_ble_eq_true rfl) (by decide) rfl (fun _ => rfl) (fun r3 m3 h => ?_) (fun _ h => h)
        obtain ⟨g3, h⟩ := h
        refine b_if_ne 41 dX3_product_29 g3 (by decide) (fun c3 => ?_) (fun c3 => ?_)
        · have h := ifF c3 h
          exact pl_X3_product_41 hrec hf (fun _ _ h => ih _ _ h) _ _ h
        · have h := ifT (Decidable.of_not_not c3) h
          refine b_aload_n dX3_product_32 rfl ?_
          refine b_bipush dX3_product_33 (by decide) ?_
          refine b_cVi (as := [vI 7]) (st := []) dX3_product_35 mf_X3_isKey qs19 lk_X3_59 ly_365 rfl (p_X3_isKey (f := 1) (Nat.le_refl _) _ _ h) (by omega) rfl rfl (Nat.le_of_ble_eq_true rfl) (by decide) rfl (fun _ => rfl) (fun r4 m4 h => ?_) (fun _ h => h)
          obtain ⟨g4, h⟩ := h
          refine b_if_eq 113 dX3_product_38 g4 (by decide) (fun c4 => ?_) (fun c4 => ?_)
          · have h := ifT c4 h
            refine b_iload_n dX3_product_113 rfl ?_
            exact b_iret dX3_product_114 rfl h
          · have h := ifF c4 h
            exact pl_X3_product_41 hrec hf (fun _ _ h => ih _ _ h) _ _ h
theorem w_X3_product {f : Nat} {Q : Int → MM → Prop} {T : MM → Prop} {rec : Nat → List Int → MM → (Int → MM → Prop) → (MM → Prop) → Prop} {fr : Nat} (hrec : HR_X3_expression rec fr) (hf : 27 ≤ f ∧ fr + 1 ≤ f) (m : MM) (h : W_X3_product rec m Q T) : CC f M_X3_product [vR 365] m Q T := by
  refine CC.of (plainFor_of_name (by decide)) (Nat.le_of_ble_eq_true rfl) (ls := [vR 365, vU, vU, vU]) rfl ?_
  have h : rec 7 [] m (fun r1 m1 => ∃ nn, P_X3_product_5 rec Q T nn r1 m1) T := h
  refine b_aload_n dX3_product_0 rfl ?_
  refine b_cVi (as := []) (st := []) dX3_product_1 mf_X3_minus qs27 lk_X3_196 ly_365 rfl (hrec.2.2.2.2.2.2.2.1 _ _ _ h) (by omega) rfl rfl (Nat.le_of_ble_eq_true rfl) (by decide) rfl (fun _ => rfl) (fun r1 m1 h => ?_) (fun _ h => h)
  refine b_istore_n (ls' := [vR 365, vI r1, vU, vU]) dX3_product_4 (Nat.le_of_ble_eq_true rfl) rfl ?_
  obtain ⟨nn, h⟩ := h
  exact pl_X3_product_5 hrec hf nn _ _ h
theorem pl_X3_relation_63 {f : Nat} {Q : Int → MM → Prop} {T : MM → Prop} {rec : Nat → List Int → MM → (Int → MM → Prop) → (MM → Prop) → Prop} {fr : Nat} (hrec : HR_X3_expression rec fr) (hf : 27 ≤ f ∧ fr + 1 ≤ f) : ∀ (x1 : Int) (s0 : Int) (m : MM), P_X3_relation_63 rec Q T x1 s0 m → B f M_X3_relation 63 [vR 365, vI x1, vU, vU] [vI s0] m Q T := by
  intro x1 s0 m h
  have h : (RI s0) ∧ (if s0 = (-1) then Q x1 m else P_X3_here m (fun r1 m1 => P_X3_go m1 (fun r2 m2 => rec 12 [] m2 (fun r3 m3 => (isTx (m2 365 1)) ∧ P_X2_add_2 (m2 365 1) s0 r1 x1 r3 m3 (fun r4 m4 => Q r4 m4)) T) T)) := h
  refine b_istore_n (ls' := [vR 365, vI x1, vI s0, vU]) dX3_relation_63 (Nat.le_of_ble_eq_true rfl) rfl ?_
  refine b_iload_n dX3_relation_64 rfl ?_
  refine b_iconst dX3_relation_65 ?_
  obtain ⟨g1, h⟩ := h
  refine b_icmp_ne 71 dX3_relation_66 g1 (by decide) (by decide) (fun c1 => ?_) (fun c1 => ?_)
  · have h := ifF c1 h
    refine b_aload_n dX3_relation_71 rfl ?_
    refine b_cVi (as := []) (st := []) dX3_relation_72 mf_X3_here qs9 lk_X3_41 ly_365 rfl (p_X3_here (f := 1) (Nat.le_refl _) _ h) (by omega) rfl rfl (Nat.le_of_ble_eq_true rfl) (by decide) rfl (fun _ => rfl) (fun r1 m1 h => ?_) (fun _ h => h)
    refine b_istore_n (ls' := [vR 365, vI x1, vI s0, vI r1]) dX3_relation_75 (Nat.le_of_ble_eq_true rfl) rfl ?_
    refine b_aload_n dX3_relation_76 rfl ?_
    refine b_cVv (as := []) (st := []) dX3_relation_77 mf_X3_go qs10 lk_X3_53 ly_365 rfl (p_X3_go (f := 2) (Nat.le_refl _) _ h) (by omega) rfl rfl (Nat.le_of_ble_eq_true rfl) (by decide) rfl (fun _ => rfl) (fun r2 m2 h => ?_) (fun _ h => h)
    refine b_aload_n dX3_relation_80 rfl ?_
    refine b_getM dX3_relation_81 fk_X3_78 ly_365 ?_
    refine b_iload_n dX3_relation_84 rfl ?_
    refine b_iload_n dX3_relation_85 rfl ?_
    refine b_iload_n dX3_relation_86 rfl ?_
    refine b_aload_n dX3_relation_87 rfl ?_
    refine b_cVi (as := []) (st := [vI x1, vI r1, vI s0, vR (m2 365 1)]) dX3_relation_88 mf_X3_sum qs25 lk_X3_190 ly_365 rfl (hrec.2.2.2.2.2.2.2.2.2.2.2.2.1 _ _ _ h) (by omega) rfl rfl (Nat.le_of_ble_eq_true rfl) (by decide) rfl (fun _ => rfl) (fun r3 m3 h => ?_) (fun _ h => h)
    obtain ⟨g2, h⟩ := h
    refine b_cVi (as := [vI s0, vI r1, vI x1, vI r3]) (st := []) dX3_relation_91 mf_X2_add_2 q1021 lk_X3_181 (tx_ly0 g2) rfl (p_X2_add_2 (f := 2) (Nat.le_refl _) _ _ _ _ _ _ h) (by omega) rfl rfl (Nat.le_of_ble_eq_true rfl) (by decide) rfl (fun _ => rfl) (fun r4 m4 h => ?_) (fun _ h => h)
    exact b_iret dX3_relation_94 rfl h
  · have h := ifT (Decidable.of_not_not c1) h
    refine b_iload_n dX3_relation_69 rfl ?_
    exact b_iret dX3_relation_70 rfl h
theorem w_X3_relation {f : Nat} {Q : Int → MM → Prop} {T : MM → Prop} {rec : Nat → List Int → MM → (Int → MM → Prop) → (MM → Prop) → Prop} {fr : Nat} (hrec : HR_X3_expression rec fr) (hf : 27 ≤ f ∧ fr + 1 ≤ f) (m : MM) (h : W_X3_relation rec m Q T) : CC f M_X3_relation [vR 365] m Q T := by
  refine CC.of (plainFor_of_name (by decide)) (Nat.le_of_ble_eq_true rfl) (ls := [vR 365, vU, vU, vU]) rfl ?_
  have h : rec 12 [] m (fun r1 m1 => P_X3_isSign 61 m1 (fun r2 m2 => (RI r2) ∧ (if r2 = 0 then P_X3_isSign 35 m2 (fun r3 m3 => (RI r3) ∧ (if r3 = 0 then P_X3_isSign 60 m3 (fun r4 m4 => (RI r4) ∧ (if r4 = 0 then P_X3_isSign 131 m4 (fun r5 m5 => (RI r5) ∧ (if r5 = 0 then P_X3_relation_63 rec Q T r1 (-1) m5 else P_X3_relation_63 rec Q T r1 15 m5)) else P_X3_relation_63 rec Q T r1 14 m4)) else P_X3_relation_63 rec Q T r1 13 m3)) else P_X3_relation_63 rec Q T r1 12 m2))) T := h
  refine b_aload_n dX3_relation_0 rfl ?_
  refine b_cVi (as := []) (st := []) dX3_relation_1 mf_X3_sum qs25 lk_X3_190 ly_365 rfl (hrec.2.2.2.2.2.2.2.2.2.2.2.2.1 _ _ _ h) (by omega) rfl rfl (Nat.le_of_ble_eq_true rfl) (by decide) rfl (fun _ => rfl) (fun r1 m1 h => ?_) (fun _ h => h)
  refine b_istore_n (ls' := [vR 365, vI r1, vU, vU]) dX3_relation_4 (Nat.le_of_ble_eq_true rfl) rfl ?_
  refine b_aload_n dX3_relation_5 rfl ?_
  refine b_bipush dX3_relation_6 (by decide) ?_
  refine b_cVi (as := [vI 61]) (st := []) dX3_relation_8 mf_X3_isSign qs15 lk_X3_49 ly_365 rfl (p_X3_isSign (f := 1) (Nat.le_refl _) _ _ h) (by omega) rfl rfl (Nat.le_of_ble_eq_true rfl) (by decide) rfl (fun _ => rfl) (fun r2 m2 h => ?_) (fun _ h => h)
  obtain ⟨g1, h⟩ := h
  refine b_if_eq 19 dX3_relation_11 g1 (by decide) (fun c1 => ?_) (fun c1 => ?_)
  · have h := ifT c1 h
    refine b_aload_n dX3_relation_19 rfl ?_
    refine b_bipush dX3_relation_20 (by decide) ?_
    refine b_cVi (as := [vI 35]) (st := []) dX3_relation_22 mf_X3_isSign qs15 lk_X3_49 ly_365 rfl (p_X3_isSign (f := 1) (Nat.le_refl _) _ _ h) (by omega) rfl rfl (Nat.le_of_ble_eq_true rfl) (by decide) rfl (fun _ => rfl) (fun r3 m3 h => ?_) (fun _ h => h)
    obtain ⟨g2, h⟩ := h
    refine b_if_eq 33 dX3_relation_25 g2 (by decide) (fun c2 => ?_) (fun c2 => ?_)
    · have h := ifT c2 h
      refine b_aload_n dX3_relation_33 rfl ?_
      refine b_bipush dX3_relation_34 (by decide) ?_
      refine b_cVi (as := [vI 60]) (st := []) dX3_relation_36 mf_X3_isSign qs15 lk_X3_49 ly_365 rfl (p_X3_isSign (f := 1) (Nat.le_refl _) _ _ h) (by omega) rfl rfl (Nat.le_of_ble_eq_true rfl) (by decide) rfl (fun _ => rfl) (fun r4 m4 h => ?_) (fun _ h => h)
      obtain ⟨g3, h⟩ := h
      refine b_if_eq 47 dX3_relation_39 g3 (by decide) (fun c3 => ?_) (fun c3 => ?_)
      · have h := ifT c3 h
        refine b_aload_n dX3_relation_47 rfl ?_
        refine b_sipush dX3_relation_48 (by decide) ?_
        refine b_cVi (as := [vI 131]) (st := []) dX3_relation_51 mf_X3_isSign qs15 lk_X3_49 ly_365 rfl (p_X3_isSign (f := 1) (Nat.le_refl _) _ _ h) (by omega) rfl rfl (Nat.le_of_ble_eq_true rfl) (by decide) rfl (fun _ => rfl) (fun r5 m5 h => ?_) (fun _ h => h)
        obtain ⟨g4, h⟩ := h
        refine b_if_eq 62 dX3_relation_54 g4 (by decide) (fun c4 => ?_) (fun c4 => ?_)
        · have h := ifT c4 h
          refine b_iconst dX3_relation_62 ?_
          exact pl_X3_relation_63 hrec hf _ _ _ h
        · have h := ifF c4 h
          refine b_bipush dX3_relation_57 (by decide) ?_
          refine b_goto 63 dX3_relation_59 (by decide) ?_
          exact pl_X3_relation_63 hrec hf _ _ _ h
      · have h := ifF c3 h
        refine b_bipush dX3_relation_42 (by decide) ?_
        refine b_goto 63 dX3_relation_44 (by decide) ?_
        exact pl_X3_relation_63 hrec hf _ _ _ h
    · have h := ifF c2 h
      refine b_bipush dX3_relation_28 (by decide) ?_
      refine b_goto 63 dX3_relation_30 (by decide) ?_
      exact pl_X3_relation_63 hrec hf _ _ _ h
  · have h := ifF c1 h
    refine b_bipush dX3_relation_14 (by decide) ?_
    refine b_goto 63 dX3_relation_16 (by decide) ?_
    exact pl_X3_relation_63 hrec hf _ _ _ h
theorem pl_X3_signed_95 {f : Nat} {Q : Int → MM → Prop} {T : MM → Prop} {rec : Nat → List Int → MM → (Int → MM → Prop) → (MM → Prop) → Prop} {fr : Nat} (hrec : HR_X3_expression rec fr) (hf : 27 ≤ f ∧ fr + 1 ≤ f) : ∀ (x2 : Int) (m : MM), P_X3_signed_95 rec Q T x2 m → B f M_X3_signed 95 [vR 365, vU, vI x2] [] m Q T := by
  intro x2 m h
  have h : (isTx (m 365 1)) ∧ (0 ≤ (m 365 2) ∧ (m 365 2) < 401) ∧ (0 ≤ x2 ∧ x2 < 160) ∧ ∀ m1 : MM, m1 = up m ((m 365 1) + 4) x2 (m 369 (m 365 2)) → P_X3_go m1 (fun r1 m2 => Q x2 m2) T := h
  refine b_aload_n dX3_signed_95 rfl ?_
  refine b_getM dX3_signed_96 fk_X3_78 ly_365 ?_
  obtain ⟨g1, h⟩ := h
  refine b_getR dX3_signed_99 fk_X3_157 (tx_ly0 g1) (tx_gg10 g1) ?_
  refine b_iload_n dX3_signed_102 rfl ?_
  refine b_aload_n dX3_signed_103 rfl ?_
  refine b_getR dX3_signed_104 fk_X3_12 ly_365 gg_365_0 ?_
  refine b_getR dX3_signed_107 fk_X3_36 ly_366 gg_366_4 ?_
  refine b_aload_n dX3_signed_110 rfl ?_
  refine b_getI dX3_signed_111 fk_X3_33 ly_365 ?_
  obtain ⟨g2, h⟩ := h
  refine b_iald dX3_signed_114 ly_369 g2 ?_
  obtain ⟨g3, h⟩ := h
  refine b_iast dX3_signed_115 (tx_ly4 g1) g3 (fun m1 em1 => ?_)
  have h := h m1 em1
  refine b_aload_n dX3_signed_116 rfl ?_
  refine b_cVv (as := []) (st := []) dX3_signed_117 mf_X3_go qs10 lk_X3_53 ly_365 rfl (p_X3_go (f := 2) (Nat.le_refl _) _ h) (by omega) rfl rfl (Nat.le_of_ble_eq_true rfl) (by decide) rfl (fun _ => rfl) (fun r1 m2 h => ?_) (fun _ h => h)
  refine b_iload_n dX3_signed_120 rfl ?_
  exact b_iret dX3_signed_121 rfl h
theorem pl_X3_signed_56 {f : Nat} {Q : Int → MM → Prop} {T : MM → Prop} {rec : Nat → List Int → MM → (Int → MM → Prop) → (MM → Prop) → Prop} {fr : Nat} (hrec : HR_X3_expression rec fr) (hf : 27 ≤ f ∧ fr + 1 ≤ f) : ∀ (x1 : Int) (m : MM), P_X3_signed_56 rec Q T x1 m → B f M_X3_signed 56 [vR 365, vI x1, vU] [] m Q T := by
  intro x1 m h
  have h : (isTx (m 365 1)) ∧ P_X2_add (m 365 1) 3 x1 m (fun r1 m1 => P_X3_go m1 (fun r2 m2 => (0 ≤ (m2 365 2) ∧ (m2 365 2) < 401) ∧ (RI (m2 368 (m2 365 2))) ∧ (if (m2 368 (m2 365 2)) = 1 then P_X3_signed_95 rec Q T r1 m2 else P_X3_here m2 (fun r3 m3 => P_X3_fail 1 r3 m3 (fun r4 m4 => P_X3_signed_95 rec Q T r1 m4) T))) T) := h
  refine b_aload_n dX3_signed_56 rfl ?_
  refine b_getM dX3_signed_57 fk_X3_78 ly_365 ?_
  refine b_iconst dX3_signed_60 ?_
  refine b_iload_n dX3_signed_61 rfl ?_
  obtain ⟨g1, h⟩ := h
  refine b_cVi (as := [vI 3, vI x1]) (st := []) dX3_signed_62 mf_X2_add q951 lk_X3_153 (tx_ly0 g1) rfl (p_X2_add (f := 1) (Nat.le_refl _) _ _ _ _ h) (by omega) rfl rfl (Nat.le_of_ble_eq_true rfl) (by decide) rfl (fun _ => rfl) (fun r1 m1 h => ?_) (fun _ h => h)
  refine b_istore_n (ls' := [vR 365, vI x1, vI r1]) dX3_signed_65 (Nat.le_of_ble_eq_true rfl) rfl ?_
  refine b_aload_n dX3_signed_66 rfl ?_
  refine b_cVv (as := []) (st := []) dX3_signed_67 mf_X3_go qs10 lk_X3_53 ly_365 rfl (p_X3_go (f := 2) (Nat.le_refl _) _ h) (by omega) rfl rfl (Nat.le_of_ble_eq_true rfl) (by decide) rfl (fun _ => rfl) (fun r2 m2 h => ?_) (fun _ h => h)
  refine b_aload_n dX3_signed_70 rfl ?_
  refine b_getR dX3_signed_71 fk_X3_12 ly_365 gg_365_0 ?_
  refine b_getR dX3_signed_74 fk_X3_29 ly_366 gg_366_3 ?_
  refine b_aload_n dX3_signed_77 rfl ?_
  refine b_getI dX3_signed_78 fk_X3_33 ly_365 ?_
  obtain ⟨g2, h⟩ := h
  refine b_iald dX3_signed_81 ly_368 g2 ?_
  refine b_iconst dX3_signed_82 ?_
  obtain ⟨g3, h⟩ := h
  refine b_icmp_eq 95 dX3_signed_83 g3 (by decide) (by decide) (fun c1 => ?_) (fun c1 => ?_)
  · have h := ifT c1 h
    refine b_fgt [true, false, true] (ls' := [vR 365, vU, vI r1]) rfl rfl ?_
    exact pl_X3_signed_95 hrec hf _ _ h
  · have h := ifF c1 h
    refine b_aload_n dX3_signed_86 rfl ?_
    refine b_iconst dX3_signed_87 ?_
    refine b_aload_n dX3_signed_88 rfl ?_
    refine b_cVi (as := []) (st := [vI 1, vR 365]) dX3_signed_89 mf_X3_here qs9 lk_X3_41 ly_365 rfl (p_X3_here (f := 1) (Nat.le_refl _) _ h) (by omega) rfl rfl (Nat.le_of_ble_eq_true rfl) (by decide) rfl (fun _ => rfl) (fun r3 m3 h => ?_) (fun _ h => h)
    refine b_cVv (as := [vI 1, vI r3]) (st := []) dX3_signed_92 mf_X3_fail qs11 lk_X3_45 ly_365 rfl (p_X3_fail (f := 1) (Nat.le_refl _) _ _ _ h) (by omega) rfl rfl (Nat.le_of_ble_eq_true rfl) (by decide) rfl (fun _ => rfl) (fun r4 m4 h => ?_) (fun _ h => h)
    refine b_fgt [true, false, true] (ls' := [vR 365, vU, vI r1]) rfl rfl ?_
    exact pl_X3_signed_95 hrec hf _ _ h
theorem w_X3_signed {f : Nat} {Q : Int → MM → Prop} {T : MM → Prop} {rec : Nat → List Int → MM → (Int → MM → Prop) → (MM → Prop) → Prop} {fr : Nat} (hrec : HR_X3_expression rec fr) (hf : 27 ≤ f ∧ fr + 1 ≤ f) (x1 : Int) (m : MM) (h : W_X3_signed rec x1 m Q T) : CC f M_X3_signed [vR 365, vI x1] m Q T := by
  refine CC.of (plainFor_of_name (by decide)) (Nat.le_of_ble_eq_true rfl) (ls := [vR 365, vI x1, vU]) rfl ?_
  have h : P_X3_isSign 40 m (fun r1 m1 => (RI r1) ∧ (if r1 = 0 then P_X3_isSign 91 m1 (fun r2 m2 => (RI r2) ∧ (if r2 = 0 then P_X3_isSign 37 m2 (fun r3 m3 => (RI r3) ∧ (if r3 = 0 then P_X3_fail 1 x1 m3 (fun r4 m4 => P_X3_signed_56 rec Q T x1 m4) T else P_X3_signed_56 rec Q T x1 m3)) else rec 6 [x1] m2 (fun r5 m5 => Q r5 m5) T)) else P_X3_opens m1 (fun r6 m6 => rec 5 [] m6 (fun r7 m7 => P_X3_closes 41 m7 (fun r8 m8 => Q r7 m8) T) T) T)) := h
  refine b_aload_n dX3_signed_0 rfl ?_
  refine b_bipush dX3_signed_1 (by decide) ?_
  refine b_cVi (as := [vI 40]) (st := []) dX3_signed_3 mf_X3_isSign qs15 lk_X3_49 ly_365 rfl (p_X3_isSign (f := 1) (Nat.le_refl _) _ _ h) (by omega) rfl rfl (Nat.le_of_ble_eq_true rfl) (by decide) rfl (fun _ => rfl) (fun r1 m1 h => ?_) (fun _ h => h)
  obtain ⟨g1, h⟩ := h
  refine b_if_eq 26 dX3_signed_6 g1 (by decide) (fun c1 => ?_) (fun c1 => ?_)
  · have h := ifT c1 h
    refine b_aload_n dX3_signed_26 rfl ?_
    refine b_bipush dX3_signed_27 (by decide) ?_
    refine b_cVi (as := [vI 91]) (st := []) dX3_signed_29 mf_X3_isSign qs15 lk_X3_49 ly_365 rfl (p_X3_isSign (f := 1) (Nat.le_refl _) _ _ h) (by omega) rfl rfl (Nat.le_of_ble_eq_true rfl) (by decide) rfl (fun _ => rfl) (fun r2 m2 h => ?_) (fun _ h => h)
    obtain ⟨g2, h⟩ := h
    refine b_if_eq 41 dX3_signed_32 g2 (by decide) (fun c2 => ?_) (fun c2 => ?_)
    · have h := ifT c2 h
      refine b_aload_n dX3_signed_41 rfl ?_
      refine b_bipush dX3_signed_42 (by decide) ?_
      refine b_cVi (as := [vI 37]) (st := []) dX3_signed_44 mf_X3_isSign qs15 lk_X3_49 ly_365 rfl (p_X3_isSign (f := 1) (Nat.le_refl _) _ _ h) (by omega) rfl rfl (Nat.le_of_ble_eq_true rfl) (by decide) rfl (fun _ => rfl) (fun r3 m3 h => ?_) (fun _ h => h)
      obtain ⟨g3, h⟩ := h
      refine b_if_ne 56 dX3_signed_47 g3 (by decide) (fun c3 => ?_) (fun c3 => ?_)
      · have h := ifF c3 h
        exact pl_X3_signed_56 hrec hf _ _ h
      · have h := ifT (Decidable.of_not_not c3) h
        refine b_aload_n dX3_signed_50 rfl ?_
        refine b_iconst dX3_signed_51 ?_
        refine b_iload_n dX3_signed_52 rfl ?_
        refine b_cVv (as := [vI 1, vI x1]) (st := []) dX3_signed_53 mf_X3_fail qs11 lk_X3_45 ly_365 rfl (p_X3_fail (f := 1) (Nat.le_refl _) _ _ _ h) (by omega) rfl rfl (Nat.le_of_ble_eq_true rfl) (by decide) rfl (fun _ => rfl) (fun r4 m4 h => ?_) (fun _ h => h)
        exact pl_X3_signed_56 hrec hf _ _ h
    · have h := ifF c2 h
      refine b_aload_n dX3_signed_35 rfl ?_
      refine b_iload_n dX3_signed_36 rfl ?_
      refine b_cVi (as := [vI x1]) (st := []) dX3_signed_37 mf_X3_matrix qs32 lk_X3_213 ly_365 rfl (hrec.2.2.2.2.2.2.1 _ _ _ _ h) (by omega) rfl rfl (Nat.le_of_ble_eq_true rfl) (by decide) rfl (fun _ => rfl) (fun r5 m5 h => ?_) (fun _ h => h)
      exact b_iret dX3_signed_40 rfl h
  · have h := ifF c1 h
    refine b_aload_n dX3_signed_9 rfl ?_
    refine b_cVv (as := []) (st := []) dX3_signed_10 mf_X3_opens qs12 lk_X3_68 ly_365 rfl (p_X3_opens (f := 3) (Nat.le_refl _) _ h) (by omega) rfl rfl (Nat.le_of_ble_eq_true rfl) (by decide) rfl (fun _ => rfl) (fun r6 m6 h => ?_) (fun _ h => h)
    refine b_aload_n dX3_signed_13 rfl ?_
    refine b_cVi (as := []) (st := []) dX3_signed_14 mf_X3_expression qs20 lk_X3_114 ly_365 rfl (hrec.2.2.2.2.2.1 _ _ _ h) (by omega) rfl rfl (Nat.le_of_ble_eq_true rfl) (by decide) rfl (fun _ => rfl) (fun r7 m7 h => ?_) (fun _ h => h)
    refine b_istore_n (ls' := [vR 365, vI x1, vI r7]) dX3_signed_17 (Nat.le_of_ble_eq_true rfl) rfl ?_
    refine b_aload_n dX3_signed_18 rfl ?_
    refine b_bipush dX3_signed_19 (by decide) ?_
    refine b_cVv (as := [vI 41]) (st := []) dX3_signed_21 mf_X3_closes qs18 lk_X3_138 ly_365 rfl (p_X3_closes (f := 5) (Nat.le_refl _) _ _ h) (by omega) rfl rfl (Nat.le_of_ble_eq_true rfl) (by decide) rfl (fun _ => rfl) (fun r8 m8 h => ?_) (fun _ h => h)
    refine b_iload_n dX3_signed_24 rfl ?_
    exact b_iret dX3_signed_25 rfl h
theorem pl_X3_sum_23 {f : Nat} {Q : Int → MM → Prop} {T : MM → Prop} {rec : Nat → List Int → MM → (Int → MM → Prop) → (MM → Prop) → Prop} {fr : Nat} (hrec : HR_X3_expression rec fr) (hf : 27 ≤ f ∧ fr + 1 ≤ f) {K5 : Int → MM → Prop} (hK5 : ∀ (x1 : Int) (m : MM), K5 x1 m → B f M_X3_sum 5 [vR 365, vI x1, vU, vU] [] m Q T) : ∀ (x1 : Int) (m : MM), P_X3_sum_23 rec Q T K5 x1 m → B f M_X3_sum 23 [vR 365, vI x1, vU, vU] [] m Q T := by
  intro x1 m h
  have h : P_X3_here m (fun r1 m1 => P_X3_isSign 43 m1 (fun r2 m2 => ((RI r2)) ∧ P_X3_go m2 (fun r3 m3 => rec 9 [] m3 (fun r4 m4 => (isTx (m3 365 1)) ∧ P_X2_add_2 (m3 365 1) (if r2 = 0 then 17 else 16 : Int) r1 x1 r4 m4 (fun r5 m5 => K5 r5 m5)) T) T)) := h
  refine b_aload_n dX3_sum_23 rfl ?_
  refine b_cVi (as := []) (st := []) dX3_sum_24 mf_X3_here qs9 lk_X3_41 ly_365 rfl (p_X3_here (f := 1) (Nat.le_refl _) _ h) (by omega) rfl rfl (Nat.le_of_ble_eq_true rfl) (by decide) rfl (fun _ => rfl) (fun r1 m1 h => ?_) (fun _ h => h)
  refine b_istore_n (ls' := [vR 365, vI x1, vI r1, vU]) dX3_sum_27 (Nat.le_of_ble_eq_true rfl) rfl ?_
  refine b_aload_n dX3_sum_28 rfl ?_
  refine b_bipush dX3_sum_29 (by decide) ?_
  refine b_cVi (as := [vI 43]) (st := []) dX3_sum_31 mf_X3_isSign qs15 lk_X3_49 ly_365 rfl (p_X3_isSign (f := 1) (Nat.le_refl _) _ _ h) (by omega) rfl rfl (Nat.le_of_ble_eq_true rfl) (by decide) rfl (fun _ => rfl) (fun r2 m2 h => ?_) (fun _ h => h)
  obtain ⟨hs, h⟩ := h
  have K : B f M_X3_sum 44 [vR 365, vI x1, vI r1, vU] [vI (if r2 = 0 then 17 else 16 : Int)] m2 Q T := by
    clear hs
    refine b_istore_n (ls' := [vR 365, vI x1, vI r1, vI (if r2 = 0 then 17 else 16 : Int)]) dX3_sum_44 (Nat.le_of_ble_eq_true rfl) rfl ?_
    refine b_aload_n dX3_sum_45 rfl ?_
    refine b_cVv (as := []) (st := []) dX3_sum_46 mf_X3_go qs10 lk_X3_53 ly_365 rfl (p_X3_go (f := 2) (Nat.le_refl _) _ h) (by omega) rfl rfl (Nat.le_of_ble_eq_true rfl) (by decide) rfl (fun _ => rfl) (fun r3 m3 h => ?_) (fun _ h => h)
    refine b_aload_n dX3_sum_49 rfl ?_
    refine b_getM dX3_sum_50 fk_X3_78 ly_365 ?_
    refine b_iload_n dX3_sum_53 rfl ?_
    refine b_iload_n dX3_sum_54 rfl ?_
    refine b_iload_n dX3_sum_55 rfl ?_
    refine b_aload_n dX3_sum_56 rfl ?_
    refine b_cVi (as := []) (st := [vI x1, vI r1, vI (if r2 = 0 then 17 else 16 : Int), vR (m3 365 1)]) dX3_sum_57 mf_X3_product qs26 lk_X3_193 ly_365 rfl (hrec.2.2.2.2.2.2.2.2.2.1 _ _ _ h) (by omega) rfl rfl (Nat.le_of_ble_eq_true rfl) (by decide) rfl (fun _ => rfl) (fun r4 m4 h => ?_) (fun _ h => h)
    obtain ⟨g2, h⟩ := h
    refine b_cVi (as := [vI (if r2 = 0 then 17 else 16 : Int), vI r1, vI x1, vI r4]) (st := []) dX3_sum_60 mf_X2_add_2 q1021 lk_X3_181 (tx_ly0 g2) rfl (p_X2_add_2 (f := 2) (Nat.le_refl _) _ _ _ _ _ _ h) (by omega) rfl rfl (Nat.le_of_ble_eq_true rfl) (by decide) rfl (fun _ => rfl) (fun r5 m5 h => ?_) (fun _ h => h)
    refine b_istore_n (ls' := [vR 365, vI r5, vI r1, vI (if r2 = 0 then 17 else 16 : Int)]) dX3_sum_63 (Nat.le_of_ble_eq_true rfl) rfl ?_
    refine b_goto 5 dX3_sum_64 (by decide) ?_
    refine b_fgt [true, true, false, false] (ls' := [vR 365, vI r5, vU, vU]) rfl rfl ?_
    exact hK5 _ _ h
  have g1 := hs
  refine b_if_eq 42 dX3_sum_34 g1 (by decide) (fun c1 => ?_) (fun c1 => ?_)
  ·
    refine b_bipush dX3_sum_42 (by decide) ?_
    rw [if_pos c1] at K
    exact K
  ·
    refine b_bipush dX3_sum_37 (by decide) ?_
    refine b_goto 44 dX3_sum_39 (by decide) ?_
    rw [if_neg c1] at K
    exact K
theorem pl_X3_sum_5 {f : Nat} {Q : Int → MM → Prop} {T : MM → Prop} {rec : Nat → List Int → MM → (Int → MM → Prop) → (MM → Prop) → Prop} {fr : Nat} (hrec : HR_X3_expression rec fr) (hf : 27 ≤ f ∧ fr + 1 ≤ f) : ∀ (n : Nat) (x1 : Int) (m : MM), P_X3_sum_5 rec Q T n x1 m → B f M_X3_sum 5 [vR 365, vI x1, vU, vU] [] m Q T := by
  intro n
  induction n with
  | zero => intro x1 m h; exact h.elim
  | succ n ih =>
    intro x1 m h
    have h : P_X3_isSign 43 m (fun r1 m1 => (RI r1) ∧ (if r1 = 0 then P_X3_isSign 45 m1 (fun r2 m2 => (RI r2) ∧ (if r2 = 0 then Q x1 m2 else P_X3_sum_23 rec Q T (fun z0 z1 => P_X3_sum_5 rec Q T n z0 z1) x1 m2)) else P_X3_sum_23 rec Q T (fun z0 z1 => P_X3_sum_5 rec Q T n z0 z1) x1 m1)) := h
    refine b_aload_n dX3_sum_5 rfl ?_
    refine b_bipush dX3_sum_6 (by decide) ?_
    refine b_cVi (as := [vI 43]) (st := []) dX3_sum_8 mf_X3_isSign qs15 lk_X3_49 ly_365 rfl (p_X3_isSign (f := 1) (Nat.le_refl _) _ _ h) (by omega) rfl rfl (Nat.le_of_ble_eq_true rfl) (by decide) rfl (fun _ => rfl) (fun r1 m1 h => ?_) (fun _ h => h)
    obtain ⟨g1, h⟩ := h
    refine b_if_ne 23 dX3_sum_11 g1 (by decide) (fun c1 => ?_) (fun c1 => ?_)
    · have h := ifF c1 h
      exact pl_X3_sum_23 hrec hf (fun _ _ h => ih _ _ h) _ _ h
    · have h := ifT (Decidable.of_not_not c1) h
      refine b_aload_n dX3_sum_14 rfl ?_
      refine b_bipush dX3_sum_15 (by decide) ?_
      refine b_cVi (as := [vI 45]) (st := []) dX3_sum_17 mf_X3_isSign qs15 lk_X3_49 ly_365 rfl (p_X3_isSign (f := 1) (Nat.le_refl _) _ _ h) (by omega) rfl rfl (Nat.le_of_ble_eq_true rfl) (by decide) rfl (fun _ => rfl) (fun r2 m2 h => ?_) (fun _ h => h)
      obtain ⟨g2, h⟩ := h
      refine b_if_eq 67 dX3_sum_20 g2 (by decide) (fun c2 => ?_) (fun c2 => ?_)
      · have h := ifT c2 h
        refine b_iload_n dX3_sum_67 rfl ?_
        exact b_iret dX3_sum_68 rfl h
      · have h := ifF c2 h
        exact pl_X3_sum_23 hrec hf (fun _ _ h => ih _ _ h) _ _ h
theorem w_X3_sum {f : Nat} {Q : Int → MM → Prop} {T : MM → Prop} {rec : Nat → List Int → MM → (Int → MM → Prop) → (MM → Prop) → Prop} {fr : Nat} (hrec : HR_X3_expression rec fr) (hf : 27 ≤ f ∧ fr + 1 ≤ f) (m : MM) (h : W_X3_sum rec m Q T) : CC f M_X3_sum [vR 365] m Q T := by
  refine CC.of (plainFor_of_name (by decide)) (Nat.le_of_ble_eq_true rfl) (ls := [vR 365, vU, vU, vU]) rfl ?_
  have h : rec 9 [] m (fun r1 m1 => ∃ nn, P_X3_sum_5 rec Q T nn r1 m1) T := h
  refine b_aload_n dX3_sum_0 rfl ?_
  refine b_cVi (as := []) (st := []) dX3_sum_1 mf_X3_product qs26 lk_X3_193 ly_365 rfl (hrec.2.2.2.2.2.2.2.2.2.1 _ _ _ h) (by omega) rfl rfl (Nat.le_of_ble_eq_true rfl) (by decide) rfl (fun _ => rfl) (fun r1 m1 h => ?_) (fun _ h => h)
  refine b_istore_n (ls' := [vR 365, vI r1, vU, vU]) dX3_sum_4 (Nat.le_of_ble_eq_true rfl) rfl ?_
  obtain ⟨nn, h⟩ := h
  exact pl_X3_sum_5 hrec hf nn _ _ h
def R_X3_expression : Nat → Nat → List Int → MM → (Int → MM → Prop) → (MM → Prop) → Prop
  | 0, _, _, _, _, _ => False
  | d + 1, i, as, m, Q, T => match i, as with
    | 0, [x1, x2] => W_X3_arguments (R_X3_expression d) x1 x2 m Q T
    | 1, [] => W_X3_atom (R_X3_expression d) m Q T
    | 2, [] => W_X3_behind (R_X3_expression d) m Q T
    | 3, [] => W_X3_both (R_X3_expression d) m Q T
    | 4, [] => W_X3_either (R_X3_expression d) m Q T
    | 5, [] => W_X3_expression (R_X3_expression d) m Q T
    | 6, [x1] => W_X3_matrix (R_X3_expression d) x1 m Q T
    | 7, [] => W_X3_minus (R_X3_expression d) m Q T
    | 8, [] => W_X3_negated (R_X3_expression d) m Q T
    | 9, [] => W_X3_product (R_X3_expression d) m Q T
    | 10, [] => W_X3_relation (R_X3_expression d) m Q T
    | 11, [x1] => W_X3_signed (R_X3_expression d) x1 m Q T
    | 12, [] => W_X3_sum (R_X3_expression d) m Q T
    | _, _ => False
theorem pr_X3_expression : ∀ d f : Nat, 27 + d ≤ f → HR_X3_expression (R_X3_expression d) f := by
  intro d
  induction d with
  | zero => intro f hf; exact ⟨fun _ _ _ _ _ h => h.elim, fun _ _ _ h => h.elim, fun _ _ _ h => h.elim, fun _ _ _ h => h.elim, fun _ _ _ h => h.elim, fun _ _ _ h => h.elim, fun _ _ _ _ h => h.elim, fun _ _ _ h => h.elim, fun _ _ _ h => h.elim, fun _ _ _ h => h.elim, fun _ _ _ h => h.elim, fun _ _ _ _ h => h.elim, fun _ _ _ h => h.elim, trivial⟩
  | succ d ih =>
    intro f hf
    have hr := ih (f - 1) (by omega)
    exact ⟨fun x1 x2 m _ _ h => w_X3_arguments hr (show 27 ≤ f ∧ f - 1 + 1 ≤ f by omega) x1 x2 m h, fun m _ _ h => w_X3_atom hr (show 27 ≤ f ∧ f - 1 + 1 ≤ f by omega) m h, fun m _ _ h => w_X3_behind hr (show 27 ≤ f ∧ f - 1 + 1 ≤ f by omega) m h, fun m _ _ h => w_X3_both hr (show 27 ≤ f ∧ f - 1 + 1 ≤ f by omega) m h, fun m _ _ h => w_X3_either hr (show 27 ≤ f ∧ f - 1 + 1 ≤ f by omega) m h, fun m _ _ h => w_X3_expression hr (show 27 ≤ f ∧ f - 1 + 1 ≤ f by omega) m h, fun x1 m _ _ h => w_X3_matrix hr (show 27 ≤ f ∧ f - 1 + 1 ≤ f by omega) x1 m h, fun m _ _ h => w_X3_minus hr (show 27 ≤ f ∧ f - 1 + 1 ≤ f by omega) m h, fun m _ _ h => w_X3_negated hr (show 27 ≤ f ∧ f - 1 + 1 ≤ f by omega) m h, fun m _ _ h => w_X3_product hr (show 27 ≤ f ∧ f - 1 + 1 ≤ f by omega) m h, fun m _ _ h => w_X3_relation hr (show 27 ≤ f ∧ f - 1 + 1 ≤ f by omega) m h, fun x1 m _ _ h => w_X3_signed hr (show 27 ≤ f ∧ f - 1 + 1 ≤ f by omega) x1 m h, fun m _ _ h => w_X3_sum hr (show 27 ≤ f ∧ f - 1 + 1 ≤ f by omega) m h, trivial⟩
theorem dX3_is_0 : decode cX3_is 0 = .ok (.iload_n 1, 1) := by decide +kernel
theorem dX3_is_1 : decode cX3_is 1 = .ok (.aload_n 0, 1) := by decide +kernel
theorem dX3_is_2 : decode cX3_is 2 = .ok (.getfield 12, 3) := by decide +kernel
theorem dX3_is_5 : decode cX3_is 5 = .ok (.getfield 75, 3) := by decide +kernel
theorem dX3_is_8 : decode cX3_is 8 = .ok (.if_icmp .ge 38, 3) := by decide +kernel
theorem dX3_is_11 : decode cX3_is 11 = .ok (.aload_n 0, 1) := by decide +kernel
theorem dX3_is_12 : decode cX3_is 12 = .ok (.getfield 12, 3) := by decide +kernel
theorem dX3_is_15 : decode cX3_is 15 = .ok (.getfield 29, 3) := by decide +kernel
theorem dX3_is_18 : decode cX3_is 18 = .ok (.iload_n 1, 1) := by decide +kernel
theorem dX3_is_19 : decode cX3_is 19 = .ok (.iaload, 1) := by decide +kernel
theorem dX3_is_20 : decode cX3_is 20 = .ok (.iload_n 2, 1) := by decide +kernel
theorem dX3_is_21 : decode cX3_is 21 = .ok (.if_icmp .ne 25, 3) := by decide +kernel
theorem dX3_is_24 : decode cX3_is 24 = .ok (.iload_n 3, 1) := by decide +kernel
theorem dX3_is_25 : decode cX3_is 25 = .ok (.iconst (-1), 1) := by decide +kernel
theorem dX3_is_26 : decode cX3_is 26 = .ok (.if_icmp .eq 16, 3) := by decide +kernel
theorem dX3_is_29 : decode cX3_is 29 = .ok (.aload_n 0, 1) := by decide +kernel
theorem dX3_is_30 : decode cX3_is 30 = .ok (.getfield 12, 3) := by decide +kernel
theorem dX3_is_33 : decode cX3_is 33 = .ok (.getfield 36, 3) := by decide +kernel
theorem dX3_is_36 : decode cX3_is 36 = .ok (.iload_n 1, 1) := by decide +kernel
theorem dX3_is_37 : decode cX3_is 37 = .ok (.iaload, 1) := by decide +kernel
theorem dX3_is_38 : decode cX3_is 38 = .ok (.iload_n 3, 1) := by decide +kernel
theorem dX3_is_39 : decode cX3_is 39 = .ok (.if_icmp .ne 7, 3) := by decide +kernel
theorem dX3_is_42 : decode cX3_is 42 = .ok (.iconst 1, 1) := by decide +kernel
theorem dX3_is_43 : decode cX3_is 43 = .ok (.goto 4, 3) := by decide +kernel
theorem dX3_is_46 : decode cX3_is 46 = .ok (.iconst 0, 1) := by decide +kernel
theorem dX3_is_47 : decode cX3_is 47 = .ok (.ireturn, 1) := by decide +kernel
/-! AlgebraHouse$Parser.is(III)Z -/
def P_X3_is (x1 : Int) (x2 : Int) (x3 : Int) (m : MM) (Q : Int → MM → Prop) : Prop := (RI x1) ∧ (RI (m 366 2)) ∧ (if (m 366 2) ≤ x1 then Q 0 m else (0 ≤ x1 ∧ x1 < 401) ∧ (RI (m 368 x1)) ∧ (RI x2) ∧ (if (m 368 x1) = x2 then (RI x3) ∧ (if x3 = (-1) then Q 1 m else (RI (m 369 x1)) ∧ (if (m 369 x1) = x3 then Q 1 m else Q 0 m)) else Q 0 m))
theorem p_X3_is {f : Nat} {Q : Int → MM → Prop} {T : MM → Prop} (hf : 1 ≤ f) (x1 : Int) (x2 : Int) (x3 : Int) (m : MM) (h : P_X3_is x1 x2 x3 m Q) : CC f M_X3_is [vR 365, vI x1, vI x2, vI x3] m Q T := by
  refine CC.of (plainFor_of_name (by decide)) (Nat.le_of_ble_eq_true rfl) (ls := [vR 365, vI x1, vI x2, vI x3]) rfl ?_
  have h : (RI x1) ∧ (RI (m 366 2)) ∧ (if (m 366 2) ≤ x1 then Q 0 m else (0 ≤ x1 ∧ x1 < 401) ∧ (RI (m 368 x1)) ∧ (RI x2) ∧ (if (m 368 x1) = x2 then (RI x3) ∧ (if x3 = (-1) then Q 1 m else (RI (m 369 x1)) ∧ (if (m 369 x1) = x3 then Q 1 m else Q 0 m)) else Q 0 m)) := h
  refine b_iload_n dX3_is_0 rfl ?_
  refine b_aload_n dX3_is_1 rfl ?_
  refine b_getR dX3_is_2 fk_X3_12 ly_365 gg_365_0 ?_
  refine b_getI dX3_is_5 fk_X3_75 ly_366 ?_
  obtain ⟨g1, h⟩ := h
  obtain ⟨g2, h⟩ := h
  refine b_icmp_ge 46 dX3_is_8 g1 g2 (by decide) (fun c1 => ?_) (fun c1 => ?_)
  · have h := ifT c1 h
    refine b_iconst dX3_is_46 ?_
    exact b_zret dX3_is_47 rfl (Or.inl rfl) h
  · have h := ifF c1 h
    refine b_aload_n dX3_is_11 rfl ?_
    refine b_getR dX3_is_12 fk_X3_12 ly_365 gg_365_0 ?_
    refine b_getR dX3_is_15 fk_X3_29 ly_366 gg_366_3 ?_
    refine b_iload_n dX3_is_18 rfl ?_
    obtain ⟨g3, h⟩ := h
    refine b_iald dX3_is_19 ly_368 g3 ?_
    refine b_iload_n dX3_is_20 rfl ?_
    obtain ⟨g4, h⟩ := h
    obtain ⟨g5, h⟩ := h
    refine b_icmp_ne 46 dX3_is_21 g4 g5 (by decide) (fun c2 => ?_) (fun c2 => ?_)
    · have h := ifF c2 h
      refine b_iconst dX3_is_46 ?_
      exact b_zret dX3_is_47 rfl (Or.inl rfl) h
    · have h := ifT (Decidable.of_not_not c2) h
      refine b_iload_n dX3_is_24 rfl ?_
      refine b_iconst dX3_is_25 ?_
      obtain ⟨g6, h⟩ := h
      refine b_icmp_eq 42 dX3_is_26 g6 (by decide) (by decide) (fun c3 => ?_) (fun c3 => ?_)
      · have h := ifT c3 h
        refine b_iconst dX3_is_42 ?_
        refine b_goto 47 dX3_is_43 (by decide) ?_
        exact b_zret dX3_is_47 rfl (Or.inr rfl) h
      · have h := ifF c3 h
        refine b_aload_n dX3_is_29 rfl ?_
        refine b_getR dX3_is_30 fk_X3_12 ly_365 gg_365_0 ?_
        refine b_getR dX3_is_33 fk_X3_36 ly_366 gg_366_4 ?_
        refine b_iload_n dX3_is_36 rfl ?_
        refine b_iald dX3_is_37 ly_369 g3 ?_
        refine b_iload_n dX3_is_38 rfl ?_
        obtain ⟨g7, h⟩ := h
        refine b_icmp_ne 46 dX3_is_39 g7 g6 (by decide) (fun c4 => ?_) (fun c4 => ?_)
        · have h := ifF c4 h
          refine b_iconst dX3_is_46 ?_
          exact b_zret dX3_is_47 rfl (Or.inl rfl) h
        · have h := ifT (Decidable.of_not_not c4) h
          refine b_iconst dX3_is_42 ?_
          refine b_goto 47 dX3_is_43 (by decide) ?_
          exact b_zret dX3_is_47 rfl (Or.inr rfl) h
theorem dX3_told_0 : decode cX3_told 0 = .ok (.aload_n 0, 1) := by decide +kernel
theorem dX3_told_1 : decode cX3_told 1 = .ok (.getfield 78, 3) := by decide +kernel
theorem dX3_told_4 : decode cX3_told 4 = .ok (.iconst 2, 1) := by decide +kernel
theorem dX3_told_5 : decode cX3_told 5 = .ok (.putfield 103, 3) := by decide +kernel
theorem dX3_told_8 : decode cX3_told 8 = .ok (.aload_n 0, 1) := by decide +kernel
theorem dX3_told_9 : decode cX3_told 9 = .ok (.getfield 78, 3) := by decide +kernel
theorem dX3_told_12 : decode cX3_told 12 = .ok (.aload_n 0, 1) := by decide +kernel
theorem dX3_told_13 : decode cX3_told 13 = .ok (.getfield 12, 3) := by decide +kernel
theorem dX3_told_16 : decode cX3_told 16 = .ok (.getfield 106, 3) := by decide +kernel
theorem dX3_told_19 : decode cX3_told 19 = .ok (.iconst 0, 1) := by decide +kernel
theorem dX3_told_20 : decode cX3_told 20 = .ok (.laload, 1) := by decide +kernel
theorem dX3_told_21 : decode cX3_told 21 = .ok (.putfield 110, 3) := by decide +kernel
theorem dX3_told_24 : decode cX3_told 24 = .ok (.aload_n 0, 1) := by decide +kernel
theorem dX3_told_25 : decode cX3_told 25 = .ok (.getfield 78, 3) := by decide +kernel
theorem dX3_told_28 : decode cX3_told 28 = .ok (.aload_n 0, 1) := by decide +kernel
theorem dX3_told_29 : decode cX3_told 29 = .ok (.invokevirtual 41, 3) := by decide +kernel
theorem dX3_told_32 : decode cX3_told 32 = .ok (.putfield 120, 3) := by decide +kernel
theorem dX3_told_35 : decode cX3_told 35 = .ok (.aload_n 0, 1) := by decide +kernel
theorem dX3_told_36 : decode cX3_told 36 = .ok (.invokevirtual 53, 3) := by decide +kernel
theorem dX3_told_39 : decode cX3_told 39 = .ok (.aload_n 0, 1) := by decide +kernel
theorem dX3_told_40 : decode cX3_told 40 = .ok (.invokevirtual 68, 3) := by decide +kernel
theorem dX3_told_43 : decode cX3_told 43 = .ok (.aload_n 0, 1) := by decide +kernel
theorem dX3_told_44 : decode cX3_told 44 = .ok (.getfield 12, 3) := by decide +kernel
theorem dX3_told_47 : decode cX3_told 47 = .ok (.getfield 29, 3) := by decide +kernel
theorem dX3_told_50 : decode cX3_told 50 = .ok (.aload_n 0, 1) := by decide +kernel
theorem dX3_told_51 : decode cX3_told 51 = .ok (.getfield 33, 3) := by decide +kernel
theorem dX3_told_54 : decode cX3_told 54 = .ok (.iaload, 1) := by decide +kernel
theorem dX3_told_55 : decode cX3_told 55 = .ok (.iconst 2, 1) := by decide +kernel
theorem dX3_told_56 : decode cX3_told 56 = .ok (.if_icmp .eq 12, 3) := by decide +kernel
theorem dX3_told_59 : decode cX3_told 59 = .ok (.aload_n 0, 1) := by decide +kernel
theorem dX3_told_60 : decode cX3_told 60 = .ok (.iconst 1, 1) := by decide +kernel
theorem dX3_told_61 : decode cX3_told 61 = .ok (.aload_n 0, 1) := by decide +kernel
theorem dX3_told_62 : decode cX3_told 62 = .ok (.invokevirtual 41, 3) := by decide +kernel
theorem dX3_told_65 : decode cX3_told 65 = .ok (.invokevirtual 45, 3) := by decide +kernel
theorem dX3_told_68 : decode cX3_told 68 = .ok (.aload_n 0, 1) := by decide +kernel
theorem dX3_told_69 : decode cX3_told 69 = .ok (.getfield 78, 3) := by decide +kernel
theorem dX3_told_72 : decode cX3_told 72 = .ok (.getfield 123, 3) := by decide +kernel
theorem dX3_told_75 : decode cX3_told 75 = .ok (.iconst 3, 1) := by decide +kernel
theorem dX3_told_76 : decode cX3_told 76 = .ok (.if_icmp .ne 12, 3) := by decide +kernel
theorem dX3_told_79 : decode cX3_told 79 = .ok (.aload_n 0, 1) := by decide +kernel
theorem dX3_told_80 : decode cX3_told 80 = .ok (.iconst 2, 1) := by decide +kernel
theorem dX3_told_81 : decode cX3_told 81 = .ok (.aload_n 0, 1) := by decide +kernel
theorem dX3_told_82 : decode cX3_told 82 = .ok (.invokevirtual 41, 3) := by decide +kernel
theorem dX3_told_85 : decode cX3_told 85 = .ok (.invokevirtual 45, 3) := by decide +kernel
theorem dX3_told_88 : decode cX3_told 88 = .ok (.aload_n 0, 1) := by decide +kernel
theorem dX3_told_89 : decode cX3_told 89 = .ok (.getfield 78, 3) := by decide +kernel
theorem dX3_told_92 : decode cX3_told 92 = .ok (.getfield 126, 3) := by decide +kernel
theorem dX3_told_95 : decode cX3_told 95 = .ok (.aload_n 0, 1) := by decide +kernel
theorem dX3_told_96 : decode cX3_told 96 = .ok (.getfield 78, 3) := by decide +kernel
theorem dX3_told_99 : decode cX3_told 99 = .ok (.getfield 123, 3) := by decide +kernel
theorem dX3_told_102 : decode cX3_told 102 = .ok (.aload_n 0, 1) := by decide +kernel
theorem dX3_told_103 : decode cX3_told 103 = .ok (.getfield 12, 3) := by decide +kernel
theorem dX3_told_106 : decode cX3_told 106 = .ok (.getfield 106, 3) := by decide +kernel
theorem dX3_told_109 : decode cX3_told 109 = .ok (.aload_n 0, 1) := by decide +kernel
theorem dX3_told_110 : decode cX3_told 110 = .ok (.getfield 33, 3) := by decide +kernel
theorem dX3_told_113 : decode cX3_told 113 = .ok (.laload, 1) := by decide +kernel
theorem dX3_told_114 : decode cX3_told 114 = .ok (.lastore, 1) := by decide +kernel
theorem dX3_told_115 : decode cX3_told 115 = .ok (.aload_n 0, 1) := by decide +kernel
theorem dX3_told_116 : decode cX3_told 116 = .ok (.getfield 78, 3) := by decide +kernel
theorem dX3_told_119 : decode cX3_told 119 = .ok (.getfield 129, 3) := by decide +kernel
theorem dX3_told_122 : decode cX3_told 122 = .ok (.aload_n 0, 1) := by decide +kernel
theorem dX3_told_123 : decode cX3_told 123 = .ok (.getfield 78, 3) := by decide +kernel
theorem dX3_told_126 : decode cX3_told 126 = .ok (.getfield 123, 3) := by decide +kernel
theorem dX3_told_129 : decode cX3_told 129 = .ok (.aload_n 0, 1) := by decide +kernel
theorem dX3_told_130 : decode cX3_told 130 = .ok (.invokevirtual 41, 3) := by decide +kernel
theorem dX3_told_133 : decode cX3_told 133 = .ok (.iastore, 1) := by decide +kernel
theorem dX3_told_134 : decode cX3_told 134 = .ok (.aload_n 0, 1) := by decide +kernel
theorem dX3_told_135 : decode cX3_told 135 = .ok (.invokevirtual 53, 3) := by decide +kernel
theorem dX3_told_138 : decode cX3_told 138 = .ok (.aload_n 0, 1) := by decide +kernel
theorem dX3_told_139 : decode cX3_told 139 = .ok (.bipush 58, 2) := by decide +kernel
theorem dX3_told_141 : decode cX3_told 141 = .ok (.invokevirtual 71, 3) := by decide +kernel
theorem dX3_told_144 : decode cX3_told 144 = .ok (.aload_n 0, 1) := by decide +kernel
theorem dX3_told_145 : decode cX3_told 145 = .ok (.getfield 78, 3) := by decide +kernel
theorem dX3_told_148 : decode cX3_told 148 = .ok (.getfield 132, 3) := by decide +kernel
theorem dX3_told_151 : decode cX3_told 151 = .ok (.aload_n 0, 1) := by decide +kernel
theorem dX3_told_152 : decode cX3_told 152 = .ok (.getfield 78, 3) := by decide +kernel
theorem dX3_told_155 : decode cX3_told 155 = .ok (.getfield 123, 3) := by decide +kernel
theorem dX3_told_158 : decode cX3_told 158 = .ok (.aload_n 0, 1) := by decide +kernel
theorem dX3_told_159 : decode cX3_told 159 = .ok (.invokevirtual 135, 3) := by decide +kernel
theorem dX3_told_162 : decode cX3_told 162 = .ok (.iastore, 1) := by decide +kernel
theorem dX3_told_163 : decode cX3_told 163 = .ok (.aload_n 0, 1) := by decide +kernel
theorem dX3_told_164 : decode cX3_told 164 = .ok (.getfield 78, 3) := by decide +kernel
theorem dX3_told_167 : decode cX3_told 167 = .ok (.dup, 1) := by decide +kernel
theorem dX3_told_168 : decode cX3_told 168 = .ok (.getfield 123, 3) := by decide +kernel
theorem dX3_told_171 : decode cX3_told 171 = .ok (.iconst 1, 1) := by decide +kernel
theorem dX3_told_172 : decode cX3_told 172 = .ok (.iadd, 1) := by decide +kernel
theorem dX3_told_173 : decode cX3_told 173 = .ok (.putfield 123, 3) := by decide +kernel
theorem dX3_told_176 : decode cX3_told 176 = .ok (.aload_n 0, 1) := by decide +kernel
theorem dX3_told_177 : decode cX3_told 177 = .ok (.bipush 44, 2) := by decide +kernel
theorem dX3_told_179 : decode cX3_told 179 = .ok (.invokevirtual 56, 3) := by decide +kernel
theorem dX3_told_182 : decode cX3_told 182 = .ok (.ifCond .ne (-139), 3) := by decide +kernel
theorem dX3_told_185 : decode cX3_told 185 = .ok (.aload_n 0, 1) := by decide +kernel
theorem dX3_told_186 : decode cX3_told 186 = .ok (.bipush 41, 2) := by decide +kernel
theorem dX3_told_188 : decode cX3_told 188 = .ok (.invokevirtual 138, 3) := by decide +kernel
theorem dX3_told_191 : decode cX3_told 191 = .ok (.aload_n 0, 1) := by decide +kernel
theorem dX3_told_192 : decode cX3_told 192 = .ok (.bipush 58, 2) := by decide +kernel
theorem dX3_told_194 : decode cX3_told 194 = .ok (.invokevirtual 71, 3) := by decide +kernel
theorem dX3_told_197 : decode cX3_told 197 = .ok (.aload_n 0, 1) := by decide +kernel
theorem dX3_told_198 : decode cX3_told 198 = .ok (.getfield 78, 3) := by decide +kernel
theorem dX3_told_201 : decode cX3_told 201 = .ok (.aload_n 0, 1) := by decide +kernel
theorem dX3_told_202 : decode cX3_told 202 = .ok (.invokevirtual 135, 3) := by decide +kernel
theorem dX3_told_205 : decode cX3_told 205 = .ok (.putfield 141, 3) := by decide +kernel
theorem dX3_told_208 : decode cX3_told 208 = .ok (.aload_n 0, 1) := by decide +kernel
theorem dX3_told_209 : decode cX3_told 209 = .ok (.getfield 78, 3) := by decide +kernel
theorem dX3_told_212 : decode cX3_told 212 = .ok (.iconst 0, 1) := by decide +kernel
theorem dX3_told_213 : decode cX3_told 213 = .ok (.putfield 144, 3) := by decide +kernel
theorem dX3_told_216 : decode cX3_told 216 = .ok (.aload_n 0, 1) := by decide +kernel
theorem dX3_told_217 : decode cX3_told 217 = .ok (.bipush 8, 2) := by decide +kernel
theorem dX3_told_219 : decode cX3_told 219 = .ok (.invokevirtual 59, 3) := by decide +kernel
theorem dX3_told_222 : decode cX3_told 222 = .ok (.ifCond .eq 92, 3) := by decide +kernel
theorem dX3_told_225 : decode cX3_told 225 = .ok (.aload_n 0, 1) := by decide +kernel
theorem dX3_told_226 : decode cX3_told 226 = .ok (.getfield 78, 3) := by decide +kernel
theorem dX3_told_229 : decode cX3_told 229 = .ok (.aload_n 0, 1) := by decide +kernel
theorem dX3_told_230 : decode cX3_told 230 = .ok (.invokevirtual 41, 3) := by decide +kernel
theorem dX3_told_233 : decode cX3_told 233 = .ok (.putfield 147, 3) := by decide +kernel
theorem dX3_told_236 : decode cX3_told 236 = .ok (.aload_n 0, 1) := by decide +kernel
theorem dX3_told_237 : decode cX3_told 237 = .ok (.invokevirtual 53, 3) := by decide +kernel
theorem dX3_told_240 : decode cX3_told 240 = .ok (.aload_n 0, 1) := by decide +kernel
theorem dX3_told_241 : decode cX3_told 241 = .ok (.bipush 9, 2) := by decide +kernel
theorem dX3_told_243 : decode cX3_told 243 = .ok (.invokevirtual 59, 3) := by decide +kernel
theorem dX3_told_246 : decode cX3_told 246 = .ok (.ifCond .ne 21, 3) := by decide +kernel
theorem dX3_told_249 : decode cX3_told 249 = .ok (.aload_n 0, 1) := by decide +kernel
theorem dX3_told_250 : decode cX3_told 250 = .ok (.bipush 10, 2) := by decide +kernel
theorem dX3_told_252 : decode cX3_told 252 = .ok (.invokevirtual 59, 3) := by decide +kernel
theorem dX3_told_255 : decode cX3_told 255 = .ok (.ifCond .ne 12, 3) := by decide +kernel
theorem dX3_told_258 : decode cX3_told 258 = .ok (.aload_n 0, 1) := by decide +kernel
theorem dX3_told_259 : decode cX3_told 259 = .ok (.bipush 11, 2) := by decide +kernel
theorem dX3_told_261 : decode cX3_told 261 = .ok (.invokevirtual 59, 3) := by decide +kernel
theorem dX3_told_264 : decode cX3_told 264 = .ok (.ifCond .eq 7, 3) := by decide +kernel
theorem dX3_told_267 : decode cX3_told 267 = .ok (.iconst 1, 1) := by decide +kernel
theorem dX3_told_268 : decode cX3_told 268 = .ok (.goto 4, 3) := by decide +kernel
theorem dX3_told_271 : decode cX3_told 271 = .ok (.iconst 0, 1) := by decide +kernel
theorem dX3_told_272 : decode cX3_told 272 = .ok (.istore_n 1, 1) := by decide +kernel
theorem dX3_told_273 : decode cX3_told 273 = .ok (.iload_n 1, 1) := by decide +kernel
theorem dX3_told_274 : decode cX3_told 274 = .ok (.ifCond .ne 12, 3) := by decide +kernel
theorem dX3_told_277 : decode cX3_told 277 = .ok (.aload_n 0, 1) := by decide +kernel
theorem dX3_told_278 : decode cX3_told 278 = .ok (.iconst 1, 1) := by decide +kernel
theorem dX3_told_279 : decode cX3_told 279 = .ok (.aload_n 0, 1) := by decide +kernel
theorem dX3_told_280 : decode cX3_told 280 = .ok (.invokevirtual 41, 3) := by decide +kernel
theorem dX3_told_283 : decode cX3_told 283 = .ok (.invokevirtual 45, 3) := by decide +kernel
theorem dX3_told_286 : decode cX3_told 286 = .ok (.aload_n 0, 1) := by decide +kernel
theorem dX3_told_287 : decode cX3_told 287 = .ok (.getfield 78, 3) := by decide +kernel
theorem dX3_told_290 : decode cX3_told 290 = .ok (.iconst 1, 1) := by decide +kernel
theorem dX3_told_291 : decode cX3_told 291 = .ok (.aload_n 0, 1) := by decide +kernel
theorem dX3_told_292 : decode cX3_told 292 = .ok (.getfield 12, 3) := by decide +kernel
theorem dX3_told_295 : decode cX3_told 295 = .ok (.getfield 36, 3) := by decide +kernel
theorem dX3_told_298 : decode cX3_told 298 = .ok (.aload_n 0, 1) := by decide +kernel
theorem dX3_told_299 : decode cX3_told 299 = .ok (.getfield 33, 3) := by decide +kernel
theorem dX3_told_302 : decode cX3_told 302 = .ok (.iaload, 1) := by decide +kernel
theorem dX3_told_303 : decode cX3_told 303 = .ok (.iadd, 1) := by decide +kernel
theorem dX3_told_304 : decode cX3_told 304 = .ok (.bipush 9, 2) := by decide +kernel
theorem dX3_told_306 : decode cX3_told 306 = .ok (.isub, 1) := by decide +kernel
theorem dX3_told_307 : decode cX3_told 307 = .ok (.putfield 144, 3) := by decide +kernel
theorem dX3_told_310 : decode cX3_told 310 = .ok (.aload_n 0, 1) := by decide +kernel
theorem dX3_told_311 : decode cX3_told 311 = .ok (.invokevirtual 53, 3) := by decide +kernel
theorem dX3_told_314 : decode cX3_told 314 = .ok (.aload_n 0, 1) := by decide +kernel
theorem dX3_told_315 : decode cX3_told 315 = .ok (.sipush 129, 3) := by decide +kernel
theorem dX3_told_318 : decode cX3_told 318 = .ok (.invokevirtual 71, 3) := by decide +kernel
theorem dX3_told_321 : decode cX3_told 321 = .ok (.aload_n 0, 1) := by decide +kernel
theorem dX3_told_322 : decode cX3_told 322 = .ok (.getfield 78, 3) := by decide +kernel
theorem dX3_told_325 : decode cX3_told 325 = .ok (.aload_n 0, 1) := by decide +kernel
theorem dX3_told_326 : decode cX3_told 326 = .ok (.invokevirtual 41, 3) := by decide +kernel
theorem dX3_told_329 : decode cX3_told 329 = .ok (.putfield 150, 3) := by decide +kernel
theorem dX3_told_332 : decode cX3_told 332 = .ok (.aload_n 0, 1) := by decide +kernel
theorem dX3_told_333 : decode cX3_told 333 = .ok (.getfield 78, 3) := by decide +kernel
theorem dX3_told_336 : decode cX3_told 336 = .ok (.aload_n 0, 1) := by decide +kernel
theorem dX3_told_337 : decode cX3_told 337 = .ok (.invokevirtual 114, 3) := by decide +kernel
theorem dX3_told_340 : decode cX3_told 340 = .ok (.putfield 117, 3) := by decide +kernel
theorem dX3_told_343 : decode cX3_told 343 = .ok (.return_, 1) := by decide +kernel
/-! AlgebraHouse$Parser.told()V -/
def P_X3_told_314 (Q : Int → MM → Prop) (T : MM → Prop) (m : MM) : Prop := P_X3_need 129 m (fun r1 m1 => P_X3_here m1 (fun r2 m2 => (isTx (m1 365 1)) ∧ ∀ m3 : MM, m3 = up m2 (m1 365 1) 3 r2 → R_X3_expression 300 5 [] m3 (fun r3 m4 => (isTx (m3 365 1)) ∧ ∀ m5 : MM, m5 = up m4 (m3 365 1) 2 r3 → Q 0 m5) T)) T
def P_X3_told_286 (Q : Int → MM → Prop) (T : MM → Prop) (m : MM) : Prop := (0 ≤ (m 365 2) ∧ (m 365 2) < 401) ∧ (isTx (m 365 1)) ∧ ∀ m1 : MM, m1 = up m (m 365 1) 22 ((1 + (m 369 (m 365 2))) - 9) → P_X3_go m1 (fun r1 m2 => P_X3_told_314 Q T m2) T
def P_X3_told_267 (Q : Int → MM → Prop) (T : MM → Prop) (m : MM) : Prop := (if (1 : Int) = 0 then P_X3_here m (fun r1 m1 => P_X3_fail 1 r1 m1 (fun r2 m2 => P_X3_told_286 Q T m2) T) else P_X3_told_286 Q T m)
def P_X3_told_185 (Q : Int → MM → Prop) (T : MM → Prop) (m : MM) : Prop := P_X3_closes 41 m (fun r1 m1 => P_X3_need 58 m1 (fun r2 m2 => R_X3_type 20 0 [] m2 (fun r3 m3 => (isTx (m2 365 1)) ∧ ∀ m4 : MM, m4 = up m3 (m2 365 1) 6 r3 → (isTx (m4 365 1)) ∧ ∀ m5 : MM, m5 = up m4 (m4 365 1) 22 0 → P_X3_isKey 8 m5 (fun r4 m6 => (RI r4) ∧ (if r4 = 0 then P_X3_told_314 Q T m6 else P_X3_here m6 (fun r5 m7 => (isTx (m6 365 1)) ∧ ∀ m8 : MM, m8 = up m7 (m6 365 1) 21 r5 → P_X3_go m8 (fun r6 m9 => P_X3_isKey 9 m9 (fun r7 m10 => (RI r7) ∧ (if r7 = 0 then P_X3_isKey 10 m10 (fun r8 m11 => (RI r8) ∧ (if r8 = 0 then P_X3_isKey 11 m11 (fun r9 m12 => ((RI r9)) ∧ (RI (if r9 = 0 then 0 else 1 : Int)) ∧ (if (if r9 = 0 then 0 else 1 : Int) = 0 then P_X3_here m12 (fun r10 m13 => P_X3_fail 1 r10 m13 (fun r11 m14 => P_X3_told_286 Q T m14) T) else P_X3_told_286 Q T m12)) else P_X3_told_267 Q T m11)) else P_X3_told_267 Q T m10))) T)))) T) T) T
def P_X3_told_88 (Q : Int → MM → Prop) (T : MM → Prop) (K43 : MM → Prop) (m : MM) : Prop := (isTx (m 365 1)) ∧ (0 ≤ (m 365 2) ∧ (m 365 2) < 401) ∧ (0 ≤ (m (m 365 1) 5) ∧ (m (m 365 1) 5) < 3) ∧ ∀ m1 : MM, m1 = up m ((m 365 1) + 10) (m (m 365 1) 5) (m 371 (m 365 2)) → (isTx (m1 365 1)) ∧ P_X3_here m1 (fun r1 m2 => (0 ≤ (m1 (m1 365 1) 5) ∧ (m1 (m1 365 1) 5) < 3) ∧ ∀ m3 : MM, m3 = up m2 ((m1 365 1) + 12) (m1 (m1 365 1) 5) r1 → P_X3_go m3 (fun r2 m4 => P_X3_need 58 m4 (fun r3 m5 => (isTx (m5 365 1)) ∧ R_X3_type 20 0 [] m5 (fun r4 m6 => (0 ≤ (m5 (m5 365 1) 5) ∧ (m5 (m5 365 1) 5) < 3) ∧ ∀ m7 : MM, m7 = up m6 ((m5 365 1) + 11) (m5 (m5 365 1) 5) r4 → (isTx (m7 365 1)) ∧ ∀ m8 : MM, m8 = up m7 (m7 365 1) 5 ((m7 (m7 365 1) 5) + 1) → P_X3_takes 44 m8 (fun r5 m9 => (RI r5) ∧ (if r5 = 0 then P_X3_told_185 Q T m9 else K43 m9)) T) T) T) T)
def P_X3_told_68 (Q : Int → MM → Prop) (T : MM → Prop) (K43 : MM → Prop) (m : MM) : Prop := (isTx (m 365 1)) ∧ (RI (m (m 365 1) 5)) ∧ (if (m (m 365 1) 5) = 3 then P_X3_here m (fun r1 m1 => P_X3_fail 2 r1 m1 (fun r2 m2 => P_X3_told_88 Q T K43 m2) T) else P_X3_told_88 Q T K43 m)
def P_X3_told_43 (Q : Int → MM → Prop) (T : MM → Prop) : Nat → MM → Prop
  | 0, _ => False
  | n + 1, m => (0 ≤ (m 365 2) ∧ (m 365 2) < 401) ∧ (RI (m 368 (m 365 2))) ∧ (if (m 368 (m 365 2)) = 2 then P_X3_told_68 Q T (fun z0 => P_X3_told_43 Q T n z0) m else P_X3_here m (fun r1 m1 => P_X3_fail 1 r1 m1 (fun r2 m2 => P_X3_told_68 Q T (fun z0 => P_X3_told_43 Q T n z0) m2) T))
def P_X3_told (m : MM) (Q : Int → MM → Prop) (T : MM → Prop) : Prop := (isTx (m 365 1)) ∧ ∀ m1 : MM, m1 = up m (m 365 1) 1 2 → (isTx (m1 365 1)) ∧ ∀ m2 : MM, m2 = up m1 (m1 365 1) 16 (m1 371 0) → P_X3_here m2 (fun r1 m3 => (isTx (m2 365 1)) ∧ ∀ m4 : MM, m4 = up m3 (m2 365 1) 20 r1 → P_X3_go m4 (fun r2 m5 => P_X3_opens m5 (fun r3 m6 => ∃ nn, P_X3_told_43 Q T nn m6) T) T)
theorem pl_X3_told_314 {f : Nat} {Q : Int → MM → Prop} {T : MM → Prop} (hf : 328 ≤ f) : ∀ (m : MM), P_X3_told_314 Q T m → B f M_X3_told 314 [vR 365, vU] [] m Q T := by
  intro m h
  have h : P_X3_need 129 m (fun r1 m1 => P_X3_here m1 (fun r2 m2 => (isTx (m1 365 1)) ∧ ∀ m3 : MM, m3 = up m2 (m1 365 1) 3 r2 → R_X3_expression 300 5 [] m3 (fun r3 m4 => (isTx (m3 365 1)) ∧ ∀ m5 : MM, m5 = up m4 (m3 365 1) 2 r3 → Q 0 m5) T)) T := h
  refine b_aload_n dX3_told_314 rfl ?_
  refine b_sipush dX3_told_315 (by decide) ?_
  refine b_cVv (as := [vI 129]) (st := []) dX3_told_318 mf_X3_need qs13 lk_X3_71 ly_365 rfl (p_X3_need (f := 4) (Nat.le_refl _) _ _ h) (by omega) rfl rfl (Nat.le_of_ble_eq_true rfl) (by decide) rfl (fun _ => rfl) (fun r1 m1 h => ?_) (fun _ h => h)
  refine b_aload_n dX3_told_321 rfl ?_
  refine b_getM dX3_told_322 fk_X3_78 ly_365 ?_
  refine b_aload_n dX3_told_325 rfl ?_
  refine b_cVi (as := []) (st := [vR (m1 365 1)]) dX3_told_326 mf_X3_here qs9 lk_X3_41 ly_365 rfl (p_X3_here (f := 1) (Nat.le_refl _) _ h) (by omega) rfl rfl (Nat.le_of_ble_eq_true rfl) (by decide) rfl (fun _ => rfl) (fun r2 m2 h => ?_) (fun _ h => h)
  obtain ⟨g1, h⟩ := h
  refine b_putI dX3_told_329 fk_X3_150 (tx_ly0 g1) (fun m3 em3 => ?_)
  have h := h m3 em3
  refine b_aload_n dX3_told_332 rfl ?_
  refine b_getM dX3_told_333 fk_X3_78 ly_365 ?_
  refine b_aload_n dX3_told_336 rfl ?_
  refine b_cVi (as := []) (st := [vR (m3 365 1)]) dX3_told_337 mf_X3_expression qs20 lk_X3_114 ly_365 rfl ((pr_X3_expression 300 327 (Nat.le_refl _)).2.2.2.2.2.1 _ _ _ h) (by omega) rfl rfl (Nat.le_of_ble_eq_true rfl) (by decide) rfl (fun _ => rfl) (fun r3 m4 h => ?_) (fun _ h => h)
  obtain ⟨g2, h⟩ := h
  refine b_putI dX3_told_340 fk_X3_117 (tx_ly0 g2) (fun m5 em5 => ?_)
  have h := h m5 em5
  exact b_vret dX3_told_343 rfl h
theorem pl_X3_told_286 {f : Nat} {Q : Int → MM → Prop} {T : MM → Prop} (hf : 328 ≤ f) : ∀ (m : MM), P_X3_told_286 Q T m → B f M_X3_told 286 [vR 365, vU] [] m Q T := by
  intro m h
  have h : (0 ≤ (m 365 2) ∧ (m 365 2) < 401) ∧ (isTx (m 365 1)) ∧ ∀ m1 : MM, m1 = up m (m 365 1) 22 ((1 + (m 369 (m 365 2))) - 9) → P_X3_go m1 (fun r1 m2 => P_X3_told_314 Q T m2) T := h
  refine b_aload_n dX3_told_286 rfl ?_
  refine b_getM dX3_told_287 fk_X3_78 ly_365 ?_
  refine b_iconst dX3_told_290 ?_
  refine b_aload_n dX3_told_291 rfl ?_
  refine b_getR dX3_told_292 fk_X3_12 ly_365 gg_365_0 ?_
  refine b_getR dX3_told_295 fk_X3_36 ly_366 gg_366_4 ?_
  refine b_aload_n dX3_told_298 rfl ?_
  refine b_getI dX3_told_299 fk_X3_33 ly_365 ?_
  obtain ⟨g1, h⟩ := h
  refine b_iald dX3_told_302 ly_369 g1 ?_
  refine b_iadd dX3_told_303 ?_
  refine b_bipush dX3_told_304 (by decide) ?_
  refine b_isub dX3_told_306 ?_
  obtain ⟨g2, h⟩ := h
  refine b_putI dX3_told_307 fk_X3_144 (tx_ly0 g2) (fun m1 em1 => ?_)
  have h := h m1 em1
  refine b_aload_n dX3_told_310 rfl ?_
  refine b_cVv (as := []) (st := []) dX3_told_311 mf_X3_go qs10 lk_X3_53 ly_365 rfl (p_X3_go (f := 2) (Nat.le_refl _) _ h) (by omega) rfl rfl (Nat.le_of_ble_eq_true rfl) (by decide) rfl (fun _ => rfl) (fun r1 m2 h => ?_) (fun _ h => h)
  exact pl_X3_told_314 hf _ h
theorem pl_X3_told_267 {f : Nat} {Q : Int → MM → Prop} {T : MM → Prop} (hf : 328 ≤ f) : ∀ (m : MM), P_X3_told_267 Q T m → B f M_X3_told 267 [vR 365, vU] [] m Q T := by
  intro m h
  have h : (if (1 : Int) = 0 then P_X3_here m (fun r1 m1 => P_X3_fail 1 r1 m1 (fun r2 m2 => P_X3_told_286 Q T m2) T) else P_X3_told_286 Q T m) := h
  refine b_iconst dX3_told_267 ?_
  refine b_goto 272 dX3_told_268 (by decide) ?_
  refine b_istore_n (ls' := [vR 365, vI 1]) dX3_told_272 (Nat.le_of_ble_eq_true rfl) rfl ?_
  refine b_iload_n dX3_told_273 rfl ?_
  refine b_if_ne 286 dX3_told_274 (by decide) (by decide) (fun c1 => ?_) (fun c1 => ?_)
  · have h := ifF c1 h
    refine b_fgt [true, false] (ls' := [vR 365, vU]) rfl rfl ?_
    exact pl_X3_told_286 hf _ h
  · have h := ifT (Decidable.of_not_not c1) h
    refine b_aload_n dX3_told_277 rfl ?_
    refine b_iconst dX3_told_278 ?_
    refine b_aload_n dX3_told_279 rfl ?_
    refine b_cVi (as := []) (st := [vI 1, vR 365]) dX3_told_280 mf_X3_here qs9 lk_X3_41 ly_365 rfl (p_X3_here (f := 1) (Nat.le_refl _) _ h) (by omega) rfl rfl (Nat.le_of_ble_eq_true rfl) (by decide) rfl (fun _ => rfl) (fun r1 m1 h => ?_) (fun _ h => h)
    refine b_cVv (as := [vI 1, vI r1]) (st := []) dX3_told_283 mf_X3_fail qs11 lk_X3_45 ly_365 rfl (p_X3_fail (f := 1) (Nat.le_refl _) _ _ _ h) (by omega) rfl rfl (Nat.le_of_ble_eq_true rfl) (by decide) rfl (fun _ => rfl) (fun r2 m2 h => ?_) (fun _ h => h)
    refine b_fgt [true, false] (ls' := [vR 365, vU]) rfl rfl ?_
    exact pl_X3_told_286 hf _ h
theorem pl_X3_told_185 {f : Nat} {Q : Int → MM → Prop} {T : MM → Prop} (hf : 328 ≤ f) : ∀ (m : MM), P_X3_told_185 Q T m → B f M_X3_told 185 [vR 365, vU] [] m Q T := by
  intro m h
  have h : P_X3_closes 41 m (fun r1 m1 => P_X3_need 58 m1 (fun r2 m2 => R_X3_type 20 0 [] m2 (fun r3 m3 => (isTx (m2 365 1)) ∧ ∀ m4 : MM, m4 = up m3 (m2 365 1) 6 r3 → (isTx (m4 365 1)) ∧ ∀ m5 : MM, m5 = up m4 (m4 365 1) 22 0 → P_X3_isKey 8 m5 (fun r4 m6 => (RI r4) ∧ (if r4 = 0 then P_X3_told_314 Q T m6 else P_X3_here m6 (fun r5 m7 => (isTx (m6 365 1)) ∧ ∀ m8 : MM, m8 = up m7 (m6 365 1) 21 r5 → P_X3_go m8 (fun r6 m9 => P_X3_isKey 9 m9 (fun r7 m10 => (RI r7) ∧ (if r7 = 0 then P_X3_isKey 10 m10 (fun r8 m11 => (RI r8) ∧ (if r8 = 0 then P_X3_isKey 11 m11 (fun r9 m12 => ((RI r9)) ∧ (RI (if r9 = 0 then 0 else 1 : Int)) ∧ (if (if r9 = 0 then 0 else 1 : Int) = 0 then P_X3_here m12 (fun r10 m13 => P_X3_fail 1 r10 m13 (fun r11 m14 => P_X3_told_286 Q T m14) T) else P_X3_told_286 Q T m12)) else P_X3_told_267 Q T m11)) else P_X3_told_267 Q T m10))) T)))) T) T) T := h
  refine b_aload_n dX3_told_185 rfl ?_
  refine b_bipush dX3_told_186 (by decide) ?_
  refine b_cVv (as := [vI 41]) (st := []) dX3_told_188 mf_X3_closes qs18 lk_X3_138 ly_365 rfl (p_X3_closes (f := 5) (Nat.le_refl _) _ _ h) (by omega) rfl rfl (Nat.le_of_ble_eq_true rfl) (by decide) rfl (fun _ => rfl) (fun r1 m1 h => ?_) (fun _ h => h)
  refine b_aload_n dX3_told_191 rfl ?_
  refine b_bipush dX3_told_192 (by decide) ?_
  refine b_cVv (as := [vI 58]) (st := []) dX3_told_194 mf_X3_need qs13 lk_X3_71 ly_365 rfl (p_X3_need (f := 4) (Nat.le_refl _) _ _ h) (by omega) rfl rfl (Nat.le_of_ble_eq_true rfl) (by decide) rfl (fun _ => rfl) (fun r2 m2 h => ?_) (fun _ h => h)
  refine b_aload_n dX3_told_197 rfl ?_
  refine b_getM dX3_told_198 fk_X3_78 ly_365 ?_
  refine b_aload_n dX3_told_201 rfl ?_
  refine b_cVi (as := []) (st := [vR (m2 365 1)]) dX3_told_202 mf_X3_type qs16 lk_X3_135 ly_365 rfl ((pr_X3_type 20 26 (Nat.le_refl _)).1 _ _ _ h) (by omega) rfl rfl (Nat.le_of_ble_eq_true rfl) (by decide) rfl (fun _ => rfl) (fun r3 m3 h => ?_) (fun _ h => h)
  obtain ⟨g1, h⟩ := h
  refine b_putI dX3_told_205 fk_X3_141 (tx_ly0 g1) (fun m4 em4 => ?_)
  have h := h m4 em4
  refine b_aload_n dX3_told_208 rfl ?_
  refine b_getM dX3_told_209 fk_X3_78 ly_365 ?_
  refine b_iconst dX3_told_212 ?_
  obtain ⟨g2, h⟩ := h
  refine b_putI dX3_told_213 fk_X3_144 (tx_ly0 g2) (fun m5 em5 => ?_)
  have h := h m5 em5
  refine b_aload_n dX3_told_216 rfl ?_
  refine b_bipush dX3_told_217 (by decide) ?_
  refine b_cVi (as := [vI 8]) (st := []) dX3_told_219 mf_X3_isKey qs19 lk_X3_59 ly_365 rfl (p_X3_isKey (f := 1) (Nat.le_refl _) _ _ h) (by omega) rfl rfl (Nat.le_of_ble_eq_true rfl) (by decide) rfl (fun _ => rfl) (fun r4 m6 h => ?_) (fun _ h => h)
  obtain ⟨g3, h⟩ := h
  refine b_if_eq 314 dX3_told_222 g3 (by decide) (fun c1 => ?_) (fun c1 => ?_)
  · have h := ifT c1 h
    exact pl_X3_told_314 hf _ h
  · have h := ifF c1 h
    refine b_aload_n dX3_told_225 rfl ?_
    refine b_getM dX3_told_226 fk_X3_78 ly_365 ?_
    refine b_aload_n dX3_told_229 rfl ?_
    refine b_cVi (as := []) (st := [vR (m6 365 1)]) dX3_told_230 mf_X3_here qs9 lk_X3_41 ly_365 rfl (p_X3_here (f := 1) (Nat.le_refl _) _ h) (by omega) rfl rfl (Nat.le_of_ble_eq_true rfl) (by decide) rfl (fun _ => rfl) (fun r5 m7 h => ?_) (fun _ h => h)
    obtain ⟨g4, h⟩ := h
    refine b_putI dX3_told_233 fk_X3_147 (tx_ly0 g4) (fun m8 em8 => ?_)
    have h := h m8 em8
    refine b_aload_n dX3_told_236 rfl ?_
    refine b_cVv (as := []) (st := []) dX3_told_237 mf_X3_go qs10 lk_X3_53 ly_365 rfl (p_X3_go (f := 2) (Nat.le_refl _) _ h) (by omega) rfl rfl (Nat.le_of_ble_eq_true rfl) (by decide) rfl (fun _ => rfl) (fun r6 m9 h => ?_) (fun _ h => h)
    refine b_aload_n dX3_told_240 rfl ?_
    refine b_bipush dX3_told_241 (by decide) ?_
    refine b_cVi (as := [vI 9]) (st := []) dX3_told_243 mf_X3_isKey qs19 lk_X3_59 ly_365 rfl (p_X3_isKey (f := 1) (Nat.le_refl _) _ _ h) (by omega) rfl rfl (Nat.le_of_ble_eq_true rfl) (by decide) rfl (fun _ => rfl) (fun r7 m10 h => ?_) (fun _ h => h)
    obtain ⟨g5, h⟩ := h
    refine b_if_ne 267 dX3_told_246 g5 (by decide) (fun c2 => ?_) (fun c2 => ?_)
    · have h := ifF c2 h
      exact pl_X3_told_267 hf _ h
    · have h := ifT (Decidable.of_not_not c2) h
      refine b_aload_n dX3_told_249 rfl ?_
      refine b_bipush dX3_told_250 (by decide) ?_
      refine b_cVi (as := [vI 10]) (st := []) dX3_told_252 mf_X3_isKey qs19 lk_X3_59 ly_365 rfl (p_X3_isKey (f := 1) (Nat.le_refl _) _ _ h) (by omega) rfl rfl (Nat.le_of_ble_eq_true rfl) (by decide) rfl (fun _ => rfl) (fun r8 m11 h => ?_) (fun _ h => h)
      obtain ⟨g6, h⟩ := h
      refine b_if_ne 267 dX3_told_255 g6 (by decide) (fun c3 => ?_) (fun c3 => ?_)
      · have h := ifF c3 h
        exact pl_X3_told_267 hf _ h
      · have h := ifT (Decidable.of_not_not c3) h
        refine b_aload_n dX3_told_258 rfl ?_
        refine b_bipush dX3_told_259 (by decide) ?_
        refine b_cVi (as := [vI 11]) (st := []) dX3_told_261 mf_X3_isKey qs19 lk_X3_59 ly_365 rfl (p_X3_isKey (f := 1) (Nat.le_refl _) _ _ h) (by omega) rfl rfl (Nat.le_of_ble_eq_true rfl) (by decide) rfl (fun _ => rfl) (fun r9 m12 h => ?_) (fun _ h => h)
        obtain ⟨hs, h⟩ := h
        have K : B f M_X3_told 272 [vR 365, vU] [vI (if r9 = 0 then 0 else 1 : Int)] m12 Q T := by
          clear hs
          refine b_istore_n (ls' := [vR 365, vI (if r9 = 0 then 0 else 1 : Int)]) dX3_told_272 (Nat.le_of_ble_eq_true rfl) rfl ?_
          refine b_iload_n dX3_told_273 rfl ?_
          obtain ⟨g8, h⟩ := h
          refine b_if_ne 286 dX3_told_274 g8 (by decide) (fun c4 => ?_) (fun c4 => ?_)
          · have h := ifF c4 h
            refine b_fgt [true, false] (ls' := [vR 365, vU]) rfl rfl ?_
            exact pl_X3_told_286 hf _ h
          · have h := ifT (Decidable.of_not_not c4) h
            refine b_aload_n dX3_told_277 rfl ?_
            refine b_iconst dX3_told_278 ?_
            refine b_aload_n dX3_told_279 rfl ?_
            refine b_cVi (as := []) (st := [vI 1, vR 365]) dX3_told_280 mf_X3_here qs9 lk_X3_41 ly_365 rfl (p_X3_here (f := 1) (Nat.le_refl _) _ h) (by omega) rfl rfl (Nat.le_of_ble_eq_true rfl) (by decide) rfl (fun _ => rfl) (fun r10 m13 h => ?_) (fun _ h => h)
            refine b_cVv (as := [vI 1, vI r10]) (st := []) dX3_told_283 mf_X3_fail qs11 lk_X3_45 ly_365 rfl (p_X3_fail (f := 1) (Nat.le_refl _) _ _ _ h) (by omega) rfl rfl (Nat.le_of_ble_eq_true rfl) (by decide) rfl (fun _ => rfl) (fun r11 m14 h => ?_) (fun _ h => h)
            refine b_fgt [true, false] (ls' := [vR 365, vU]) rfl rfl ?_
            exact pl_X3_told_286 hf _ h
        have g7 := hs
        refine b_if_eq 271 dX3_told_264 g7 (by decide) (fun c5 => ?_) (fun c5 => ?_)
        ·
          refine b_iconst dX3_told_271 ?_
          rw [if_pos c5] at K
          exact K
        ·
          refine b_iconst dX3_told_267 ?_
          refine b_goto 272 dX3_told_268 (by decide) ?_
          rw [if_neg c5] at K
          exact K
theorem pl_X3_told_88 {f : Nat} {Q : Int → MM → Prop} {T : MM → Prop} (hf : 328 ≤ f) {K43 : MM → Prop} (hK43 : ∀ (m : MM), K43 m → B f M_X3_told 43 [vR 365, vU] [] m Q T) : ∀ (m : MM), P_X3_told_88 Q T K43 m → B f M_X3_told 88 [vR 365, vU] [] m Q T := by
  intro m h
  have h : (isTx (m 365 1)) ∧ (0 ≤ (m 365 2) ∧ (m 365 2) < 401) ∧ (0 ≤ (m (m 365 1) 5) ∧ (m (m 365 1) 5) < 3) ∧ ∀ m1 : MM, m1 = up m ((m 365 1) + 10) (m (m 365 1) 5) (m 371 (m 365 2)) → (isTx (m1 365 1)) ∧ P_X3_here m1 (fun r1 m2 => (0 ≤ (m1 (m1 365 1) 5) ∧ (m1 (m1 365 1) 5) < 3) ∧ ∀ m3 : MM, m3 = up m2 ((m1 365 1) + 12) (m1 (m1 365 1) 5) r1 → P_X3_go m3 (fun r2 m4 => P_X3_need 58 m4 (fun r3 m5 => (isTx (m5 365 1)) ∧ R_X3_type 20 0 [] m5 (fun r4 m6 => (0 ≤ (m5 (m5 365 1) 5) ∧ (m5 (m5 365 1) 5) < 3) ∧ ∀ m7 : MM, m7 = up m6 ((m5 365 1) + 11) (m5 (m5 365 1) 5) r4 → (isTx (m7 365 1)) ∧ ∀ m8 : MM, m8 = up m7 (m7 365 1) 5 ((m7 (m7 365 1) 5) + 1) → P_X3_takes 44 m8 (fun r5 m9 => (RI r5) ∧ (if r5 = 0 then P_X3_told_185 Q T m9 else K43 m9)) T) T) T) T) := h
  refine b_aload_n dX3_told_88 rfl ?_
  refine b_getM dX3_told_89 fk_X3_78 ly_365 ?_
  obtain ⟨g1, h⟩ := h
  refine b_getR dX3_told_92 fk_X3_126 (tx_ly0 g1) (tx_gg17 g1) ?_
  refine b_aload_n dX3_told_95 rfl ?_
  refine b_getM dX3_told_96 fk_X3_78 ly_365 ?_
  refine b_getI dX3_told_99 fk_X3_123 (tx_ly0 g1) ?_
  refine b_aload_n dX3_told_102 rfl ?_
  refine b_getR dX3_told_103 fk_X3_12 ly_365 gg_365_0 ?_
  refine b_getR dX3_told_106 fk_X3_106 ly_366 gg_366_6 ?_
  refine b_aload_n dX3_told_109 rfl ?_
  refine b_getI dX3_told_110 fk_X3_33 ly_365 ?_
  obtain ⟨g2, h⟩ := h
  refine b_lald dX3_told_113 ly_371 g2 ?_
  obtain ⟨g3, h⟩ := h
  refine b_last dX3_told_114 (tx_ly10 g1) g3 (fun m1 em1 => ?_)
  have h := h m1 em1
  refine b_aload_n dX3_told_115 rfl ?_
  refine b_getM dX3_told_116 fk_X3_78 ly_365 ?_
  obtain ⟨g4, h⟩ := h
  refine b_getR dX3_told_119 fk_X3_129 (tx_ly0 g4) (tx_gg19 g4) ?_
  refine b_aload_n dX3_told_122 rfl ?_
  refine b_getM dX3_told_123 fk_X3_78 ly_365 ?_
  refine b_getI dX3_told_126 fk_X3_123 (tx_ly0 g4) ?_
  refine b_aload_n dX3_told_129 rfl ?_
  refine b_cVi (as := []) (st := [vI (m1 (m1 365 1) 5), vR ((m1 365 1) + 12)]) dX3_told_130 mf_X3_here qs9 lk_X3_41 ly_365 rfl (p_X3_here (f := 1) (Nat.le_refl _) _ h) (by omega) rfl rfl (Nat.le_of_ble_eq_true rfl) (by decide) rfl (fun _ => rfl) (fun r1 m2 h => ?_) (fun _ h => h)
  obtain ⟨g5, h⟩ := h
  refine b_iast dX3_told_133 (tx_ly12 g4) g5 (fun m3 em3 => ?_)
  have h := h m3 em3
  refine b_aload_n dX3_told_134 rfl ?_
  refine b_cVv (as := []) (st := []) dX3_told_135 mf_X3_go qs10 lk_X3_53 ly_365 rfl (p_X3_go (f := 2) (Nat.le_refl _) _ h) (by omega) rfl rfl (Nat.le_of_ble_eq_true rfl) (by decide) rfl (fun _ => rfl) (fun r2 m4 h => ?_) (fun _ h => h)
  refine b_aload_n dX3_told_138 rfl ?_
  refine b_bipush dX3_told_139 (by decide) ?_
  refine b_cVv (as := [vI 58]) (st := []) dX3_told_141 mf_X3_need qs13 lk_X3_71 ly_365 rfl (p_X3_need (f := 4) (Nat.le_refl _) _ _ h) (by omega) rfl rfl (Nat.le_of_ble_eq_true rfl) (by decide) rfl (fun _ => rfl) (fun r3 m5 h => ?_) (fun _ h => h)
  refine b_aload_n dX3_told_144 rfl ?_
  refine b_getM dX3_told_145 fk_X3_78 ly_365 ?_
  obtain ⟨g6, h⟩ := h
  refine b_getR dX3_told_148 fk_X3_132 (tx_ly0 g6) (tx_gg18 g6) ?_
  refine b_aload_n dX3_told_151 rfl ?_
  refine b_getM dX3_told_152 fk_X3_78 ly_365 ?_
  refine b_getI dX3_told_155 fk_X3_123 (tx_ly0 g6) ?_
  refine b_aload_n dX3_told_158 rfl ?_
  refine b_cVi (as := []) (st := [vI (m5 (m5 365 1) 5), vR ((m5 365 1) + 11)]) dX3_told_159 mf_X3_type qs16 lk_X3_135 ly_365 rfl ((pr_X3_type 20 26 (Nat.le_refl _)).1 _ _ _ h) (by omega) rfl rfl (Nat.le_of_ble_eq_true rfl) (by decide) rfl (fun _ => rfl) (fun r4 m6 h => ?_) (fun _ h => h)
  obtain ⟨g7, h⟩ := h
  refine b_iast dX3_told_162 (tx_ly11 g6) g7 (fun m7 em7 => ?_)
  have h := h m7 em7
  refine b_aload_n dX3_told_163 rfl ?_
  refine b_getM dX3_told_164 fk_X3_78 ly_365 ?_
  refine b_dup dX3_told_167 rfl ?_
  obtain ⟨g8, h⟩ := h
  refine b_getI dX3_told_168 fk_X3_123 (tx_ly0 g8) ?_
  refine b_iconst dX3_told_171 ?_
  refine b_iadd dX3_told_172 ?_
  refine b_putI dX3_told_173 fk_X3_123 (tx_ly0 g8) (fun m8 em8 => ?_)
  have h := h m8 em8
  refine b_aload_n dX3_told_176 rfl ?_
  refine b_bipush dX3_told_177 (by decide) ?_
  refine b_cVi (as := [vI 44]) (st := []) dX3_told_179 mf_X3_takes qs14 lk_X3_56 ly_365 rfl (p_X3_takes (f := 3) (Nat.le_refl _) _ _ h) (by omega) rfl rfl (Nat.le_of_ble_eq_true rfl) (by decide) rfl (fun _ => rfl) (fun r5 m9 h => ?_) (fun _ h => h)
  obtain ⟨g9, h⟩ := h
  refine b_if_ne 43 dX3_told_182 g9 (by decide) (fun c1 => ?_) (fun c1 => ?_)
  · have h := ifF c1 h
    exact hK43 _ h
  · have h := ifT (Decidable.of_not_not c1) h
    exact pl_X3_told_185 hf _ h
theorem pl_X3_told_68 {f : Nat} {Q : Int → MM → Prop} {T : MM → Prop} (hf : 328 ≤ f) {K43 : MM → Prop} (hK43 : ∀ (m : MM), K43 m → B f M_X3_told 43 [vR 365, vU] [] m Q T) : ∀ (m : MM), P_X3_told_68 Q T K43 m → B f M_X3_told 68 [vR 365, vU] [] m Q T := by
  intro m h
  have h : (isTx (m 365 1)) ∧ (RI (m (m 365 1) 5)) ∧ (if (m (m 365 1) 5) = 3 then P_X3_here m (fun r1 m1 => P_X3_fail 2 r1 m1 (fun r2 m2 => P_X3_told_88 Q T K43 m2) T) else P_X3_told_88 Q T K43 m) := h
  refine b_aload_n dX3_told_68 rfl ?_
  refine b_getM dX3_told_69 fk_X3_78 ly_365 ?_
  obtain ⟨g1, h⟩ := h
  refine b_getI dX3_told_72 fk_X3_123 (tx_ly0 g1) ?_
  refine b_iconst dX3_told_75 ?_
  obtain ⟨g2, h⟩ := h
  refine b_icmp_ne 88 dX3_told_76 g2 (by decide) (by decide) (fun c1 => ?_) (fun c1 => ?_)
  · have h := ifF c1 h
    exact pl_X3_told_88 hf hK43 _ h
  · have h := ifT (Decidable.of_not_not c1) h
    refine b_aload_n dX3_told_79 rfl ?_
    refine b_iconst dX3_told_80 ?_
    refine b_aload_n dX3_told_81 rfl ?_
    refine b_cVi (as := []) (st := [vI 2, vR 365]) dX3_told_82 mf_X3_here qs9 lk_X3_41 ly_365 rfl (p_X3_here (f := 1) (Nat.le_refl _) _ h) (by omega) rfl rfl (Nat.le_of_ble_eq_true rfl) (by decide) rfl (fun _ => rfl) (fun r1 m1 h => ?_) (fun _ h => h)
    refine b_cVv (as := [vI 2, vI r1]) (st := []) dX3_told_85 mf_X3_fail qs11 lk_X3_45 ly_365 rfl (p_X3_fail (f := 1) (Nat.le_refl _) _ _ _ h) (by omega) rfl rfl (Nat.le_of_ble_eq_true rfl) (by decide) rfl (fun _ => rfl) (fun r2 m2 h => ?_) (fun _ h => h)
    exact pl_X3_told_88 hf hK43 _ h
theorem pl_X3_told_43 {f : Nat} {Q : Int → MM → Prop} {T : MM → Prop} (hf : 328 ≤ f) : ∀ (n : Nat) (m : MM), P_X3_told_43 Q T n m → B f M_X3_told 43 [vR 365, vU] [] m Q T := by
  intro n
  induction n with
  | zero => intro m h; exact h.elim
  | succ n ih =>
    intro m h
    have h : (0 ≤ (m 365 2) ∧ (m 365 2) < 401) ∧ (RI (m 368 (m 365 2))) ∧ (if (m 368 (m 365 2)) = 2 then P_X3_told_68 Q T (fun z0 => P_X3_told_43 Q T n z0) m else P_X3_here m (fun r1 m1 => P_X3_fail 1 r1 m1 (fun r2 m2 => P_X3_told_68 Q T (fun z0 => P_X3_told_43 Q T n z0) m2) T)) := h
    refine b_aload_n dX3_told_43 rfl ?_
    refine b_getR dX3_told_44 fk_X3_12 ly_365 gg_365_0 ?_
    refine b_getR dX3_told_47 fk_X3_29 ly_366 gg_366_3 ?_
    refine b_aload_n dX3_told_50 rfl ?_
    refine b_getI dX3_told_51 fk_X3_33 ly_365 ?_
    obtain ⟨g1, h⟩ := h
    refine b_iald dX3_told_54 ly_368 g1 ?_
    refine b_iconst dX3_told_55 ?_
    obtain ⟨g2, h⟩ := h
    refine b_icmp_eq 68 dX3_told_56 g2 (by decide) (by decide) (fun c1 => ?_) (fun c1 => ?_)
    · have h := ifT c1 h
      exact pl_X3_told_68 hf (fun _ h => ih _ h) _ h
    · have h := ifF c1 h
      refine b_aload_n dX3_told_59 rfl ?_
      refine b_iconst dX3_told_60 ?_
      refine b_aload_n dX3_told_61 rfl ?_
      refine b_cVi (as := []) (st := [vI 1, vR 365]) dX3_told_62 mf_X3_here qs9 lk_X3_41 ly_365 rfl (p_X3_here (f := 1) (Nat.le_refl _) _ h) (by omega) rfl rfl (Nat.le_of_ble_eq_true rfl) (by decide) rfl (fun _ => rfl) (fun r1 m1 h => ?_) (fun _ h => h)
      refine b_cVv (as := [vI 1, vI r1]) (st := []) dX3_told_65 mf_X3_fail qs11 lk_X3_45 ly_365 rfl (p_X3_fail (f := 1) (Nat.le_refl _) _ _ _ h) (by omega) rfl rfl (Nat.le_of_ble_eq_true rfl) (by decide) rfl (fun _ => rfl) (fun r2 m2 h => ?_) (fun _ h => h)
      exact pl_X3_told_68 hf (fun _ h => ih _ h) _ h
theorem p_X3_told {f : Nat} {Q : Int → MM → Prop} {T : MM → Prop} (hf : 328 ≤ f) (m : MM) (h : P_X3_told m Q T) : CC f M_X3_told [vR 365] m Q T := by
  refine CC.of (plainFor_of_name (by decide)) (Nat.le_of_ble_eq_true rfl) (ls := [vR 365, vU]) rfl ?_
  have h : (isTx (m 365 1)) ∧ ∀ m1 : MM, m1 = up m (m 365 1) 1 2 → (isTx (m1 365 1)) ∧ ∀ m2 : MM, m2 = up m1 (m1 365 1) 16 (m1 371 0) → P_X3_here m2 (fun r1 m3 => (isTx (m2 365 1)) ∧ ∀ m4 : MM, m4 = up m3 (m2 365 1) 20 r1 → P_X3_go m4 (fun r2 m5 => P_X3_opens m5 (fun r3 m6 => ∃ nn, P_X3_told_43 Q T nn m6) T) T) := h
  refine b_aload_n dX3_told_0 rfl ?_
  refine b_getM dX3_told_1 fk_X3_78 ly_365 ?_
  refine b_iconst dX3_told_4 ?_
  obtain ⟨g1, h⟩ := h
  refine b_putI dX3_told_5 fk_X3_103 (tx_ly0 g1) (fun m1 em1 => ?_)
  have h := h m1 em1
  refine b_aload_n dX3_told_8 rfl ?_
  refine b_getM dX3_told_9 fk_X3_78 ly_365 ?_
  refine b_aload_n dX3_told_12 rfl ?_
  refine b_getR dX3_told_13 fk_X3_12 ly_365 gg_365_0 ?_
  refine b_getR dX3_told_16 fk_X3_106 ly_366 gg_366_6 ?_
  refine b_iconst dX3_told_19 ?_
  refine b_lald dX3_told_20 ly_371 (by decide) ?_
  obtain ⟨g2, h⟩ := h
  refine b_putL dX3_told_21 fk_X3_110 (tx_ly0 g2) (fun m2 em2 => ?_)
  have h := h m2 em2
  refine b_aload_n dX3_told_24 rfl ?_
  refine b_getM dX3_told_25 fk_X3_78 ly_365 ?_
  refine b_aload_n dX3_told_28 rfl ?_
  refine b_cVi (as := []) (st := [vR (m2 365 1)]) dX3_told_29 mf_X3_here qs9 lk_X3_41 ly_365 rfl (p_X3_here (f := 1) (Nat.le_refl _) _ h) (by omega) rfl rfl (Nat.le_of_ble_eq_true rfl) (by decide) rfl (fun _ => rfl) (fun r1 m3 h => ?_) (fun _ h => h)
  obtain ⟨g3, h⟩ := h
  refine b_putI dX3_told_32 fk_X3_120 (tx_ly0 g3) (fun m4 em4 => ?_)
  have h := h m4 em4
  refine b_aload_n dX3_told_35 rfl ?_
  refine b_cVv (as := []) (st := []) dX3_told_36 mf_X3_go qs10 lk_X3_53 ly_365 rfl (p_X3_go (f := 2) (Nat.le_refl _) _ h) (by omega) rfl rfl (Nat.le_of_ble_eq_true rfl) (by decide) rfl (fun _ => rfl) (fun r2 m5 h => ?_) (fun _ h => h)
  refine b_aload_n dX3_told_39 rfl ?_
  refine b_cVv (as := []) (st := []) dX3_told_40 mf_X3_opens qs12 lk_X3_68 ly_365 rfl (p_X3_opens (f := 3) (Nat.le_refl _) _ h) (by omega) rfl rfl (Nat.le_of_ble_eq_true rfl) (by decide) rfl (fun _ => rfl) (fun r3 m6 h => ?_) (fun _ h => h)
  obtain ⟨nn, h⟩ := h
  exact pl_X3_told_43 hf nn _ h
theorem dX3_line_0 : decode cX3_line 0 = .ok (.aload_n 0, 1) := by decide +kernel
theorem dX3_line_1 : decode cX3_line 1 = .ok (.iconst 0, 1) := by decide +kernel
theorem dX3_line_2 : decode cX3_line 2 = .ok (.iconst 2, 1) := by decide +kernel
theorem dX3_line_3 : decode cX3_line 3 = .ok (.iconst (-1), 1) := by decide +kernel
theorem dX3_line_4 : decode cX3_line 4 = .ok (.invokevirtual 96, 3) := by decide +kernel
theorem dX3_line_7 : decode cX3_line 7 = .ok (.istore_n 1, 1) := by decide +kernel
theorem dX3_line_8 : decode cX3_line 8 = .ok (.iload_n 1, 1) := by decide +kernel
theorem dX3_line_9 : decode cX3_line 9 = .ok (.ifCond .eq 42, 3) := by decide +kernel
theorem dX3_line_12 : decode cX3_line 12 = .ok (.aload_n 0, 1) := by decide +kernel
theorem dX3_line_13 : decode cX3_line 13 = .ok (.iconst 1, 1) := by decide +kernel
theorem dX3_line_14 : decode cX3_line 14 = .ok (.iconst 5, 1) := by decide +kernel
theorem dX3_line_15 : decode cX3_line 15 = .ok (.bipush 40, 2) := by decide +kernel
theorem dX3_line_17 : decode cX3_line 17 = .ok (.invokevirtual 96, 3) := by decide +kernel
theorem dX3_line_20 : decode cX3_line 20 = .ok (.ifCond .eq 31, 3) := by decide +kernel
theorem dX3_line_23 : decode cX3_line 23 = .ok (.aload_n 0, 1) := by decide +kernel
theorem dX3_line_24 : decode cX3_line 24 = .ok (.iconst 2, 1) := by decide +kernel
theorem dX3_line_25 : decode cX3_line 25 = .ok (.iconst 2, 1) := by decide +kernel
theorem dX3_line_26 : decode cX3_line 26 = .ok (.iconst (-1), 1) := by decide +kernel
theorem dX3_line_27 : decode cX3_line 27 = .ok (.invokevirtual 96, 3) := by decide +kernel
theorem dX3_line_30 : decode cX3_line 30 = .ok (.ifCond .eq 21, 3) := by decide +kernel
theorem dX3_line_33 : decode cX3_line 33 = .ok (.aload_n 0, 1) := by decide +kernel
theorem dX3_line_34 : decode cX3_line 34 = .ok (.iconst 3, 1) := by decide +kernel
theorem dX3_line_35 : decode cX3_line 35 = .ok (.iconst 5, 1) := by decide +kernel
theorem dX3_line_36 : decode cX3_line 36 = .ok (.bipush 58, 2) := by decide +kernel
theorem dX3_line_38 : decode cX3_line 38 = .ok (.invokevirtual 96, 3) := by decide +kernel
theorem dX3_line_41 : decode cX3_line 41 = .ok (.ifCond .eq 10, 3) := by decide +kernel
theorem dX3_line_44 : decode cX3_line 44 = .ok (.aload_n 0, 1) := by decide +kernel
theorem dX3_line_45 : decode cX3_line 45 = .ok (.invokevirtual 100, 3) := by decide +kernel
theorem dX3_line_48 : decode cX3_line 48 = .ok (.goto 62, 3) := by decide +kernel
theorem dX3_line_51 : decode cX3_line 51 = .ok (.iload_n 1, 1) := by decide +kernel
theorem dX3_line_52 : decode cX3_line 52 = .ok (.ifCond .eq 47, 3) := by decide +kernel
theorem dX3_line_55 : decode cX3_line 55 = .ok (.aload_n 0, 1) := by decide +kernel
theorem dX3_line_56 : decode cX3_line 56 = .ok (.iconst 1, 1) := by decide +kernel
theorem dX3_line_57 : decode cX3_line 57 = .ok (.iconst 5, 1) := by decide +kernel
theorem dX3_line_58 : decode cX3_line 58 = .ok (.sipush 128, 3) := by decide +kernel
theorem dX3_line_61 : decode cX3_line 61 = .ok (.invokevirtual 96, 3) := by decide +kernel
theorem dX3_line_64 : decode cX3_line 64 = .ok (.ifCond .eq 35, 3) := by decide +kernel
theorem dX3_line_67 : decode cX3_line 67 = .ok (.aload_n 0, 1) := by decide +kernel
theorem dX3_line_68 : decode cX3_line 68 = .ok (.getfield 78, 3) := by decide +kernel
theorem dX3_line_71 : decode cX3_line 71 = .ok (.iconst 1, 1) := by decide +kernel
theorem dX3_line_72 : decode cX3_line 72 = .ok (.putfield 103, 3) := by decide +kernel
theorem dX3_line_75 : decode cX3_line 75 = .ok (.aload_n 0, 1) := by decide +kernel
theorem dX3_line_76 : decode cX3_line 76 = .ok (.getfield 78, 3) := by decide +kernel
theorem dX3_line_79 : decode cX3_line 79 = .ok (.aload_n 0, 1) := by decide +kernel
theorem dX3_line_80 : decode cX3_line 80 = .ok (.getfield 12, 3) := by decide +kernel
theorem dX3_line_83 : decode cX3_line 83 = .ok (.getfield 106, 3) := by decide +kernel
theorem dX3_line_86 : decode cX3_line 86 = .ok (.iconst 0, 1) := by decide +kernel
theorem dX3_line_87 : decode cX3_line 87 = .ok (.laload, 1) := by decide +kernel
theorem dX3_line_88 : decode cX3_line 88 = .ok (.putfield 110, 3) := by decide +kernel
theorem dX3_line_91 : decode cX3_line 91 = .ok (.aload_n 0, 1) := by decide +kernel
theorem dX3_line_92 : decode cX3_line 92 = .ok (.invokevirtual 53, 3) := by decide +kernel
theorem dX3_line_95 : decode cX3_line 95 = .ok (.aload_n 0, 1) := by decide +kernel
theorem dX3_line_96 : decode cX3_line 96 = .ok (.invokevirtual 53, 3) := by decide +kernel
theorem dX3_line_99 : decode cX3_line 99 = .ok (.aload_n 0, 1) := by decide +kernel
theorem dX3_line_100 : decode cX3_line 100 = .ok (.getfield 78, 3) := by decide +kernel
theorem dX3_line_103 : decode cX3_line 103 = .ok (.aload_n 0, 1) := by decide +kernel
theorem dX3_line_104 : decode cX3_line 104 = .ok (.invokevirtual 114, 3) := by decide +kernel
theorem dX3_line_107 : decode cX3_line 107 = .ok (.putfield 117, 3) := by decide +kernel
theorem dX3_line_110 : decode cX3_line 110 = .ok (.aload_n 0, 1) := by decide +kernel
theorem dX3_line_111 : decode cX3_line 111 = .ok (.getfield 12, 3) := by decide +kernel
theorem dX3_line_114 : decode cX3_line 114 = .ok (.getfield 29, 3) := by decide +kernel
theorem dX3_line_117 : decode cX3_line 117 = .ok (.aload_n 0, 1) := by decide +kernel
theorem dX3_line_118 : decode cX3_line 118 = .ok (.getfield 33, 3) := by decide +kernel
theorem dX3_line_121 : decode cX3_line 121 = .ok (.iaload, 1) := by decide +kernel
theorem dX3_line_122 : decode cX3_line 122 = .ok (.ifCond .eq 12, 3) := by decide +kernel
theorem dX3_line_125 : decode cX3_line 125 = .ok (.aload_n 0, 1) := by decide +kernel
theorem dX3_line_126 : decode cX3_line 126 = .ok (.iconst 1, 1) := by decide +kernel
theorem dX3_line_127 : decode cX3_line 127 = .ok (.aload_n 0, 1) := by decide +kernel
theorem dX3_line_128 : decode cX3_line 128 = .ok (.invokevirtual 41, 3) := by decide +kernel
theorem dX3_line_131 : decode cX3_line 131 = .ok (.invokevirtual 45, 3) := by decide +kernel
theorem dX3_line_134 : decode cX3_line 134 = .ok (.return_, 1) := by decide +kernel
/-! AlgebraHouse$Parser.line()V -/
def P_X3_line_110 (Q : Int → MM → Prop) (T : MM → Prop) (m : MM) : Prop := (0 ≤ (m 365 2) ∧ (m 365 2) < 401) ∧ (RI (m 368 (m 365 2))) ∧ (if (m 368 (m 365 2)) = 0 then Q 0 m else P_X3_here m (fun r1 m1 => P_X3_fail 1 r1 m1 (fun r2 m2 => Q 0 m2) T))
def P_X3_line_99 (Q : Int → MM → Prop) (T : MM → Prop) (m : MM) : Prop := R_X3_expression 300 5 [] m (fun r1 m1 => (isTx (m 365 1)) ∧ ∀ m2 : MM, m2 = up m1 (m 365 1) 2 r1 → P_X3_line_110 Q T m2) T
def P_X3_line_51 (Q : Int → MM → Prop) (T : MM → Prop) (x1 : Int) (m : MM) : Prop := (RI x1) ∧ (if x1 = 0 then P_X3_line_99 Q T m else P_X3_is 1 5 128 m (fun r1 m1 => (RI r1) ∧ (if r1 = 0 then P_X3_line_99 Q T m1 else (isTx (m1 365 1)) ∧ ∀ m2 : MM, m2 = up m1 (m1 365 1) 1 1 → (isTx (m2 365 1)) ∧ ∀ m3 : MM, m3 = up m2 (m2 365 1) 16 (m2 371 0) → P_X3_go m3 (fun r2 m4 => P_X3_go m4 (fun r3 m5 => P_X3_line_99 Q T m5) T) T)))
def P_X3_line (m : MM) (Q : Int → MM → Prop) (T : MM → Prop) : Prop := P_X3_is 0 2 (-1) m (fun r1 m1 => (RI r1) ∧ (if r1 = 0 then P_X3_line_51 Q T r1 m1 else P_X3_is 1 5 40 m1 (fun r2 m2 => (RI r2) ∧ (if r2 = 0 then P_X3_line_51 Q T r1 m2 else P_X3_is 2 2 (-1) m2 (fun r3 m3 => (RI r3) ∧ (if r3 = 0 then P_X3_line_51 Q T r1 m3 else P_X3_is 3 5 58 m3 (fun r4 m4 => (RI r4) ∧ (if r4 = 0 then P_X3_line_51 Q T r1 m4 else P_X3_told m4 (fun r5 m5 => P_X3_line_110 Q T m5) T))))))))
theorem pl_X3_line_110 {f : Nat} {Q : Int → MM → Prop} {T : MM → Prop} (hf : 329 ≤ f) : ∀ (m : MM), P_X3_line_110 Q T m → B f M_X3_line 110 [vR 365, vU] [] m Q T := by
  intro m h
  have h : (0 ≤ (m 365 2) ∧ (m 365 2) < 401) ∧ (RI (m 368 (m 365 2))) ∧ (if (m 368 (m 365 2)) = 0 then Q 0 m else P_X3_here m (fun r1 m1 => P_X3_fail 1 r1 m1 (fun r2 m2 => Q 0 m2) T)) := h
  refine b_aload_n dX3_line_110 rfl ?_
  refine b_getR dX3_line_111 fk_X3_12 ly_365 gg_365_0 ?_
  refine b_getR dX3_line_114 fk_X3_29 ly_366 gg_366_3 ?_
  refine b_aload_n dX3_line_117 rfl ?_
  refine b_getI dX3_line_118 fk_X3_33 ly_365 ?_
  obtain ⟨g1, h⟩ := h
  refine b_iald dX3_line_121 ly_368 g1 ?_
  obtain ⟨g2, h⟩ := h
  refine b_if_eq 134 dX3_line_122 g2 (by decide) (fun c1 => ?_) (fun c1 => ?_)
  · have h := ifT c1 h
    exact b_vret dX3_line_134 rfl h
  · have h := ifF c1 h
    refine b_aload_n dX3_line_125 rfl ?_
    refine b_iconst dX3_line_126 ?_
    refine b_aload_n dX3_line_127 rfl ?_
    refine b_cVi (as := []) (st := [vI 1, vR 365]) dX3_line_128 mf_X3_here qs9 lk_X3_41 ly_365 rfl (p_X3_here (f := 1) (Nat.le_refl _) _ h) (by omega) rfl rfl (Nat.le_of_ble_eq_true rfl) (by decide) rfl (fun _ => rfl) (fun r1 m1 h => ?_) (fun _ h => h)
    refine b_cVv (as := [vI 1, vI r1]) (st := []) dX3_line_131 mf_X3_fail qs11 lk_X3_45 ly_365 rfl (p_X3_fail (f := 1) (Nat.le_refl _) _ _ _ h) (by omega) rfl rfl (Nat.le_of_ble_eq_true rfl) (by decide) rfl (fun _ => rfl) (fun r2 m2 h => ?_) (fun _ h => h)
    exact b_vret dX3_line_134 rfl h
theorem pl_X3_line_99 {f : Nat} {Q : Int → MM → Prop} {T : MM → Prop} (hf : 329 ≤ f) : ∀ (m : MM), P_X3_line_99 Q T m → B f M_X3_line 99 [vR 365, vU] [] m Q T := by
  intro m h
  have h : R_X3_expression 300 5 [] m (fun r1 m1 => (isTx (m 365 1)) ∧ ∀ m2 : MM, m2 = up m1 (m 365 1) 2 r1 → P_X3_line_110 Q T m2) T := h
  refine b_aload_n dX3_line_99 rfl ?_
  refine b_getM dX3_line_100 fk_X3_78 ly_365 ?_
  refine b_aload_n dX3_line_103 rfl ?_
  refine b_cVi (as := []) (st := [vR (m 365 1)]) dX3_line_104 mf_X3_expression qs20 lk_X3_114 ly_365 rfl ((pr_X3_expression 300 327 (Nat.le_refl _)).2.2.2.2.2.1 _ _ _ h) (by omega) rfl rfl (Nat.le_of_ble_eq_true rfl) (by decide) rfl (fun _ => rfl) (fun r1 m1 h => ?_) (fun _ h => h)
  obtain ⟨g1, h⟩ := h
  refine b_putI dX3_line_107 fk_X3_117 (tx_ly0 g1) (fun m2 em2 => ?_)
  have h := h m2 em2
  exact pl_X3_line_110 hf _ h
theorem pl_X3_line_51 {f : Nat} {Q : Int → MM → Prop} {T : MM → Prop} (hf : 329 ≤ f) : ∀ (x1 : Int) (m : MM), P_X3_line_51 Q T x1 m → B f M_X3_line 51 [vR 365, vI x1] [] m Q T := by
  intro x1 m h
  have h : (RI x1) ∧ (if x1 = 0 then P_X3_line_99 Q T m else P_X3_is 1 5 128 m (fun r1 m1 => (RI r1) ∧ (if r1 = 0 then P_X3_line_99 Q T m1 else (isTx (m1 365 1)) ∧ ∀ m2 : MM, m2 = up m1 (m1 365 1) 1 1 → (isTx (m2 365 1)) ∧ ∀ m3 : MM, m3 = up m2 (m2 365 1) 16 (m2 371 0) → P_X3_go m3 (fun r2 m4 => P_X3_go m4 (fun r3 m5 => P_X3_line_99 Q T m5) T) T))) := h
  refine b_iload_n dX3_line_51 rfl ?_
  obtain ⟨g1, h⟩ := h
  refine b_if_eq 99 dX3_line_52 g1 (by decide) (fun c1 => ?_) (fun c1 => ?_)
  · have h := ifT c1 h
    refine b_fgt [true, false] (ls' := [vR 365, vU]) rfl rfl ?_
    exact pl_X3_line_99 hf _ h
  · have h := ifF c1 h
    refine b_aload_n dX3_line_55 rfl ?_
    refine b_iconst dX3_line_56 ?_
    refine b_iconst dX3_line_57 ?_
    refine b_sipush dX3_line_58 (by decide) ?_
    refine b_cVi (as := [vI 1, vI 5, vI 128]) (st := []) dX3_line_61 mf_X3_is qs7 lk_X3_96 ly_365 rfl (p_X3_is (f := 1) (Nat.le_refl _) _ _ _ _ h) (by omega) rfl rfl (Nat.le_of_ble_eq_true rfl) (by decide) rfl (fun _ => rfl) (fun r1 m1 h => ?_) (fun _ h => h)
    obtain ⟨g2, h⟩ := h
    refine b_if_eq 99 dX3_line_64 g2 (by decide) (fun c2 => ?_) (fun c2 => ?_)
    · have h := ifT c2 h
      refine b_fgt [true, false] (ls' := [vR 365, vU]) rfl rfl ?_
      exact pl_X3_line_99 hf _ h
    · have h := ifF c2 h
      refine b_aload_n dX3_line_67 rfl ?_
      refine b_getM dX3_line_68 fk_X3_78 ly_365 ?_
      refine b_iconst dX3_line_71 ?_
      obtain ⟨g3, h⟩ := h
      refine b_putI dX3_line_72 fk_X3_103 (tx_ly0 g3) (fun m2 em2 => ?_)
      have h := h m2 em2
      refine b_aload_n dX3_line_75 rfl ?_
      refine b_getM dX3_line_76 fk_X3_78 ly_365 ?_
      refine b_aload_n dX3_line_79 rfl ?_
      refine b_getR dX3_line_80 fk_X3_12 ly_365 gg_365_0 ?_
      refine b_getR dX3_line_83 fk_X3_106 ly_366 gg_366_6 ?_
      refine b_iconst dX3_line_86 ?_
      refine b_lald dX3_line_87 ly_371 (by decide) ?_
      obtain ⟨g4, h⟩ := h
      refine b_putL dX3_line_88 fk_X3_110 (tx_ly0 g4) (fun m3 em3 => ?_)
      have h := h m3 em3
      refine b_aload_n dX3_line_91 rfl ?_
      refine b_cVv (as := []) (st := []) dX3_line_92 mf_X3_go qs10 lk_X3_53 ly_365 rfl (p_X3_go (f := 2) (Nat.le_refl _) _ h) (by omega) rfl rfl (Nat.le_of_ble_eq_true rfl) (by decide) rfl (fun _ => rfl) (fun r2 m4 h => ?_) (fun _ h => h)
      refine b_aload_n dX3_line_95 rfl ?_
      refine b_cVv (as := []) (st := []) dX3_line_96 mf_X3_go qs10 lk_X3_53 ly_365 rfl (p_X3_go (f := 2) (Nat.le_refl _) _ h) (by omega) rfl rfl (Nat.le_of_ble_eq_true rfl) (by decide) rfl (fun _ => rfl) (fun r3 m5 h => ?_) (fun _ h => h)
      refine b_fgt [true, false] (ls' := [vR 365, vU]) rfl rfl ?_
      exact pl_X3_line_99 hf _ h
theorem p_X3_line {f : Nat} {Q : Int → MM → Prop} {T : MM → Prop} (hf : 329 ≤ f) (m : MM) (h : P_X3_line m Q T) : CC f M_X3_line [vR 365] m Q T := by
  refine CC.of (plainFor_of_name (by decide)) (Nat.le_of_ble_eq_true rfl) (ls := [vR 365, vU]) rfl ?_
  have h : P_X3_is 0 2 (-1) m (fun r1 m1 => (RI r1) ∧ (if r1 = 0 then P_X3_line_51 Q T r1 m1 else P_X3_is 1 5 40 m1 (fun r2 m2 => (RI r2) ∧ (if r2 = 0 then P_X3_line_51 Q T r1 m2 else P_X3_is 2 2 (-1) m2 (fun r3 m3 => (RI r3) ∧ (if r3 = 0 then P_X3_line_51 Q T r1 m3 else P_X3_is 3 5 58 m3 (fun r4 m4 => (RI r4) ∧ (if r4 = 0 then P_X3_line_51 Q T r1 m4 else P_X3_told m4 (fun r5 m5 => P_X3_line_110 Q T m5) T)))))))) := h
  refine b_aload_n dX3_line_0 rfl ?_
  refine b_iconst dX3_line_1 ?_
  refine b_iconst dX3_line_2 ?_
  refine b_iconst dX3_line_3 ?_
  refine b_cVi (as := [vI 0, vI 2, vI (-1)]) (st := []) dX3_line_4 mf_X3_is qs7 lk_X3_96 ly_365 rfl (p_X3_is (f := 1) (Nat.le_refl _) _ _ _ _ h) (by omega) rfl rfl (Nat.le_of_ble_eq_true rfl) (by decide) rfl (fun _ => rfl) (fun r1 m1 h => ?_) (fun _ h => h)
  refine b_istore_n (ls' := [vR 365, vI r1]) dX3_line_7 (Nat.le_of_ble_eq_true rfl) rfl ?_
  refine b_iload_n dX3_line_8 rfl ?_
  obtain ⟨g1, h⟩ := h
  refine b_if_eq 51 dX3_line_9 g1 (by decide) (fun c1 => ?_) (fun c1 => ?_)
  · have h := ifT c1 h
    exact pl_X3_line_51 hf _ _ h
  · have h := ifF c1 h
    refine b_aload_n dX3_line_12 rfl ?_
    refine b_iconst dX3_line_13 ?_
    refine b_iconst dX3_line_14 ?_
    refine b_bipush dX3_line_15 (by decide) ?_
    refine b_cVi (as := [vI 1, vI 5, vI 40]) (st := []) dX3_line_17 mf_X3_is qs7 lk_X3_96 ly_365 rfl (p_X3_is (f := 1) (Nat.le_refl _) _ _ _ _ h) (by omega) rfl rfl (Nat.le_of_ble_eq_true rfl) (by decide) rfl (fun _ => rfl) (fun r2 m2 h => ?_) (fun _ h => h)
    obtain ⟨g2, h⟩ := h
    refine b_if_eq 51 dX3_line_20 g2 (by decide) (fun c2 => ?_) (fun c2 => ?_)
    · have h := ifT c2 h
      exact pl_X3_line_51 hf _ _ h
    · have h := ifF c2 h
      refine b_aload_n dX3_line_23 rfl ?_
      refine b_iconst dX3_line_24 ?_
      refine b_iconst dX3_line_25 ?_
      refine b_iconst dX3_line_26 ?_
      refine b_cVi (as := [vI 2, vI 2, vI (-1)]) (st := []) dX3_line_27 mf_X3_is qs7 lk_X3_96 ly_365 rfl (p_X3_is (f := 1) (Nat.le_refl _) _ _ _ _ h) (by omega) rfl rfl (Nat.le_of_ble_eq_true rfl) (by decide) rfl (fun _ => rfl) (fun r3 m3 h => ?_) (fun _ h => h)
      obtain ⟨g3, h⟩ := h
      refine b_if_eq 51 dX3_line_30 g3 (by decide) (fun c3 => ?_) (fun c3 => ?_)
      · have h := ifT c3 h
        exact pl_X3_line_51 hf _ _ h
      · have h := ifF c3 h
        refine b_aload_n dX3_line_33 rfl ?_
        refine b_iconst dX3_line_34 ?_
        refine b_iconst dX3_line_35 ?_
        refine b_bipush dX3_line_36 (by decide) ?_
        refine b_cVi (as := [vI 3, vI 5, vI 58]) (st := []) dX3_line_38 mf_X3_is qs7 lk_X3_96 ly_365 rfl (p_X3_is (f := 1) (Nat.le_refl _) _ _ _ _ h) (by omega) rfl rfl (Nat.le_of_ble_eq_true rfl) (by decide) rfl (fun _ => rfl) (fun r4 m4 h => ?_) (fun _ h => h)
        obtain ⟨g4, h⟩ := h
        refine b_if_eq 51 dX3_line_41 g4 (by decide) (fun c4 => ?_) (fun c4 => ?_)
        · have h := ifT c4 h
          exact pl_X3_line_51 hf _ _ h
        · have h := ifF c4 h
          refine b_aload_n dX3_line_44 rfl ?_
          refine b_cVv (as := []) (st := []) dX3_line_45 mf_X3_told qs8 lk_X3_100 ly_365 rfl (p_X3_told (f := 328) (Nat.le_refl _) _ h) (by omega) rfl rfl (Nat.le_of_ble_eq_true rfl) (by decide) rfl (fun _ => rfl) (fun r5 m5 h => ?_) (fun _ h => h)
          refine b_goto 110 dX3_line_48 (by decide) ?_
          refine b_fgt [true, false] (ls' := [vR 365, vU]) rfl rfl ?_
          exact pl_X3_line_110 hf _ h
