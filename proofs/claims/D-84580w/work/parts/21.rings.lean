set_option maxRecDepth 100000
theorem dX11_depth_0 : decode cX11_depth 0 = .ok (.iload_n 0, 1) := by decide +kernel
theorem dX11_depth_1 : decode cX11_depth 1 = .ok (.iconst 2, 1) := by decide +kernel
theorem dX11_depth_2 : decode cX11_depth 2 = .ok (.ishr, 1) := by decide +kernel
theorem dX11_depth_3 : decode cX11_depth 3 = .ok (.iconst 3, 1) := by decide +kernel
theorem dX11_depth_4 : decode cX11_depth 4 = .ok (.iand, 1) := by decide +kernel
theorem dX11_depth_5 : decode cX11_depth 5 = .ok (.ireturn, 1) := by decide +kernel
/-! AlgebraHouse$Rings.depth(I)I -/
def P_X11_depth (x0 : Int) (m : MM) (Q : Int → MM → Prop) : Prop := Q (iAnd (iShr x0 2) 3) m
theorem p_X11_depth {f : Nat} {Q : Int → MM → Prop} {T : MM → Prop} (hf : 1 ≤ f) (x0 : Int) (m : MM) (h : P_X11_depth x0 m Q) : CC f M_X11_depth [vI x0] m Q T := by
  refine CC.of (plainFor_of_name (by decide)) (Nat.le_of_ble_eq_true rfl) (ls := [vI x0]) rfl ?_
  have h : Q (iAnd (iShr x0 2) 3) m := h
  refine b_iload_n dX11_depth_0 rfl ?_
  refine b_iconst dX11_depth_1 ?_
  refine b_ishr dX11_depth_2 ?_
  refine b_iconst dX11_depth_3 ?_
  refine b_iand dX11_depth_4 ?_
  exact b_iret dX11_depth_5 rfl h
theorem dX11_coefficients_0 : decode cX11_coefficients 0 = .ok (.iload_n 0, 1) := by decide +kernel
theorem dX11_coefficients_1 : decode cX11_coefficients 1 = .ok (.invokestatic 18, 3) := by decide +kernel
theorem dX11_coefficients_4 : decode cX11_coefficients 4 = .ok (.ifCond .ne 7, 3) := by decide +kernel
theorem dX11_coefficients_7 : decode cX11_coefficients 7 = .ok (.iconst 1, 1) := by decide +kernel
theorem dX11_coefficients_8 : decode cX11_coefficients 8 = .ok (.goto 18, 3) := by decide +kernel
theorem dX11_coefficients_11 : decode cX11_coefficients 11 = .ok (.iload_n 0, 1) := by decide +kernel
theorem dX11_coefficients_12 : decode cX11_coefficients 12 = .ok (.invokestatic 18, 3) := by decide +kernel
theorem dX11_coefficients_15 : decode cX11_coefficients 15 = .ok (.iconst 1, 1) := by decide +kernel
theorem dX11_coefficients_16 : decode cX11_coefficients 16 = .ok (.if_icmp .ne 8, 3) := by decide +kernel
theorem dX11_coefficients_19 : decode cX11_coefficients 19 = .ok (.bipush 7, 2) := by decide +kernel
theorem dX11_coefficients_21 : decode cX11_coefficients 21 = .ok (.goto 5, 3) := by decide +kernel
theorem dX11_coefficients_24 : decode cX11_coefficients 24 = .ok (.bipush 49, 2) := by decide +kernel
theorem dX11_coefficients_26 : decode cX11_coefficients 26 = .ok (.ireturn, 1) := by decide +kernel
/-! AlgebraHouse$Rings.coefficients(I)I -/
def P_X11_coefficients (x0 : Int) (m : MM) (Q : Int → MM → Prop) : Prop := P_X11_depth x0 m (fun r1 m1 => (RI r1) ∧ (if r1 = 0 then Q 1 m1 else P_X11_depth x0 m1 (fun r2 m2 => (RI r2) ∧ (if r2 = 1 then Q 7 m2 else Q 49 m2))))
theorem p_X11_coefficients {f : Nat} {Q : Int → MM → Prop} {T : MM → Prop} (hf : 2 ≤ f) (x0 : Int) (m : MM) (h : P_X11_coefficients x0 m Q) : CC f M_X11_coefficients [vI x0] m Q T := by
  refine CC.of (plainFor_of_name (by decide)) (Nat.le_of_ble_eq_true rfl) (ls := [vI x0]) rfl ?_
  have h : P_X11_depth x0 m (fun r1 m1 => (RI r1) ∧ (if r1 = 0 then Q 1 m1 else P_X11_depth x0 m1 (fun r2 m2 => (RI r2) ∧ (if r2 = 1 then Q 7 m2 else Q 49 m2)))) := h
  refine b_iload_n dX11_coefficients_0 rfl ?_
  refine b_cSi (as := [vI x0]) (st := []) dX11_coefficients_1 mf_X11_depth lk_X11_18 (p_X11_depth (f := 1) (Nat.le_refl _) _ _ h) (by omega) rfl rfl (Nat.le_of_ble_eq_true rfl) (by decide) rfl (fun _ => rfl) (fun r1 m1 h => ?_) (fun _ h => h)
  obtain ⟨g1, h⟩ := h
  refine b_if_ne 11 dX11_coefficients_4 g1 (by decide) (fun c1 => ?_) (fun c1 => ?_)
  · have h := ifF c1 h
    refine b_iload_n dX11_coefficients_11 rfl ?_
    refine b_cSi (as := [vI x0]) (st := []) dX11_coefficients_12 mf_X11_depth lk_X11_18 (p_X11_depth (f := 1) (Nat.le_refl _) _ _ h) (by omega) rfl rfl (Nat.le_of_ble_eq_true rfl) (by decide) rfl (fun _ => rfl) (fun r2 m2 h => ?_) (fun _ h => h)
    refine b_iconst dX11_coefficients_15 ?_
    obtain ⟨g2, h⟩ := h
    refine b_icmp_ne 24 dX11_coefficients_16 g2 (by decide) (by decide) (fun c2 => ?_) (fun c2 => ?_)
    · have h := ifF c2 h
      refine b_bipush dX11_coefficients_24 (by decide) ?_
      exact b_iret dX11_coefficients_26 rfl h
    · have h := ifT (Decidable.of_not_not c2) h
      refine b_bipush dX11_coefficients_19 (by decide) ?_
      refine b_goto 26 dX11_coefficients_21 (by decide) ?_
      exact b_iret dX11_coefficients_26 rfl h
  · have h := ifT (Decidable.of_not_not c1) h
    refine b_iconst dX11_coefficients_7 ?_
    refine b_goto 26 dX11_coefficients_8 (by decide) ?_
    exact b_iret dX11_coefficients_26 rfl h
theorem dX11_size_0 : decode cX11_size 0 = .ok (.iload_n 0, 1) := by decide +kernel
theorem dX11_size_1 : decode cX11_size 1 = .ok (.iconst 3, 1) := by decide +kernel
theorem dX11_size_2 : decode cX11_size 2 = .ok (.iand, 1) := by decide +kernel
theorem dX11_size_3 : decode cX11_size 3 = .ok (.ireturn, 1) := by decide +kernel
/-! AlgebraHouse$Rings.size(I)I -/
def P_X11_size (x0 : Int) (m : MM) (Q : Int → MM → Prop) : Prop := Q (iAnd x0 3) m
theorem p_X11_size {f : Nat} {Q : Int → MM → Prop} {T : MM → Prop} (hf : 1 ≤ f) (x0 : Int) (m : MM) (h : P_X11_size x0 m Q) : CC f M_X11_size [vI x0] m Q T := by
  refine CC.of (plainFor_of_name (by decide)) (Nat.le_of_ble_eq_true rfl) (ls := [vI x0]) rfl ?_
  have h : Q (iAnd x0 3) m := h
  refine b_iload_n dX11_size_0 rfl ?_
  refine b_iconst dX11_size_1 ?_
  refine b_iand dX11_size_2 ?_
  exact b_iret dX11_size_3 rfl h
theorem dX11_base_0 : decode cX11_base 0 = .ok (.iload_n 0, 1) := by decide +kernel
theorem dX11_base_1 : decode cX11_base 1 = .ok (.iconst 4, 1) := by decide +kernel
theorem dX11_base_2 : decode cX11_base 2 = .ok (.ishr, 1) := by decide +kernel
theorem dX11_base_3 : decode cX11_base 3 = .ok (.ireturn, 1) := by decide +kernel
/-! AlgebraHouse$Rings.base(I)I -/
def P_X11_base (x0 : Int) (m : MM) (Q : Int → MM → Prop) : Prop := Q (iShr x0 4) m
theorem p_X11_base {f : Nat} {Q : Int → MM → Prop} {T : MM → Prop} (hf : 1 ≤ f) (x0 : Int) (m : MM) (h : P_X11_base x0 m Q) : CC f M_X11_base [vI x0] m Q T := by
  refine CC.of (plainFor_of_name (by decide)) (Nat.le_of_ble_eq_true rfl) (ls := [vI x0]) rfl ?_
  have h : Q (iShr x0 4) m := h
  refine b_iload_n dX11_base_0 rfl ?_
  refine b_iconst dX11_base_1 ?_
  refine b_ishr dX11_base_2 ?_
  exact b_iret dX11_base_3 rfl h
theorem dX11_entries_0 : decode cX11_entries 0 = .ok (.iload_n 0, 1) := by decide +kernel
theorem dX11_entries_1 : decode cX11_entries 1 = .ok (.invokestatic 15, 3) := by decide +kernel
theorem dX11_entries_4 : decode cX11_entries 4 = .ok (.ifCond .ne 7, 3) := by decide +kernel
theorem dX11_entries_7 : decode cX11_entries 7 = .ok (.iconst 1, 1) := by decide +kernel
theorem dX11_entries_8 : decode cX11_entries 8 = .ok (.goto 12, 3) := by decide +kernel
theorem dX11_entries_11 : decode cX11_entries 11 = .ok (.iload_n 0, 1) := by decide +kernel
theorem dX11_entries_12 : decode cX11_entries 12 = .ok (.invokestatic 15, 3) := by decide +kernel
theorem dX11_entries_15 : decode cX11_entries 15 = .ok (.iload_n 0, 1) := by decide +kernel
theorem dX11_entries_16 : decode cX11_entries 16 = .ok (.invokestatic 15, 3) := by decide +kernel
theorem dX11_entries_19 : decode cX11_entries 19 = .ok (.imul, 1) := by decide +kernel
theorem dX11_entries_20 : decode cX11_entries 20 = .ok (.ireturn, 1) := by decide +kernel
/-! AlgebraHouse$Rings.entries(I)I -/
def P_X11_entries (x0 : Int) (m : MM) (Q : Int → MM → Prop) : Prop := P_X11_size x0 m (fun r1 m1 => (RI r1) ∧ (if r1 = 0 then Q 1 m1 else P_X11_size x0 m1 (fun r2 m2 => P_X11_size x0 m2 (fun r3 m3 => Q (r2 * r3) m3))))
theorem p_X11_entries {f : Nat} {Q : Int → MM → Prop} {T : MM → Prop} (hf : 2 ≤ f) (x0 : Int) (m : MM) (h : P_X11_entries x0 m Q) : CC f M_X11_entries [vI x0] m Q T := by
  refine CC.of (plainFor_of_name (by decide)) (Nat.le_of_ble_eq_true rfl) (ls := [vI x0]) rfl ?_
  have h : P_X11_size x0 m (fun r1 m1 => (RI r1) ∧ (if r1 = 0 then Q 1 m1 else P_X11_size x0 m1 (fun r2 m2 => P_X11_size x0 m2 (fun r3 m3 => Q (r2 * r3) m3)))) := h
  refine b_iload_n dX11_entries_0 rfl ?_
  refine b_cSi (as := [vI x0]) (st := []) dX11_entries_1 mf_X11_size lk_X11_15 (p_X11_size (f := 1) (Nat.le_refl _) _ _ h) (by omega) rfl rfl (Nat.le_of_ble_eq_true rfl) (by decide) rfl (fun _ => rfl) (fun r1 m1 h => ?_) (fun _ h => h)
  obtain ⟨g1, h⟩ := h
  refine b_if_ne 11 dX11_entries_4 g1 (by decide) (fun c1 => ?_) (fun c1 => ?_)
  · have h := ifF c1 h
    refine b_iload_n dX11_entries_11 rfl ?_
    refine b_cSi (as := [vI x0]) (st := []) dX11_entries_12 mf_X11_size lk_X11_15 (p_X11_size (f := 1) (Nat.le_refl _) _ _ h) (by omega) rfl rfl (Nat.le_of_ble_eq_true rfl) (by decide) rfl (fun _ => rfl) (fun r2 m2 h => ?_) (fun _ h => h)
    refine b_iload_n dX11_entries_15 rfl ?_
    refine b_cSi (as := [vI x0]) (st := [vI r2]) dX11_entries_16 mf_X11_size lk_X11_15 (p_X11_size (f := 1) (Nat.le_refl _) _ _ h) (by omega) rfl rfl (Nat.le_of_ble_eq_true rfl) (by decide) rfl (fun _ => rfl) (fun r3 m3 h => ?_) (fun _ h => h)
    refine b_imul dX11_entries_19 ?_
    exact b_iret dX11_entries_20 rfl h
  · have h := ifT (Decidable.of_not_not c1) h
    refine b_iconst dX11_entries_7 ?_
    refine b_goto 20 dX11_entries_8 (by decide) ?_
    exact b_iret dX11_entries_20 rfl h
theorem dX11_cells_0 : decode cX11_cells 0 = .ok (.iload_n 0, 1) := by decide +kernel
theorem dX11_cells_1 : decode cX11_cells 1 = .ok (.bipush (-2), 2) := by decide +kernel
theorem dX11_cells_3 : decode cX11_cells 3 = .ok (.if_icmp .ne 7, 3) := by decide +kernel
theorem dX11_cells_6 : decode cX11_cells 6 = .ok (.iconst 2, 1) := by decide +kernel
theorem dX11_cells_7 : decode cX11_cells 7 = .ok (.goto 14, 3) := by decide +kernel
theorem dX11_cells_10 : decode cX11_cells 10 = .ok (.iconst 2, 1) := by decide +kernel
theorem dX11_cells_11 : decode cX11_cells 11 = .ok (.iload_n 0, 1) := by decide +kernel
theorem dX11_cells_12 : decode cX11_cells 12 = .ok (.invokestatic 44, 3) := by decide +kernel
theorem dX11_cells_15 : decode cX11_cells 15 = .ok (.imul, 1) := by decide +kernel
theorem dX11_cells_16 : decode cX11_cells 16 = .ok (.iload_n 0, 1) := by decide +kernel
theorem dX11_cells_17 : decode cX11_cells 17 = .ok (.invokestatic 47, 3) := by decide +kernel
theorem dX11_cells_20 : decode cX11_cells 20 = .ok (.imul, 1) := by decide +kernel
theorem dX11_cells_21 : decode cX11_cells 21 = .ok (.ireturn, 1) := by decide +kernel
/-! AlgebraHouse$Rings.cells(I)I -/
def P_X11_cells (x0 : Int) (m : MM) (Q : Int → MM → Prop) : Prop := (RI x0) ∧ (if x0 = (-2) then Q 2 m else P_X11_entries x0 m (fun r1 m1 => P_X11_coefficients x0 m1 (fun r2 m2 => Q ((2 * r1) * r2) m2)))
theorem p_X11_cells {f : Nat} {Q : Int → MM → Prop} {T : MM → Prop} (hf : 3 ≤ f) (x0 : Int) (m : MM) (h : P_X11_cells x0 m Q) : CC f M_X11_cells [vI x0] m Q T := by
  refine CC.of (plainFor_of_name (by decide)) (Nat.le_of_ble_eq_true rfl) (ls := [vI x0]) rfl ?_
  have h : (RI x0) ∧ (if x0 = (-2) then Q 2 m else P_X11_entries x0 m (fun r1 m1 => P_X11_coefficients x0 m1 (fun r2 m2 => Q ((2 * r1) * r2) m2))) := h
  refine b_iload_n dX11_cells_0 rfl ?_
  refine b_bipush dX11_cells_1 (by decide) ?_
  obtain ⟨g1, h⟩ := h
  refine b_icmp_ne 10 dX11_cells_3 g1 (by decide) (by decide) (fun c1 => ?_) (fun c1 => ?_)
  · have h := ifF c1 h
    refine b_iconst dX11_cells_10 ?_
    refine b_iload_n dX11_cells_11 rfl ?_
    refine b_cSi (as := [vI x0]) (st := [vI 2]) dX11_cells_12 mf_X11_entries lk_X11_44 (p_X11_entries (f := 2) (Nat.le_refl _) _ _ h) (by omega) rfl rfl (Nat.le_of_ble_eq_true rfl) (by decide) rfl (fun _ => rfl) (fun r1 m1 h => ?_) (fun _ h => h)
    refine b_imul dX11_cells_15 ?_
    refine b_iload_n dX11_cells_16 rfl ?_
    refine b_cSi (as := [vI x0]) (st := [vI (2 * r1)]) dX11_cells_17 mf_X11_coefficients lk_X11_47 (p_X11_coefficients (f := 2) (Nat.le_refl _) _ _ h) (by omega) rfl rfl (Nat.le_of_ble_eq_true rfl) (by decide) rfl (fun _ => rfl) (fun r2 m2 h => ?_) (fun _ h => h)
    refine b_imul dX11_cells_20 ?_
    exact b_iret dX11_cells_21 rfl h
  · have h := ifT (Decidable.of_not_not c1) h
    refine b_iconst dX11_cells_6 ?_
    refine b_goto 21 dX11_cells_7 (by decide) ?_
    exact b_iret dX11_cells_21 rfl h
theorem dX11_of_0 : decode cX11_of 0 = .ok (.iload_n 0, 1) := by decide +kernel
theorem dX11_of_1 : decode cX11_of 1 = .ok (.iconst 4, 1) := by decide +kernel
theorem dX11_of_2 : decode cX11_of 2 = .ok (.ishl, 1) := by decide +kernel
theorem dX11_of_3 : decode cX11_of 3 = .ok (.iload_n 1, 1) := by decide +kernel
theorem dX11_of_4 : decode cX11_of 4 = .ok (.iconst 2, 1) := by decide +kernel
theorem dX11_of_5 : decode cX11_of 5 = .ok (.ishl, 1) := by decide +kernel
theorem dX11_of_6 : decode cX11_of 6 = .ok (.ior, 1) := by decide +kernel
theorem dX11_of_7 : decode cX11_of 7 = .ok (.iload_n 2, 1) := by decide +kernel
theorem dX11_of_8 : decode cX11_of 8 = .ok (.ior, 1) := by decide +kernel
theorem dX11_of_9 : decode cX11_of 9 = .ok (.ireturn, 1) := by decide +kernel
/-! AlgebraHouse$Rings.of(III)I -/
def P_X11_of (x0 : Int) (x1 : Int) (x2 : Int) (m : MM) (Q : Int → MM → Prop) : Prop := Q (iOr (iOr (iShl x0 4) (iShl x1 2)) x2) m
theorem p_X11_of {f : Nat} {Q : Int → MM → Prop} {T : MM → Prop} (hf : 1 ≤ f) (x0 : Int) (x1 : Int) (x2 : Int) (m : MM) (h : P_X11_of x0 x1 x2 m Q) : CC f M_X11_of [vI x0, vI x1, vI x2] m Q T := by
  refine CC.of (plainFor_of_name (by decide)) (Nat.le_of_ble_eq_true rfl) (ls := [vI x0, vI x1, vI x2]) rfl ?_
  have h : Q (iOr (iOr (iShl x0 4) (iShl x1 2)) x2) m := h
  refine b_iload_n dX11_of_0 rfl ?_
  refine b_iconst dX11_of_1 ?_
  refine b_ishl dX11_of_2 ?_
  refine b_iload_n dX11_of_3 rfl ?_
  refine b_iconst dX11_of_4 ?_
  refine b_ishl dX11_of_5 ?_
  refine b_ior dX11_of_6 ?_
  refine b_iload_n dX11_of_7 rfl ?_
  refine b_ior dX11_of_8 ?_
  exact b_iret dX11_of_9 rfl h
theorem dX11_isPrime_0 : decode cX11_isPrime 0 = .ok (.iload_n 0, 1) := by decide +kernel
theorem dX11_isPrime_1 : decode cX11_isPrime 1 = .ok (.sipush 20000, 3) := by decide +kernel
theorem dX11_isPrime_4 : decode cX11_isPrime 4 = .ok (.if_icmp .ne 5, 3) := by decide +kernel
theorem dX11_isPrime_7 : decode cX11_isPrime 7 = .ok (.iconst 1, 1) := by decide +kernel
theorem dX11_isPrime_8 : decode cX11_isPrime 8 = .ok (.ireturn, 1) := by decide +kernel
theorem dX11_isPrime_9 : decode cX11_isPrime 9 = .ok (.iload_n 0, 1) := by decide +kernel
theorem dX11_isPrime_10 : decode cX11_isPrime 10 = .ok (.iconst 2, 1) := by decide +kernel
theorem dX11_isPrime_11 : decode cX11_isPrime 11 = .ok (.if_icmp .lt 10, 3) := by decide +kernel
theorem dX11_isPrime_14 : decode cX11_isPrime 14 = .ok (.iload_n 0, 1) := by decide +kernel
theorem dX11_isPrime_15 : decode cX11_isPrime 15 = .ok (.sipush 20001, 3) := by decide +kernel
theorem dX11_isPrime_18 : decode cX11_isPrime 18 = .ok (.if_icmp .ne 5, 3) := by decide +kernel
theorem dX11_isPrime_21 : decode cX11_isPrime 21 = .ok (.iconst 0, 1) := by decide +kernel
theorem dX11_isPrime_22 : decode cX11_isPrime 22 = .ok (.ireturn, 1) := by decide +kernel
theorem dX11_isPrime_23 : decode cX11_isPrime 23 = .ok (.iconst 2, 1) := by decide +kernel
theorem dX11_isPrime_24 : decode cX11_isPrime 24 = .ok (.istore_n 1, 1) := by decide +kernel
theorem dX11_isPrime_25 : decode cX11_isPrime 25 = .ok (.iload_n 1, 1) := by decide +kernel
theorem dX11_isPrime_26 : decode cX11_isPrime 26 = .ok (.iload_n 1, 1) := by decide +kernel
theorem dX11_isPrime_27 : decode cX11_isPrime 27 = .ok (.imul, 1) := by decide +kernel
theorem dX11_isPrime_28 : decode cX11_isPrime 28 = .ok (.iload_n 0, 1) := by decide +kernel
theorem dX11_isPrime_29 : decode cX11_isPrime 29 = .ok (.if_icmp .gt 17, 3) := by decide +kernel
theorem dX11_isPrime_32 : decode cX11_isPrime 32 = .ok (.iload_n 0, 1) := by decide +kernel
theorem dX11_isPrime_33 : decode cX11_isPrime 33 = .ok (.iload_n 1, 1) := by decide +kernel
theorem dX11_isPrime_34 : decode cX11_isPrime 34 = .ok (.irem, 1) := by decide +kernel
theorem dX11_isPrime_35 : decode cX11_isPrime 35 = .ok (.ifCond .ne 5, 3) := by decide +kernel
theorem dX11_isPrime_38 : decode cX11_isPrime 38 = .ok (.iconst 0, 1) := by decide +kernel
theorem dX11_isPrime_39 : decode cX11_isPrime 39 = .ok (.ireturn, 1) := by decide +kernel
theorem dX11_isPrime_40 : decode cX11_isPrime 40 = .ok (.iinc 1 1, 3) := by decide +kernel
theorem dX11_isPrime_43 : decode cX11_isPrime 43 = .ok (.goto (-18), 3) := by decide +kernel
theorem dX11_isPrime_46 : decode cX11_isPrime 46 = .ok (.iconst 1, 1) := by decide +kernel
theorem dX11_isPrime_47 : decode cX11_isPrime 47 = .ok (.ireturn, 1) := by decide +kernel
/-! AlgebraHouse$Rings.isPrime(I)Z -/
def P_X11_isPrime_25 (Q : Int → MM → Prop) : Nat → Int → Int → MM → Prop
  | 0, _, _, _ => False
  | n + 1, x0, x1, m => (RI (x1 * x1)) ∧ (RI x0) ∧ (if x0 < (x1 * x1) then Q 1 m else (RI x1) ∧ (x1 ≠ 0) ∧ (RI (Int.tmod x0 x1)) ∧ (if (Int.tmod x0 x1) = 0 then Q 0 m else P_X11_isPrime_25 Q n x0 (x1 + 1) m))
def P_X11_isPrime (x0 : Int) (m : MM) (Q : Int → MM → Prop) : Prop := (RI x0) ∧ (if x0 = 20000 then Q 1 m else (if x0 < 2 then Q 0 m else (if x0 = 20001 then Q 0 m else ∃ nn, P_X11_isPrime_25 Q nn x0 2 m)))
theorem pl_X11_isPrime_25 {f : Nat} {Q : Int → MM → Prop} {T : MM → Prop} (hf : 1 ≤ f) : ∀ (n : Nat) (x0 : Int) (x1 : Int) (m : MM), P_X11_isPrime_25 Q n x0 x1 m → B f M_X11_isPrime 25 [vI x0, vI x1] [] m Q T := by
  intro n
  induction n with
  | zero => intro x0 x1 m h; exact h.elim
  | succ n ih =>
    intro x0 x1 m h
    have h : (RI (x1 * x1)) ∧ (RI x0) ∧ (if x0 < (x1 * x1) then Q 1 m else (RI x1) ∧ (x1 ≠ 0) ∧ (RI (Int.tmod x0 x1)) ∧ (if (Int.tmod x0 x1) = 0 then Q 0 m else P_X11_isPrime_25 Q n x0 (x1 + 1) m)) := h
    refine b_iload_n dX11_isPrime_25 rfl ?_
    refine b_iload_n dX11_isPrime_26 rfl ?_
    refine b_imul dX11_isPrime_27 ?_
    refine b_iload_n dX11_isPrime_28 rfl ?_
    obtain ⟨g1, h⟩ := h
    obtain ⟨g2, h⟩ := h
    refine b_icmp_gt 46 dX11_isPrime_29 g1 g2 (by decide) (fun c1 => ?_) (fun c1 => ?_)
    · have h := ifT c1 h
      refine b_iconst dX11_isPrime_46 ?_
      exact b_zret dX11_isPrime_47 rfl (Or.inr rfl) h
    · have h := ifF c1 h
      refine b_iload_n dX11_isPrime_32 rfl ?_
      refine b_iload_n dX11_isPrime_33 rfl ?_
      obtain ⟨g3, h⟩ := h
      obtain ⟨g4, h⟩ := h
      refine b_irem dX11_isPrime_34 g2 g3 g4 ?_
      obtain ⟨g5, h⟩ := h
      refine b_if_ne 40 dX11_isPrime_35 g5 (by decide) (fun c2 => ?_) (fun c2 => ?_)
      · have h := ifF c2 h
        refine b_iinc (ls' := [vI x0, vI (x1 + 1)]) dX11_isPrime_40 rfl rfl ?_
        refine b_goto 25 dX11_isPrime_43 (by decide) ?_
        exact ih _ _ _ h
      · have h := ifT (Decidable.of_not_not c2) h
        refine b_iconst dX11_isPrime_38 ?_
        exact b_zret dX11_isPrime_39 rfl (Or.inl rfl) h
theorem p_X11_isPrime {f : Nat} {Q : Int → MM → Prop} {T : MM → Prop} (hf : 1 ≤ f) (x0 : Int) (m : MM) (h : P_X11_isPrime x0 m Q) : CC f M_X11_isPrime [vI x0] m Q T := by
  refine CC.of (plainFor_of_name (by decide)) (Nat.le_of_ble_eq_true rfl) (ls := [vI x0, vU]) rfl ?_
  have h : (RI x0) ∧ (if x0 = 20000 then Q 1 m else (if x0 < 2 then Q 0 m else (if x0 = 20001 then Q 0 m else ∃ nn, P_X11_isPrime_25 Q nn x0 2 m))) := h
  refine b_iload_n dX11_isPrime_0 rfl ?_
  refine b_sipush dX11_isPrime_1 (by decide) ?_
  obtain ⟨g1, h⟩ := h
  refine b_icmp_ne 9 dX11_isPrime_4 g1 (by decide) (by decide) (fun c1 => ?_) (fun c1 => ?_)
  · have h := ifF c1 h
    refine b_iload_n dX11_isPrime_9 rfl ?_
    refine b_iconst dX11_isPrime_10 ?_
    refine b_icmp_lt 21 dX11_isPrime_11 g1 (by decide) (by decide) (fun c2 => ?_) (fun c2 => ?_)
    · have h := ifT c2 h
      refine b_iconst dX11_isPrime_21 ?_
      exact b_zret dX11_isPrime_22 rfl (Or.inl rfl) h
    · have h := ifF c2 h
      refine b_iload_n dX11_isPrime_14 rfl ?_
      refine b_sipush dX11_isPrime_15 (by decide) ?_
      refine b_icmp_ne 23 dX11_isPrime_18 g1 (by decide) (by decide) (fun c3 => ?_) (fun c3 => ?_)
      · have h := ifF c3 h
        refine b_iconst dX11_isPrime_23 ?_
        refine b_istore_n (ls' := [vI x0, vI 2]) dX11_isPrime_24 (Nat.le_of_ble_eq_true rfl) rfl ?_
        obtain ⟨nn, h⟩ := h
        exact pl_X11_isPrime_25 hf nn _ _ _ h
      · have h := ifT (Decidable.of_not_not c3) h
        refine b_iconst dX11_isPrime_21 ?_
        exact b_zret dX11_isPrime_22 rfl (Or.inl rfl) h
  · have h := ifT (Decidable.of_not_not c1) h
    refine b_iconst dX11_isPrime_7 ?_
    exact b_zret dX11_isPrime_8 rfl (Or.inr rfl) h
theorem dX11_isField_0 : decode cX11_isField 0 = .ok (.iload_n 0, 1) := by decide +kernel
theorem dX11_isField_1 : decode cX11_isField 1 = .ok (.iconst 1, 1) := by decide +kernel
theorem dX11_isField_2 : decode cX11_isField 2 = .ok (.if_icmp .eq 10, 3) := by decide +kernel
theorem dX11_isField_5 : decode cX11_isField 5 = .ok (.iload_n 0, 1) := by decide +kernel
theorem dX11_isField_6 : decode cX11_isField 6 = .ok (.invokestatic 34, 3) := by decide +kernel
theorem dX11_isField_9 : decode cX11_isField 9 = .ok (.ifCond .eq 7, 3) := by decide +kernel
theorem dX11_isField_12 : decode cX11_isField 12 = .ok (.iconst 1, 1) := by decide +kernel
theorem dX11_isField_13 : decode cX11_isField 13 = .ok (.goto 4, 3) := by decide +kernel
theorem dX11_isField_16 : decode cX11_isField 16 = .ok (.iconst 0, 1) := by decide +kernel
theorem dX11_isField_17 : decode cX11_isField 17 = .ok (.ireturn, 1) := by decide +kernel
/-! AlgebraHouse$Rings.isField(I)Z -/
def P_X11_isField (x0 : Int) (m : MM) (Q : Int → MM → Prop) : Prop := (RI x0) ∧ (if x0 = 1 then Q 1 m else P_X11_isPrime x0 m (fun r1 m1 => (RI r1) ∧ (if r1 = 0 then Q 0 m1 else Q 1 m1)))
theorem p_X11_isField {f : Nat} {Q : Int → MM → Prop} {T : MM → Prop} (hf : 2 ≤ f) (x0 : Int) (m : MM) (h : P_X11_isField x0 m Q) : CC f M_X11_isField [vI x0] m Q T := by
  refine CC.of (plainFor_of_name (by decide)) (Nat.le_of_ble_eq_true rfl) (ls := [vI x0]) rfl ?_
  have h : (RI x0) ∧ (if x0 = 1 then Q 1 m else P_X11_isPrime x0 m (fun r1 m1 => (RI r1) ∧ (if r1 = 0 then Q 0 m1 else Q 1 m1))) := h
  refine b_iload_n dX11_isField_0 rfl ?_
  refine b_iconst dX11_isField_1 ?_
  obtain ⟨g1, h⟩ := h
  refine b_icmp_eq 12 dX11_isField_2 g1 (by decide) (by decide) (fun c1 => ?_) (fun c1 => ?_)
  · have h := ifT c1 h
    refine b_iconst dX11_isField_12 ?_
    refine b_goto 17 dX11_isField_13 (by decide) ?_
    exact b_zret dX11_isField_17 rfl (Or.inr rfl) h
  · have h := ifF c1 h
    refine b_iload_n dX11_isField_5 rfl ?_
    refine b_cSi (as := [vI x0]) (st := []) dX11_isField_6 mf_X11_isPrime lk_X11_34 (p_X11_isPrime (f := 1) (Nat.le_refl _) _ _ h) (by omega) rfl rfl (Nat.le_of_ble_eq_true rfl) (by decide) rfl (fun _ => rfl) (fun r1 m1 h => ?_) (fun _ h => h)
    obtain ⟨g2, h⟩ := h
    refine b_if_eq 16 dX11_isField_9 g2 (by decide) (fun c2 => ?_) (fun c2 => ?_)
    · have h := ifT c2 h
      refine b_iconst dX11_isField_16 ?_
      exact b_zret dX11_isField_17 rfl (Or.inl rfl) h
    · have h := ifF c2 h
      refine b_iconst dX11_isField_12 ?_
      refine b_goto 17 dX11_isField_13 (by decide) ?_
      exact b_zret dX11_isField_17 rfl (Or.inr rfl) h
theorem dX11_join_0 : decode cX11_join 0 = .ok (.iload_n 0, 1) := by decide +kernel
theorem dX11_join_1 : decode cX11_join 1 = .ok (.iload_n 1, 1) := by decide +kernel
theorem dX11_join_2 : decode cX11_join 2 = .ok (.if_icmp .ne 5, 3) := by decide +kernel
theorem dX11_join_5 : decode cX11_join 5 = .ok (.iload_n 0, 1) := by decide +kernel
theorem dX11_join_6 : decode cX11_join 6 = .ok (.ireturn, 1) := by decide +kernel
theorem dX11_join_7 : decode cX11_join 7 = .ok (.iload_n 0, 1) := by decide +kernel
theorem dX11_join_8 : decode cX11_join 8 = .ok (.ifCond .lt 7, 3) := by decide +kernel
theorem dX11_join_11 : decode cX11_join 11 = .ok (.iload_n 1, 1) := by decide +kernel
theorem dX11_join_12 : decode cX11_join 12 = .ok (.ifCond .ge 5, 3) := by decide +kernel
theorem dX11_join_15 : decode cX11_join 15 = .ok (.iconst (-1), 1) := by decide +kernel
theorem dX11_join_16 : decode cX11_join 16 = .ok (.ireturn, 1) := by decide +kernel
theorem dX11_join_17 : decode cX11_join 17 = .ok (.iload_n 0, 1) := by decide +kernel
theorem dX11_join_18 : decode cX11_join 18 = .ok (.invokestatic 9, 3) := by decide +kernel
theorem dX11_join_21 : decode cX11_join 21 = .ok (.istore_n 2, 1) := by decide +kernel
theorem dX11_join_22 : decode cX11_join 22 = .ok (.iload_n 1, 1) := by decide +kernel
theorem dX11_join_23 : decode cX11_join 23 = .ok (.invokestatic 9, 3) := by decide +kernel
theorem dX11_join_26 : decode cX11_join 26 = .ok (.istore_n 3, 1) := by decide +kernel
theorem dX11_join_27 : decode cX11_join 27 = .ok (.iload_n 0, 1) := by decide +kernel
theorem dX11_join_28 : decode cX11_join 28 = .ok (.invokestatic 15, 3) := by decide +kernel
theorem dX11_join_31 : decode cX11_join 31 = .ok (.istore 4, 2) := by decide +kernel
theorem dX11_join_33 : decode cX11_join 33 = .ok (.iload_n 1, 1) := by decide +kernel
theorem dX11_join_34 : decode cX11_join 34 = .ok (.invokestatic 15, 3) := by decide +kernel
theorem dX11_join_37 : decode cX11_join 37 = .ok (.istore 5, 2) := by decide +kernel
theorem dX11_join_39 : decode cX11_join 39 = .ok (.iload_n 2, 1) := by decide +kernel
theorem dX11_join_40 : decode cX11_join 40 = .ok (.iload_n 3, 1) := by decide +kernel
theorem dX11_join_41 : decode cX11_join 41 = .ok (.if_icmp .eq 11, 3) := by decide +kernel
theorem dX11_join_44 : decode cX11_join 44 = .ok (.iload_n 2, 1) := by decide +kernel
theorem dX11_join_45 : decode cX11_join 45 = .ok (.ifCond .eq 7, 3) := by decide +kernel
theorem dX11_join_48 : decode cX11_join 48 = .ok (.iload_n 3, 1) := by decide +kernel
theorem dX11_join_49 : decode cX11_join 49 = .ok (.ifCond .ne 20, 3) := by decide +kernel
theorem dX11_join_52 : decode cX11_join 52 = .ok (.iload 4, 2) := by decide +kernel
theorem dX11_join_54 : decode cX11_join 54 = .ok (.iload 5, 2) := by decide +kernel
theorem dX11_join_56 : decode cX11_join 56 = .ok (.if_icmp .eq 15, 3) := by decide +kernel
theorem dX11_join_59 : decode cX11_join 59 = .ok (.iload 4, 2) := by decide +kernel
theorem dX11_join_61 : decode cX11_join 61 = .ok (.ifCond .eq 10, 3) := by decide +kernel
theorem dX11_join_64 : decode cX11_join 64 = .ok (.iload 5, 2) := by decide +kernel
theorem dX11_join_66 : decode cX11_join 66 = .ok (.ifCond .eq 5, 3) := by decide +kernel
theorem dX11_join_69 : decode cX11_join 69 = .ok (.iconst (-1), 1) := by decide +kernel
theorem dX11_join_70 : decode cX11_join 70 = .ok (.ireturn, 1) := by decide +kernel
theorem dX11_join_71 : decode cX11_join 71 = .ok (.iload_n 2, 1) := by decide +kernel
theorem dX11_join_72 : decode cX11_join 72 = .ok (.ifCond .ne 7, 3) := by decide +kernel
theorem dX11_join_75 : decode cX11_join 75 = .ok (.iload_n 3, 1) := by decide +kernel
theorem dX11_join_76 : decode cX11_join 76 = .ok (.goto 4, 3) := by decide +kernel
theorem dX11_join_79 : decode cX11_join 79 = .ok (.iload_n 2, 1) := by decide +kernel
theorem dX11_join_80 : decode cX11_join 80 = .ok (.iload_n 0, 1) := by decide +kernel
theorem dX11_join_81 : decode cX11_join 81 = .ok (.invokestatic 18, 3) := by decide +kernel
theorem dX11_join_84 : decode cX11_join 84 = .ok (.iload_n 1, 1) := by decide +kernel
theorem dX11_join_85 : decode cX11_join 85 = .ok (.invokestatic 18, 3) := by decide +kernel
theorem dX11_join_88 : decode cX11_join 88 = .ok (.invokestatic 21, 3) := by decide +kernel
theorem dX11_join_91 : decode cX11_join 91 = .ok (.iload 4, 2) := by decide +kernel
theorem dX11_join_93 : decode cX11_join 93 = .ok (.iload 5, 2) := by decide +kernel
theorem dX11_join_95 : decode cX11_join 95 = .ok (.invokestatic 21, 3) := by decide +kernel
theorem dX11_join_98 : decode cX11_join 98 = .ok (.invokestatic 27, 3) := by decide +kernel
theorem dX11_join_101 : decode cX11_join 101 = .ok (.ireturn, 1) := by decide +kernel
/-! AlgebraHouse$Rings.join(II)I -/
def P_X11_join_71 (Q : Int → MM → Prop) (x0 : Int) (x1 : Int) (x2 : Int) (x3 : Int) (x4 : Int) (x5 : Int) (m : MM) : Prop := ((RI x2)) ∧ P_X11_depth x0 m (fun r1 m1 => P_X11_depth x1 m1 (fun r2 m2 => P_J4_max r1 r2 m2 (fun r3 m3 => P_J4_max x4 x5 m3 (fun r4 m4 => P_X11_of (if x2 = 0 then x3 else x2 : Int) r3 r4 m4 (fun r5 m5 => Q r5 m5)))))
def P_X11_join_52 (Q : Int → MM → Prop) (x0 : Int) (x1 : Int) (x2 : Int) (x3 : Int) (x4 : Int) (x5 : Int) (m : MM) : Prop := (RI x4) ∧ (RI x5) ∧ (if x4 = x5 then P_X11_join_71 Q x0 x1 x2 x3 x4 x5 m else (if x4 = 0 then P_X11_join_71 Q x0 x1 x2 x3 x4 x5 m else (if x5 = 0 then P_X11_join_71 Q x0 x1 x2 x3 x4 x5 m else Q (-1) m)))
def P_X11_join (x0 : Int) (x1 : Int) (m : MM) (Q : Int → MM → Prop) : Prop := (RI x0) ∧ (RI x1) ∧ (if x0 = x1 then Q x0 m else (if x0 < 0 then Q (-1) m else (if 0 ≤ x1 then P_X11_base x0 m (fun r1 m1 => P_X11_base x1 m1 (fun r2 m2 => P_X11_size x0 m2 (fun r3 m3 => P_X11_size x1 m3 (fun r4 m4 => (RI r1) ∧ (RI r2) ∧ (if r1 = r2 then P_X11_join_52 Q x0 x1 r1 r2 r3 r4 m4 else (if r1 = 0 then P_X11_join_52 Q x0 x1 r1 r2 r3 r4 m4 else (if r2 = 0 then P_X11_join_52 Q x0 x1 r1 r2 r3 r4 m4 else Q (-1) m4))))))) else Q (-1) m)))
theorem pl_X11_join_71 {f : Nat} {Q : Int → MM → Prop} {T : MM → Prop} (hf : 2 ≤ f) : ∀ (x0 : Int) (x1 : Int) (x2 : Int) (x3 : Int) (x4 : Int) (x5 : Int) (m : MM), P_X11_join_71 Q x0 x1 x2 x3 x4 x5 m → B f M_X11_join 71 [vI x0, vI x1, vI x2, vI x3, vI x4, vI x5] [] m Q T := by
  intro x0 x1 x2 x3 x4 x5 m h
  have h : ((RI x2)) ∧ P_X11_depth x0 m (fun r1 m1 => P_X11_depth x1 m1 (fun r2 m2 => P_J4_max r1 r2 m2 (fun r3 m3 => P_J4_max x4 x5 m3 (fun r4 m4 => P_X11_of (if x2 = 0 then x3 else x2 : Int) r3 r4 m4 (fun r5 m5 => Q r5 m5))))) := h
  refine b_iload_n dX11_join_71 rfl ?_
  obtain ⟨hs, h⟩ := h
  have K : B f M_X11_join 80 [vI x0, vI x1, vI x2, vI x3, vI x4, vI x5] [vI (if x2 = 0 then x3 else x2 : Int)] m Q T := by
    clear hs
    refine b_iload_n dX11_join_80 rfl ?_
    refine b_cSi (as := [vI x0]) (st := [vI (if x2 = 0 then x3 else x2 : Int)]) dX11_join_81 mf_X11_depth lk_X11_18 (p_X11_depth (f := 1) (Nat.le_refl _) _ _ h) (by omega) rfl rfl (Nat.le_of_ble_eq_true rfl) (by decide) rfl (fun _ => rfl) (fun r1 m1 h => ?_) (fun _ h => h)
    refine b_iload_n dX11_join_84 rfl ?_
    refine b_cSi (as := [vI x1]) (st := [vI r1, vI (if x2 = 0 then x3 else x2 : Int)]) dX11_join_85 mf_X11_depth lk_X11_18 (p_X11_depth (f := 1) (Nat.le_refl _) _ _ h) (by omega) rfl rfl (Nat.le_of_ble_eq_true rfl) (by decide) rfl (fun _ => rfl) (fun r2 m2 h => ?_) (fun _ h => h)
    refine b_cSi (as := [vI r1, vI r2]) (st := [vI (if x2 = 0 then x3 else x2 : Int)]) dX11_join_88 mf_J4_max lk_X11_21 (p_J4_max (f := 1) (Nat.le_refl _) _ _ _ h) (by omega) rfl rfl (Nat.le_of_ble_eq_true rfl) (by decide) rfl (fun _ => rfl) (fun r3 m3 h => ?_) (fun _ h => h)
    refine b_iload dX11_join_91 rfl ?_
    refine b_iload dX11_join_93 rfl ?_
    refine b_cSi (as := [vI x4, vI x5]) (st := [vI r3, vI (if x2 = 0 then x3 else x2 : Int)]) dX11_join_95 mf_J4_max lk_X11_21 (p_J4_max (f := 1) (Nat.le_refl _) _ _ _ h) (by omega) rfl rfl (Nat.le_of_ble_eq_true rfl) (by decide) rfl (fun _ => rfl) (fun r4 m4 h => ?_) (fun _ h => h)
    refine b_cSi (as := [vI (if x2 = 0 then x3 else x2 : Int), vI r3, vI r4]) (st := []) dX11_join_98 mf_X11_of lk_X11_27 (p_X11_of (f := 1) (Nat.le_refl _) _ _ _ _ h) (by omega) rfl rfl (Nat.le_of_ble_eq_true rfl) (by decide) rfl (fun _ => rfl) (fun r5 m5 h => ?_) (fun _ h => h)
    exact b_iret dX11_join_101 rfl h
  have g1 := hs
  refine b_if_ne 79 dX11_join_72 g1 (by decide) (fun c1 => ?_) (fun c1 => ?_)
  ·
    refine b_iload_n dX11_join_79 rfl ?_
    rw [if_neg c1] at K
    exact K
  ·
    have c1 := Decidable.of_not_not c1
    refine b_iload_n dX11_join_75 rfl ?_
    refine b_goto 80 dX11_join_76 (by decide) ?_
    rw [if_pos c1] at K
    exact K
theorem pl_X11_join_52 {f : Nat} {Q : Int → MM → Prop} {T : MM → Prop} (hf : 2 ≤ f) : ∀ (x0 : Int) (x1 : Int) (x2 : Int) (x3 : Int) (x4 : Int) (x5 : Int) (m : MM), P_X11_join_52 Q x0 x1 x2 x3 x4 x5 m → B f M_X11_join 52 [vI x0, vI x1, vI x2, vI x3, vI x4, vI x5] [] m Q T := by
  intro x0 x1 x2 x3 x4 x5 m h
  have h : (RI x4) ∧ (RI x5) ∧ (if x4 = x5 then P_X11_join_71 Q x0 x1 x2 x3 x4 x5 m else (if x4 = 0 then P_X11_join_71 Q x0 x1 x2 x3 x4 x5 m else (if x5 = 0 then P_X11_join_71 Q x0 x1 x2 x3 x4 x5 m else Q (-1) m))) := h
  refine b_iload dX11_join_52 rfl ?_
  refine b_iload dX11_join_54 rfl ?_
  obtain ⟨g1, h⟩ := h
  obtain ⟨g2, h⟩ := h
  refine b_icmp_eq 71 dX11_join_56 g1 g2 (by decide) (fun c1 => ?_) (fun c1 => ?_)
  · have h := ifT c1 h
    exact pl_X11_join_71 hf _ _ _ _ _ _ _ h
  · have h := ifF c1 h
    refine b_iload dX11_join_59 rfl ?_
    refine b_if_eq 71 dX11_join_61 g1 (by decide) (fun c2 => ?_) (fun c2 => ?_)
    · have h := ifT c2 h
      exact pl_X11_join_71 hf _ _ _ _ _ _ _ h
    · have h := ifF c2 h
      refine b_iload dX11_join_64 rfl ?_
      refine b_if_eq 71 dX11_join_66 g2 (by decide) (fun c3 => ?_) (fun c3 => ?_)
      · have h := ifT c3 h
        exact pl_X11_join_71 hf _ _ _ _ _ _ _ h
      · have h := ifF c3 h
        refine b_iconst dX11_join_69 ?_
        exact b_iret dX11_join_70 rfl h
theorem p_X11_join {f : Nat} {Q : Int → MM → Prop} {T : MM → Prop} (hf : 2 ≤ f) (x0 : Int) (x1 : Int) (m : MM) (h : P_X11_join x0 x1 m Q) : CC f M_X11_join [vI x0, vI x1] m Q T := by
  refine CC.of (plainFor_of_name (by decide)) (Nat.le_of_ble_eq_true rfl) (ls := [vI x0, vI x1, vU, vU, vU, vU]) rfl ?_
  have h : (RI x0) ∧ (RI x1) ∧ (if x0 = x1 then Q x0 m else (if x0 < 0 then Q (-1) m else (if 0 ≤ x1 then P_X11_base x0 m (fun r1 m1 => P_X11_base x1 m1 (fun r2 m2 => P_X11_size x0 m2 (fun r3 m3 => P_X11_size x1 m3 (fun r4 m4 => (RI r1) ∧ (RI r2) ∧ (if r1 = r2 then P_X11_join_52 Q x0 x1 r1 r2 r3 r4 m4 else (if r1 = 0 then P_X11_join_52 Q x0 x1 r1 r2 r3 r4 m4 else (if r2 = 0 then P_X11_join_52 Q x0 x1 r1 r2 r3 r4 m4 else Q (-1) m4))))))) else Q (-1) m))) := h
  refine b_iload_n dX11_join_0 rfl ?_
  refine b_iload_n dX11_join_1 rfl ?_
  obtain ⟨g1, h⟩ := h
  obtain ⟨g2, h⟩ := h
  refine b_icmp_ne 7 dX11_join_2 g1 g2 (by decide) (fun c1 => ?_) (fun c1 => ?_)
  · have h := ifF c1 h
    refine b_iload_n dX11_join_7 rfl ?_
    refine b_if_lt 15 dX11_join_8 g1 (by decide) (fun c2 => ?_) (fun c2 => ?_)
    · have h := ifT c2 h
      refine b_iconst dX11_join_15 ?_
      exact b_iret dX11_join_16 rfl h
    · have h := ifF c2 h
      refine b_iload_n dX11_join_11 rfl ?_
      refine b_if_ge 17 dX11_join_12 g2 (by decide) (fun c3 => ?_) (fun c3 => ?_)
      · have h := ifT c3 h
        refine b_iload_n dX11_join_17 rfl ?_
        refine b_cSi (as := [vI x0]) (st := []) dX11_join_18 mf_X11_base lk_X11_9 (p_X11_base (f := 1) (Nat.le_refl _) _ _ h) (by omega) rfl rfl (Nat.le_of_ble_eq_true rfl) (by decide) rfl (fun _ => rfl) (fun r1 m1 h => ?_) (fun _ h => h)
        refine b_istore_n (ls' := [vI x0, vI x1, vI r1, vU, vU, vU]) dX11_join_21 (Nat.le_of_ble_eq_true rfl) rfl ?_
        refine b_iload_n dX11_join_22 rfl ?_
        refine b_cSi (as := [vI x1]) (st := []) dX11_join_23 mf_X11_base lk_X11_9 (p_X11_base (f := 1) (Nat.le_refl _) _ _ h) (by omega) rfl rfl (Nat.le_of_ble_eq_true rfl) (by decide) rfl (fun _ => rfl) (fun r2 m2 h => ?_) (fun _ h => h)
        refine b_istore_n (ls' := [vI x0, vI x1, vI r1, vI r2, vU, vU]) dX11_join_26 (Nat.le_of_ble_eq_true rfl) rfl ?_
        refine b_iload_n dX11_join_27 rfl ?_
        refine b_cSi (as := [vI x0]) (st := []) dX11_join_28 mf_X11_size lk_X11_15 (p_X11_size (f := 1) (Nat.le_refl _) _ _ h) (by omega) rfl rfl (Nat.le_of_ble_eq_true rfl) (by decide) rfl (fun _ => rfl) (fun r3 m3 h => ?_) (fun _ h => h)
        refine b_istore (ls' := [vI x0, vI x1, vI r1, vI r2, vI r3, vU]) dX11_join_31 (Nat.le_of_ble_eq_true rfl) rfl ?_
        refine b_iload_n dX11_join_33 rfl ?_
        refine b_cSi (as := [vI x1]) (st := []) dX11_join_34 mf_X11_size lk_X11_15 (p_X11_size (f := 1) (Nat.le_refl _) _ _ h) (by omega) rfl rfl (Nat.le_of_ble_eq_true rfl) (by decide) rfl (fun _ => rfl) (fun r4 m4 h => ?_) (fun _ h => h)
        refine b_istore (ls' := [vI x0, vI x1, vI r1, vI r2, vI r3, vI r4]) dX11_join_37 (Nat.le_of_ble_eq_true rfl) rfl ?_
        refine b_iload_n dX11_join_39 rfl ?_
        refine b_iload_n dX11_join_40 rfl ?_
        obtain ⟨g3, h⟩ := h
        obtain ⟨g4, h⟩ := h
        refine b_icmp_eq 52 dX11_join_41 g3 g4 (by decide) (fun c4 => ?_) (fun c4 => ?_)
        · have h := ifT c4 h
          exact pl_X11_join_52 hf _ _ _ _ _ _ _ h
        · have h := ifF c4 h
          refine b_iload_n dX11_join_44 rfl ?_
          refine b_if_eq 52 dX11_join_45 g3 (by decide) (fun c5 => ?_) (fun c5 => ?_)
          · have h := ifT c5 h
            exact pl_X11_join_52 hf _ _ _ _ _ _ _ h
          · have h := ifF c5 h
            refine b_iload_n dX11_join_48 rfl ?_
            refine b_if_ne 69 dX11_join_49 g4 (by decide) (fun c6 => ?_) (fun c6 => ?_)
            · have h := ifF c6 h
              refine b_iconst dX11_join_69 ?_
              exact b_iret dX11_join_70 rfl h
            · have h := ifT (Decidable.of_not_not c6) h
              exact pl_X11_join_52 hf _ _ _ _ _ _ _ h
      · have h := ifF c3 h
        refine b_iconst dX11_join_15 ?_
        exact b_iret dX11_join_16 rfl h
  · have h := ifT (Decidable.of_not_not c1) h
    refine b_iload_n dX11_join_5 rfl ?_
    exact b_iret dX11_join_6 rfl h
theorem dX11_goes_0 : decode cX11_goes 0 = .ok (.iload_n 0, 1) := by decide +kernel
theorem dX11_goes_1 : decode cX11_goes 1 = .ok (.iconst (-1), 1) := by decide +kernel
theorem dX11_goes_2 : decode cX11_goes 2 = .ok (.if_icmp .eq 16, 3) := by decide +kernel
theorem dX11_goes_5 : decode cX11_goes 5 = .ok (.iload_n 0, 1) := by decide +kernel
theorem dX11_goes_6 : decode cX11_goes 6 = .ok (.iload_n 1, 1) := by decide +kernel
theorem dX11_goes_7 : decode cX11_goes 7 = .ok (.invokestatic 31, 3) := by decide +kernel
theorem dX11_goes_10 : decode cX11_goes 10 = .ok (.iload_n 1, 1) := by decide +kernel
theorem dX11_goes_11 : decode cX11_goes 11 = .ok (.if_icmp .ne 7, 3) := by decide +kernel
theorem dX11_goes_14 : decode cX11_goes 14 = .ok (.iconst 1, 1) := by decide +kernel
theorem dX11_goes_15 : decode cX11_goes 15 = .ok (.goto 4, 3) := by decide +kernel
theorem dX11_goes_18 : decode cX11_goes 18 = .ok (.iconst 0, 1) := by decide +kernel
theorem dX11_goes_19 : decode cX11_goes 19 = .ok (.ireturn, 1) := by decide +kernel
/-! AlgebraHouse$Rings.goes(II)Z -/
def P_X11_goes (x0 : Int) (x1 : Int) (m : MM) (Q : Int → MM → Prop) : Prop := (RI x0) ∧ (if x0 = (-1) then Q 0 m else P_X11_join x0 x1 m (fun r1 m1 => (RI r1) ∧ (RI x1) ∧ (if r1 = x1 then Q 1 m1 else Q 0 m1)))
theorem p_X11_goes {f : Nat} {Q : Int → MM → Prop} {T : MM → Prop} (hf : 3 ≤ f) (x0 : Int) (x1 : Int) (m : MM) (h : P_X11_goes x0 x1 m Q) : CC f M_X11_goes [vI x0, vI x1] m Q T := by
  refine CC.of (plainFor_of_name (by decide)) (Nat.le_of_ble_eq_true rfl) (ls := [vI x0, vI x1]) rfl ?_
  have h : (RI x0) ∧ (if x0 = (-1) then Q 0 m else P_X11_join x0 x1 m (fun r1 m1 => (RI r1) ∧ (RI x1) ∧ (if r1 = x1 then Q 1 m1 else Q 0 m1))) := h
  refine b_iload_n dX11_goes_0 rfl ?_
  refine b_iconst dX11_goes_1 ?_
  obtain ⟨g1, h⟩ := h
  refine b_icmp_eq 18 dX11_goes_2 g1 (by decide) (by decide) (fun c1 => ?_) (fun c1 => ?_)
  · have h := ifT c1 h
    refine b_iconst dX11_goes_18 ?_
    exact b_zret dX11_goes_19 rfl (Or.inl rfl) h
  · have h := ifF c1 h
    refine b_iload_n dX11_goes_5 rfl ?_
    refine b_iload_n dX11_goes_6 rfl ?_
    refine b_cSi (as := [vI x0, vI x1]) (st := []) dX11_goes_7 mf_X11_join lk_X11_31 (p_X11_join (f := 2) (Nat.le_refl _) _ _ _ h) (by omega) rfl rfl (Nat.le_of_ble_eq_true rfl) (by decide) rfl (fun _ => rfl) (fun r1 m1 h => ?_) (fun _ h => h)
    refine b_iload_n dX11_goes_10 rfl ?_
    obtain ⟨g2, h⟩ := h
    obtain ⟨g3, h⟩ := h
    refine b_icmp_ne 18 dX11_goes_11 g2 g3 (by decide) (fun c2 => ?_) (fun c2 => ?_)
    · have h := ifF c2 h
      refine b_iconst dX11_goes_18 ?_
      exact b_zret dX11_goes_19 rfl (Or.inl rfl) h
    · have h := ifT (Decidable.of_not_not c2) h
      refine b_iconst dX11_goes_14 ?_
      refine b_goto 19 dX11_goes_15 (by decide) ?_
      exact b_zret dX11_goes_19 rfl (Or.inr rfl) h
theorem dX11_price_0 : decode cX11_price 0 = .ok (.iload_n 0, 1) := by decide +kernel
theorem dX11_price_1 : decode cX11_price 1 = .ok (.iload_n 1, 1) := by decide +kernel
theorem dX11_price_2 : decode cX11_price 2 = .ok (.if_icmp .ne 7, 3) := by decide +kernel
theorem dX11_price_5 : decode cX11_price 5 = .ok (.iconst 0, 1) := by decide +kernel
theorem dX11_price_6 : decode cX11_price 6 = .ok (.goto 46, 3) := by decide +kernel
theorem dX11_price_9 : decode cX11_price 9 = .ok (.iload_n 0, 1) := by decide +kernel
theorem dX11_price_10 : decode cX11_price 10 = .ok (.invokestatic 9, 3) := by decide +kernel
theorem dX11_price_13 : decode cX11_price 13 = .ok (.iload_n 1, 1) := by decide +kernel
theorem dX11_price_14 : decode cX11_price 14 = .ok (.invokestatic 9, 3) := by decide +kernel
theorem dX11_price_17 : decode cX11_price 17 = .ok (.if_icmp .eq 7, 3) := by decide +kernel
theorem dX11_price_20 : decode cX11_price 20 = .ok (.iconst 1, 1) := by decide +kernel
theorem dX11_price_21 : decode cX11_price 21 = .ok (.goto 4, 3) := by decide +kernel
theorem dX11_price_24 : decode cX11_price 24 = .ok (.iconst 0, 1) := by decide +kernel
theorem dX11_price_25 : decode cX11_price 25 = .ok (.iload_n 0, 1) := by decide +kernel
theorem dX11_price_26 : decode cX11_price 26 = .ok (.invokestatic 15, 3) := by decide +kernel
theorem dX11_price_29 : decode cX11_price 29 = .ok (.iload_n 1, 1) := by decide +kernel
theorem dX11_price_30 : decode cX11_price 30 = .ok (.invokestatic 15, 3) := by decide +kernel
theorem dX11_price_33 : decode cX11_price 33 = .ok (.if_icmp .eq 7, 3) := by decide +kernel
theorem dX11_price_36 : decode cX11_price 36 = .ok (.iconst 1, 1) := by decide +kernel
theorem dX11_price_37 : decode cX11_price 37 = .ok (.goto 4, 3) := by decide +kernel
theorem dX11_price_40 : decode cX11_price 40 = .ok (.iconst 0, 1) := by decide +kernel
theorem dX11_price_41 : decode cX11_price 41 = .ok (.iadd, 1) := by decide +kernel
theorem dX11_price_42 : decode cX11_price 42 = .ok (.iload_n 1, 1) := by decide +kernel
theorem dX11_price_43 : decode cX11_price 43 = .ok (.invokestatic 18, 3) := by decide +kernel
theorem dX11_price_46 : decode cX11_price 46 = .ok (.iadd, 1) := by decide +kernel
theorem dX11_price_47 : decode cX11_price 47 = .ok (.iload_n 0, 1) := by decide +kernel
theorem dX11_price_48 : decode cX11_price 48 = .ok (.invokestatic 18, 3) := by decide +kernel
theorem dX11_price_51 : decode cX11_price 51 = .ok (.isub, 1) := by decide +kernel
theorem dX11_price_52 : decode cX11_price 52 = .ok (.ireturn, 1) := by decide +kernel
/-! AlgebraHouse$Rings.price(II)I -/
def P_X11_price (x0 : Int) (x1 : Int) (m : MM) (Q : Int → MM → Prop) : Prop := (RI x0) ∧ (RI x1) ∧ (if x0 = x1 then Q 0 m else P_X11_base x0 m (fun r1 m1 => P_X11_base x1 m1 (fun r2 m2 => ((RI r1) ∧ (RI r2)) ∧ P_X11_size x0 m2 (fun r3 m3 => P_X11_size x1 m3 (fun r4 m4 => ((RI r3) ∧ (RI r4)) ∧ P_X11_depth x1 m4 (fun r5 m5 => P_X11_depth x0 m5 (fun r6 m6 => Q ((((if r1 = r2 then 0 else 1 : Int) + (if r3 = r4 then 0 else 1 : Int)) + r5) - r6) m6)))))))
theorem p_X11_price {f : Nat} {Q : Int → MM → Prop} {T : MM → Prop} (hf : 2 ≤ f) (x0 : Int) (x1 : Int) (m : MM) (h : P_X11_price x0 x1 m Q) : CC f M_X11_price [vI x0, vI x1] m Q T := by
  refine CC.of (plainFor_of_name (by decide)) (Nat.le_of_ble_eq_true rfl) (ls := [vI x0, vI x1]) rfl ?_
  have h : (RI x0) ∧ (RI x1) ∧ (if x0 = x1 then Q 0 m else P_X11_base x0 m (fun r1 m1 => P_X11_base x1 m1 (fun r2 m2 => ((RI r1) ∧ (RI r2)) ∧ P_X11_size x0 m2 (fun r3 m3 => P_X11_size x1 m3 (fun r4 m4 => ((RI r3) ∧ (RI r4)) ∧ P_X11_depth x1 m4 (fun r5 m5 => P_X11_depth x0 m5 (fun r6 m6 => Q ((((if r1 = r2 then 0 else 1 : Int) + (if r3 = r4 then 0 else 1 : Int)) + r5) - r6) m6))))))) := h
  refine b_iload_n dX11_price_0 rfl ?_
  refine b_iload_n dX11_price_1 rfl ?_
  obtain ⟨g1, h⟩ := h
  obtain ⟨g2, h⟩ := h
  refine b_icmp_ne 9 dX11_price_2 g1 g2 (by decide) (fun c1 => ?_) (fun c1 => ?_)
  · have h := ifF c1 h
    refine b_iload_n dX11_price_9 rfl ?_
    refine b_cSi (as := [vI x0]) (st := []) dX11_price_10 mf_X11_base lk_X11_9 (p_X11_base (f := 1) (Nat.le_refl _) _ _ h) (by omega) rfl rfl (Nat.le_of_ble_eq_true rfl) (by decide) rfl (fun _ => rfl) (fun r1 m1 h => ?_) (fun _ h => h)
    refine b_iload_n dX11_price_13 rfl ?_
    refine b_cSi (as := [vI x1]) (st := [vI r1]) dX11_price_14 mf_X11_base lk_X11_9 (p_X11_base (f := 1) (Nat.le_refl _) _ _ h) (by omega) rfl rfl (Nat.le_of_ble_eq_true rfl) (by decide) rfl (fun _ => rfl) (fun r2 m2 h => ?_) (fun _ h => h)
    obtain ⟨hs, h⟩ := h
    have K : B f M_X11_price 25 [vI x0, vI x1] [vI (if r1 = r2 then 0 else 1 : Int)] m2 Q T := by
      clear hs
      refine b_iload_n dX11_price_25 rfl ?_
      refine b_cSi (as := [vI x0]) (st := [vI (if r1 = r2 then 0 else 1 : Int)]) dX11_price_26 mf_X11_size lk_X11_15 (p_X11_size (f := 1) (Nat.le_refl _) _ _ h) (by omega) rfl rfl (Nat.le_of_ble_eq_true rfl) (by decide) rfl (fun _ => rfl) (fun r3 m3 h => ?_) (fun _ h => h)
      refine b_iload_n dX11_price_29 rfl ?_
      refine b_cSi (as := [vI x1]) (st := [vI r3, vI (if r1 = r2 then 0 else 1 : Int)]) dX11_price_30 mf_X11_size lk_X11_15 (p_X11_size (f := 1) (Nat.le_refl _) _ _ h) (by omega) rfl rfl (Nat.le_of_ble_eq_true rfl) (by decide) rfl (fun _ => rfl) (fun r4 m4 h => ?_) (fun _ h => h)
      obtain ⟨hs, h⟩ := h
      have K : B f M_X11_price 41 [vI x0, vI x1] [vI (if r3 = r4 then 0 else 1 : Int), vI (if r1 = r2 then 0 else 1 : Int)] m4 Q T := by
        clear hs
        refine b_iadd dX11_price_41 ?_
        refine b_iload_n dX11_price_42 rfl ?_
        refine b_cSi (as := [vI x1]) (st := [vI ((if r1 = r2 then 0 else 1 : Int) + (if r3 = r4 then 0 else 1 : Int))]) dX11_price_43 mf_X11_depth lk_X11_18 (p_X11_depth (f := 1) (Nat.le_refl _) _ _ h) (by omega) rfl rfl (Nat.le_of_ble_eq_true rfl) (by decide) rfl (fun _ => rfl) (fun r5 m5 h => ?_) (fun _ h => h)
        refine b_iadd dX11_price_46 ?_
        refine b_iload_n dX11_price_47 rfl ?_
        refine b_cSi (as := [vI x0]) (st := [vI (((if r1 = r2 then 0 else 1 : Int) + (if r3 = r4 then 0 else 1 : Int)) + r5)]) dX11_price_48 mf_X11_depth lk_X11_18 (p_X11_depth (f := 1) (Nat.le_refl _) _ _ h) (by omega) rfl rfl (Nat.le_of_ble_eq_true rfl) (by decide) rfl (fun _ => rfl) (fun r6 m6 h => ?_) (fun _ h => h)
        refine b_isub dX11_price_51 ?_
        exact b_iret dX11_price_52 rfl h
      obtain ⟨g5, g6⟩ := hs
      refine b_icmp_eq 40 dX11_price_33 g5 g6 (by decide) (fun c2 => ?_) (fun c2 => ?_)
      ·
        refine b_iconst dX11_price_40 ?_
        rw [if_pos c2] at K
        exact K
      ·
        refine b_iconst dX11_price_36 ?_
        refine b_goto 41 dX11_price_37 (by decide) ?_
        rw [if_neg c2] at K
        exact K
    obtain ⟨g3, g4⟩ := hs
    refine b_icmp_eq 24 dX11_price_17 g3 g4 (by decide) (fun c3 => ?_) (fun c3 => ?_)
    ·
      refine b_iconst dX11_price_24 ?_
      rw [if_pos c3] at K
      exact K
    ·
      refine b_iconst dX11_price_20 ?_
      refine b_goto 25 dX11_price_21 (by decide) ?_
      rw [if_neg c3] at K
      exact K
  · have h := ifT (Decidable.of_not_not c1) h
    refine b_iconst dX11_price_5 ?_
    refine b_goto 52 dX11_price_6 (by decide) ?_
    exact b_iret dX11_price_52 rfl h
theorem dX11_withBase_0 : decode cX11_withBase 0 = .ok (.iload_n 1, 1) := by decide +kernel
theorem dX11_withBase_1 : decode cX11_withBase 1 = .ok (.iconst 4, 1) := by decide +kernel
theorem dX11_withBase_2 : decode cX11_withBase 2 = .ok (.ishl, 1) := by decide +kernel
theorem dX11_withBase_3 : decode cX11_withBase 3 = .ok (.iload_n 0, 1) := by decide +kernel
theorem dX11_withBase_4 : decode cX11_withBase 4 = .ok (.bipush 15, 2) := by decide +kernel
theorem dX11_withBase_6 : decode cX11_withBase 6 = .ok (.iand, 1) := by decide +kernel
theorem dX11_withBase_7 : decode cX11_withBase 7 = .ok (.ior, 1) := by decide +kernel
theorem dX11_withBase_8 : decode cX11_withBase 8 = .ok (.ireturn, 1) := by decide +kernel
/-! AlgebraHouse$Rings.withBase(II)I -/
def P_X11_withBase (x0 : Int) (x1 : Int) (m : MM) (Q : Int → MM → Prop) : Prop := Q (iOr (iShl x1 4) (iAnd x0 15)) m
theorem p_X11_withBase {f : Nat} {Q : Int → MM → Prop} {T : MM → Prop} (hf : 1 ≤ f) (x0 : Int) (x1 : Int) (m : MM) (h : P_X11_withBase x0 x1 m Q) : CC f M_X11_withBase [vI x0, vI x1] m Q T := by
  refine CC.of (plainFor_of_name (by decide)) (Nat.le_of_ble_eq_true rfl) (ls := [vI x0, vI x1]) rfl ?_
  have h : Q (iOr (iShl x1 4) (iAnd x0 15)) m := h
  refine b_iload_n dX11_withBase_0 rfl ?_
  refine b_iconst dX11_withBase_1 ?_
  refine b_ishl dX11_withBase_2 ?_
  refine b_iload_n dX11_withBase_3 rfl ?_
  refine b_bipush dX11_withBase_4 (by decide) ?_
  refine b_iand dX11_withBase_6 ?_
  refine b_ior dX11_withBase_7 ?_
  exact b_iret dX11_withBase_8 rfl h
theorem dX11_fraction_0 : decode cX11_fraction 0 = .ok (.iload_n 0, 1) := by decide +kernel
theorem dX11_fraction_1 : decode cX11_fraction 1 = .ok (.invokestatic 9, 3) := by decide +kernel
theorem dX11_fraction_4 : decode cX11_fraction 4 = .ok (.ifCond .ne 11, 3) := by decide +kernel
theorem dX11_fraction_7 : decode cX11_fraction 7 = .ok (.iload_n 0, 1) := by decide +kernel
theorem dX11_fraction_8 : decode cX11_fraction 8 = .ok (.iconst 1, 1) := by decide +kernel
theorem dX11_fraction_9 : decode cX11_fraction 9 = .ok (.invokestatic 41, 3) := by decide +kernel
theorem dX11_fraction_12 : decode cX11_fraction 12 = .ok (.goto 4, 3) := by decide +kernel
theorem dX11_fraction_15 : decode cX11_fraction 15 = .ok (.iload_n 0, 1) := by decide +kernel
theorem dX11_fraction_16 : decode cX11_fraction 16 = .ok (.ireturn, 1) := by decide +kernel
/-! AlgebraHouse$Rings.fraction(I)I -/
def P_X11_fraction (x0 : Int) (m : MM) (Q : Int → MM → Prop) : Prop := P_X11_base x0 m (fun r1 m1 => (RI r1) ∧ (if r1 = 0 then P_X11_withBase x0 1 m1 (fun r2 m2 => Q r2 m2) else Q x0 m1))
theorem p_X11_fraction {f : Nat} {Q : Int → MM → Prop} {T : MM → Prop} (hf : 2 ≤ f) (x0 : Int) (m : MM) (h : P_X11_fraction x0 m Q) : CC f M_X11_fraction [vI x0] m Q T := by
  refine CC.of (plainFor_of_name (by decide)) (Nat.le_of_ble_eq_true rfl) (ls := [vI x0]) rfl ?_
  have h : P_X11_base x0 m (fun r1 m1 => (RI r1) ∧ (if r1 = 0 then P_X11_withBase x0 1 m1 (fun r2 m2 => Q r2 m2) else Q x0 m1)) := h
  refine b_iload_n dX11_fraction_0 rfl ?_
  refine b_cSi (as := [vI x0]) (st := []) dX11_fraction_1 mf_X11_base lk_X11_9 (p_X11_base (f := 1) (Nat.le_refl _) _ _ h) (by omega) rfl rfl (Nat.le_of_ble_eq_true rfl) (by decide) rfl (fun _ => rfl) (fun r1 m1 h => ?_) (fun _ h => h)
  obtain ⟨g1, h⟩ := h
  refine b_if_ne 15 dX11_fraction_4 g1 (by decide) (fun c1 => ?_) (fun c1 => ?_)
  · have h := ifF c1 h
    refine b_iload_n dX11_fraction_15 rfl ?_
    exact b_iret dX11_fraction_16 rfl h
  · have h := ifT (Decidable.of_not_not c1) h
    refine b_iload_n dX11_fraction_7 rfl ?_
    refine b_iconst dX11_fraction_8 ?_
    refine b_cSi (as := [vI x0, vI 1]) (st := []) dX11_fraction_9 mf_X11_withBase lk_X11_41 (p_X11_withBase (f := 1) (Nat.le_refl _) _ _ _ h) (by omega) rfl rfl (Nat.le_of_ble_eq_true rfl) (by decide) rfl (fun _ => rfl) (fun r2 m2 h => ?_) (fun _ h => h)
    refine b_goto 16 dX11_fraction_12 (by decide) ?_
    exact b_iret dX11_fraction_16 rfl h
theorem dX11_plain_0 : decode cX11_plain 0 = .ok (.iload_n 0, 1) := by decide +kernel
theorem dX11_plain_1 : decode cX11_plain 1 = .ok (.bipush (-4), 2) := by decide +kernel
theorem dX11_plain_3 : decode cX11_plain 3 = .ok (.iand, 1) := by decide +kernel
theorem dX11_plain_4 : decode cX11_plain 4 = .ok (.ireturn, 1) := by decide +kernel
/-! AlgebraHouse$Rings.plain(I)I -/
def P_X11_plain (x0 : Int) (m : MM) (Q : Int → MM → Prop) : Prop := Q (iAnd x0 (-4)) m
theorem p_X11_plain {f : Nat} {Q : Int → MM → Prop} {T : MM → Prop} (hf : 1 ≤ f) (x0 : Int) (m : MM) (h : P_X11_plain x0 m Q) : CC f M_X11_plain [vI x0] m Q T := by
  refine CC.of (plainFor_of_name (by decide)) (Nat.le_of_ble_eq_true rfl) (ls := [vI x0]) rfl ?_
  have h : Q (iAnd x0 (-4)) m := h
  refine b_iload_n dX11_plain_0 rfl ?_
  refine b_bipush dX11_plain_1 (by decide) ?_
  refine b_iand dX11_plain_3 ?_
  exact b_iret dX11_plain_4 rfl h
theorem dX11_divides_0 : decode cX11_divides 0 = .ok (.iload_n 0, 1) := by decide +kernel
theorem dX11_divides_1 : decode cX11_divides 1 = .ok (.iconst 0, 1) := by decide +kernel
theorem dX11_divides_2 : decode cX11_divides 2 = .ok (.iconst 0, 1) := by decide +kernel
theorem dX11_divides_3 : decode cX11_divides 3 = .ok (.iconst 0, 1) := by decide +kernel
theorem dX11_divides_4 : decode cX11_divides 4 = .ok (.invokestatic 27, 3) := by decide +kernel
theorem dX11_divides_7 : decode cX11_divides 7 = .ok (.if_icmp .eq 32, 3) := by decide +kernel
theorem dX11_divides_10 : decode cX11_divides 10 = .ok (.iload_n 0, 1) := by decide +kernel
theorem dX11_divides_11 : decode cX11_divides 11 = .ok (.ifCond .lt 32, 3) := by decide +kernel
theorem dX11_divides_14 : decode cX11_divides 14 = .ok (.iload_n 0, 1) := by decide +kernel
theorem dX11_divides_15 : decode cX11_divides 15 = .ok (.invokestatic 15, 3) := by decide +kernel
theorem dX11_divides_18 : decode cX11_divides 18 = .ok (.ifCond .ne 25, 3) := by decide +kernel
theorem dX11_divides_21 : decode cX11_divides 21 = .ok (.iload_n 0, 1) := by decide +kernel
theorem dX11_divides_22 : decode cX11_divides 22 = .ok (.invokestatic 18, 3) := by decide +kernel
theorem dX11_divides_25 : decode cX11_divides 25 = .ok (.iconst 1, 1) := by decide +kernel
theorem dX11_divides_26 : decode cX11_divides 26 = .ok (.if_icmp .ne 17, 3) := by decide +kernel
theorem dX11_divides_29 : decode cX11_divides 29 = .ok (.iload_n 0, 1) := by decide +kernel
theorem dX11_divides_30 : decode cX11_divides 30 = .ok (.invokestatic 9, 3) := by decide +kernel
theorem dX11_divides_33 : decode cX11_divides 33 = .ok (.invokestatic 38, 3) := by decide +kernel
theorem dX11_divides_36 : decode cX11_divides 36 = .ok (.ifCond .eq 7, 3) := by decide +kernel
theorem dX11_divides_39 : decode cX11_divides 39 = .ok (.iconst 1, 1) := by decide +kernel
theorem dX11_divides_40 : decode cX11_divides 40 = .ok (.goto 4, 3) := by decide +kernel
theorem dX11_divides_43 : decode cX11_divides 43 = .ok (.iconst 0, 1) := by decide +kernel
theorem dX11_divides_44 : decode cX11_divides 44 = .ok (.ireturn, 1) := by decide +kernel
/-! AlgebraHouse$Rings.divides(I)Z -/
def P_X11_divides (x0 : Int) (m : MM) (Q : Int → MM → Prop) : Prop := P_X11_of 0 0 0 m (fun r1 m1 => (RI x0) ∧ (RI r1) ∧ (if x0 = r1 then Q 1 m1 else (if x0 < 0 then Q 0 m1 else P_X11_size x0 m1 (fun r2 m2 => (RI r2) ∧ (if r2 = 0 then P_X11_depth x0 m2 (fun r3 m3 => (RI r3) ∧ (if r3 = 1 then P_X11_base x0 m3 (fun r4 m4 => P_X11_isField r4 m4 (fun r5 m5 => (RI r5) ∧ (if r5 = 0 then Q 0 m5 else Q 1 m5))) else Q 0 m3)) else Q 0 m2)))))
theorem p_X11_divides {f : Nat} {Q : Int → MM → Prop} {T : MM → Prop} (hf : 3 ≤ f) (x0 : Int) (m : MM) (h : P_X11_divides x0 m Q) : CC f M_X11_divides [vI x0] m Q T := by
  refine CC.of (plainFor_of_name (by decide)) (Nat.le_of_ble_eq_true rfl) (ls := [vI x0]) rfl ?_
  have h : P_X11_of 0 0 0 m (fun r1 m1 => (RI x0) ∧ (RI r1) ∧ (if x0 = r1 then Q 1 m1 else (if x0 < 0 then Q 0 m1 else P_X11_size x0 m1 (fun r2 m2 => (RI r2) ∧ (if r2 = 0 then P_X11_depth x0 m2 (fun r3 m3 => (RI r3) ∧ (if r3 = 1 then P_X11_base x0 m3 (fun r4 m4 => P_X11_isField r4 m4 (fun r5 m5 => (RI r5) ∧ (if r5 = 0 then Q 0 m5 else Q 1 m5))) else Q 0 m3)) else Q 0 m2))))) := h
  refine b_iload_n dX11_divides_0 rfl ?_
  refine b_iconst dX11_divides_1 ?_
  refine b_iconst dX11_divides_2 ?_
  refine b_iconst dX11_divides_3 ?_
  refine b_cSi (as := [vI 0, vI 0, vI 0]) (st := [vI x0]) dX11_divides_4 mf_X11_of lk_X11_27 (p_X11_of (f := 1) (Nat.le_refl _) _ _ _ _ h) (by omega) rfl rfl (Nat.le_of_ble_eq_true rfl) (by decide) rfl (fun _ => rfl) (fun r1 m1 h => ?_) (fun _ h => h)
  obtain ⟨g1, h⟩ := h
  obtain ⟨g2, h⟩ := h
  refine b_icmp_eq 39 dX11_divides_7 g1 g2 (by decide) (fun c1 => ?_) (fun c1 => ?_)
  · have h := ifT c1 h
    refine b_iconst dX11_divides_39 ?_
    refine b_goto 44 dX11_divides_40 (by decide) ?_
    exact b_zret dX11_divides_44 rfl (Or.inr rfl) h
  · have h := ifF c1 h
    refine b_iload_n dX11_divides_10 rfl ?_
    refine b_if_lt 43 dX11_divides_11 g1 (by decide) (fun c2 => ?_) (fun c2 => ?_)
    · have h := ifT c2 h
      refine b_iconst dX11_divides_43 ?_
      exact b_zret dX11_divides_44 rfl (Or.inl rfl) h
    · have h := ifF c2 h
      refine b_iload_n dX11_divides_14 rfl ?_
      refine b_cSi (as := [vI x0]) (st := []) dX11_divides_15 mf_X11_size lk_X11_15 (p_X11_size (f := 1) (Nat.le_refl _) _ _ h) (by omega) rfl rfl (Nat.le_of_ble_eq_true rfl) (by decide) rfl (fun _ => rfl) (fun r2 m2 h => ?_) (fun _ h => h)
      obtain ⟨g3, h⟩ := h
      refine b_if_ne 43 dX11_divides_18 g3 (by decide) (fun c3 => ?_) (fun c3 => ?_)
      · have h := ifF c3 h
        refine b_iconst dX11_divides_43 ?_
        exact b_zret dX11_divides_44 rfl (Or.inl rfl) h
      · have h := ifT (Decidable.of_not_not c3) h
        refine b_iload_n dX11_divides_21 rfl ?_
        refine b_cSi (as := [vI x0]) (st := []) dX11_divides_22 mf_X11_depth lk_X11_18 (p_X11_depth (f := 1) (Nat.le_refl _) _ _ h) (by omega) rfl rfl (Nat.le_of_ble_eq_true rfl) (by decide) rfl (fun _ => rfl) (fun r3 m3 h => ?_) (fun _ h => h)
        refine b_iconst dX11_divides_25 ?_
        obtain ⟨g4, h⟩ := h
        refine b_icmp_ne 43 dX11_divides_26 g4 (by decide) (by decide) (fun c4 => ?_) (fun c4 => ?_)
        · have h := ifF c4 h
          refine b_iconst dX11_divides_43 ?_
          exact b_zret dX11_divides_44 rfl (Or.inl rfl) h
        · have h := ifT (Decidable.of_not_not c4) h
          refine b_iload_n dX11_divides_29 rfl ?_
          refine b_cSi (as := [vI x0]) (st := []) dX11_divides_30 mf_X11_base lk_X11_9 (p_X11_base (f := 1) (Nat.le_refl _) _ _ h) (by omega) rfl rfl (Nat.le_of_ble_eq_true rfl) (by decide) rfl (fun _ => rfl) (fun r4 m4 h => ?_) (fun _ h => h)
          refine b_cSi (as := [vI r4]) (st := []) dX11_divides_33 mf_X11_isField lk_X11_38 (p_X11_isField (f := 2) (Nat.le_refl _) _ _ h) (by omega) rfl rfl (Nat.le_of_ble_eq_true rfl) (by decide) rfl (fun _ => rfl) (fun r5 m5 h => ?_) (fun _ h => h)
          obtain ⟨g5, h⟩ := h
          refine b_if_eq 43 dX11_divides_36 g5 (by decide) (fun c5 => ?_) (fun c5 => ?_)
          · have h := ifT c5 h
            refine b_iconst dX11_divides_43 ?_
            exact b_zret dX11_divides_44 rfl (Or.inl rfl) h
          · have h := ifF c5 h
            refine b_iconst dX11_divides_39 ?_
            refine b_goto 44 dX11_divides_40 (by decide) ?_
            exact b_zret dX11_divides_44 rfl (Or.inr rfl) h
theorem dX11_weight_0 : decode cX11_weight 0 = .ok (.iload_n 0, 1) := by decide +kernel
theorem dX11_weight_1 : decode cX11_weight 1 = .ok (.invokestatic 47, 3) := by decide +kernel
theorem dX11_weight_4 : decode cX11_weight 4 = .ok (.iload_n 0, 1) := by decide +kernel
theorem dX11_weight_5 : decode cX11_weight 5 = .ok (.invokestatic 44, 3) := by decide +kernel
theorem dX11_weight_8 : decode cX11_weight 8 = .ok (.imul, 1) := by decide +kernel
theorem dX11_weight_9 : decode cX11_weight 9 = .ok (.ireturn, 1) := by decide +kernel
/-! AlgebraHouse$Rings.weight(I)I -/
def P_X11_weight (x0 : Int) (m : MM) (Q : Int → MM → Prop) : Prop := P_X11_coefficients x0 m (fun r1 m1 => P_X11_entries x0 m1 (fun r2 m2 => Q (r1 * r2) m2))
theorem p_X11_weight {f : Nat} {Q : Int → MM → Prop} {T : MM → Prop} (hf : 3 ≤ f) (x0 : Int) (m : MM) (h : P_X11_weight x0 m Q) : CC f M_X11_weight [vI x0] m Q T := by
  refine CC.of (plainFor_of_name (by decide)) (Nat.le_of_ble_eq_true rfl) (ls := [vI x0]) rfl ?_
  have h : P_X11_coefficients x0 m (fun r1 m1 => P_X11_entries x0 m1 (fun r2 m2 => Q (r1 * r2) m2)) := h
  refine b_iload_n dX11_weight_0 rfl ?_
  refine b_cSi (as := [vI x0]) (st := []) dX11_weight_1 mf_X11_coefficients lk_X11_47 (p_X11_coefficients (f := 2) (Nat.le_refl _) _ _ h) (by omega) rfl rfl (Nat.le_of_ble_eq_true rfl) (by decide) rfl (fun _ => rfl) (fun r1 m1 h => ?_) (fun _ h => h)
  refine b_iload_n dX11_weight_4 rfl ?_
  refine b_cSi (as := [vI x0]) (st := [vI r1]) dX11_weight_5 mf_X11_entries lk_X11_44 (p_X11_entries (f := 2) (Nat.le_refl _) _ _ h) (by omega) rfl rfl (Nat.le_of_ble_eq_true rfl) (by decide) rfl (fun _ => rfl) (fun r2 m2 h => ?_) (fun _ h => h)
  refine b_imul dX11_weight_8 ?_
  exact b_iret dX11_weight_9 rfl h
