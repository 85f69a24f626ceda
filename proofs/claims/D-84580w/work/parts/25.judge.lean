set_option maxRecDepth 100000
theorem dX1_variable_0 : decode cX1_variable 0 = .ok (.iconst 0, 1) := by decide +kernel
theorem dX1_variable_1 : decode cX1_variable 1 = .ok (.istore_n 3, 1) := by decide +kernel
theorem dX1_variable_2 : decode cX1_variable 2 = .ok (.iload_n 3, 1) := by decide +kernel
theorem dX1_variable_3 : decode cX1_variable 3 = .ok (.aload_n 0, 1) := by decide +kernel
theorem dX1_variable_4 : decode cX1_variable 4 = .ok (.getfield 29, 3) := by decide +kernel
theorem dX1_variable_7 : decode cX1_variable 7 = .ok (.if_icmp .ge 22, 3) := by decide +kernel
theorem dX1_variable_10 : decode cX1_variable 10 = .ok (.aload_n 0, 1) := by decide +kernel
theorem dX1_variable_11 : decode cX1_variable 11 = .ok (.getfield 17, 3) := by decide +kernel
theorem dX1_variable_14 : decode cX1_variable 14 = .ok (.iload_n 3, 1) := by decide +kernel
theorem dX1_variable_15 : decode cX1_variable 15 = .ok (.laload, 1) := by decide +kernel
theorem dX1_variable_16 : decode cX1_variable 16 = .ok (.lload_n 1, 1) := by decide +kernel
theorem dX1_variable_17 : decode cX1_variable 17 = .ok (.lcmp, 1) := by decide +kernel
theorem dX1_variable_18 : decode cX1_variable 18 = .ok (.ifCond .ne 5, 3) := by decide +kernel
theorem dX1_variable_21 : decode cX1_variable 21 = .ok (.iload_n 3, 1) := by decide +kernel
theorem dX1_variable_22 : decode cX1_variable 22 = .ok (.ireturn, 1) := by decide +kernel
theorem dX1_variable_23 : decode cX1_variable 23 = .ok (.iinc 3 1, 3) := by decide +kernel
theorem dX1_variable_26 : decode cX1_variable 26 = .ok (.goto (-24), 3) := by decide +kernel
theorem dX1_variable_29 : decode cX1_variable 29 = .ok (.iconst (-1), 1) := by decide +kernel
theorem dX1_variable_30 : decode cX1_variable 30 = .ok (.ireturn, 1) := by decide +kernel
/-! AlgebraHouse$Book.variable(J)I -/
def P_X1_variable_2 (Q : Int → MM → Prop) : Nat → Int → Int → MM → Prop
  | 0, _, _, _ => False
  | n + 1, x1, x3, m => (RI x3) ∧ (RI (m 3 2)) ∧ (if (m 3 2) ≤ x3 then Q (-1) m else (0 ≤ x3 ∧ x3 < 20) ∧ (RL (m 5 x3)) ∧ (RL x1) ∧ (if (m 5 x3) = x1 then Q x3 m else P_X1_variable_2 Q n x1 (x3 + 1) m))
def P_X1_variable (x1 : Int) (m : MM) (Q : Int → MM → Prop) : Prop := ∃ nn, P_X1_variable_2 Q nn x1 0 m
theorem pl_X1_variable_2 {f : Nat} {Q : Int → MM → Prop} {T : MM → Prop} (hf : 1 ≤ f) : ∀ (n : Nat) (x1 : Int) (x3 : Int) (m : MM), P_X1_variable_2 Q n x1 x3 m → B f M_X1_variable 2 [vR 3, vL x1, vU, vI x3] [] m Q T := by
  intro n
  induction n with
  | zero => intro x1 x3 m h; exact h.elim
  | succ n ih =>
    intro x1 x3 m h
    have h : (RI x3) ∧ (RI (m 3 2)) ∧ (if (m 3 2) ≤ x3 then Q (-1) m else (0 ≤ x3 ∧ x3 < 20) ∧ (RL (m 5 x3)) ∧ (RL x1) ∧ (if (m 5 x3) = x1 then Q x3 m else P_X1_variable_2 Q n x1 (x3 + 1) m)) := h
    refine b_iload_n dX1_variable_2 rfl ?_
    refine b_aload_n dX1_variable_3 rfl ?_
    refine b_getI dX1_variable_4 fk_X1_29 ly_3 ?_
    obtain ⟨g1, h⟩ := h
    obtain ⟨g2, h⟩ := h
    refine b_icmp_ge 29 dX1_variable_7 g1 g2 (by decide) (fun c1 => ?_) (fun c1 => ?_)
    · have h := ifT c1 h
      refine b_iconst dX1_variable_29 ?_
      exact b_iret dX1_variable_30 rfl h
    · have h := ifF c1 h
      refine b_aload_n dX1_variable_10 rfl ?_
      refine b_getR dX1_variable_11 fk_X1_17 ly_3 gg_3_4 ?_
      refine b_iload_n dX1_variable_14 rfl ?_
      obtain ⟨g3, h⟩ := h
      refine b_lald dX1_variable_15 ly_5 g3 ?_
      refine b_lload_n dX1_variable_16 rfl ?_
      obtain ⟨g4, h⟩ := h
      obtain ⟨g5, h⟩ := h
      refine b_lc_ne 23 dX1_variable_17 dX1_variable_18 g4 g5 (by decide) (fun c2 => ?_) (fun c2 => ?_)
      · have h := ifF c2 h
        refine b_iinc (ls' := [vR 3, vL x1, vU, vI (x3 + 1)]) dX1_variable_23 rfl rfl ?_
        refine b_goto 2 dX1_variable_26 (by decide) ?_
        exact ih _ _ _ h
      · have h := ifT (Decidable.of_not_not c2) h
        refine b_iload_n dX1_variable_21 rfl ?_
        exact b_iret dX1_variable_22 rfl h
theorem p_X1_variable {f : Nat} {Q : Int → MM → Prop} {T : MM → Prop} (hf : 1 ≤ f) (x1 : Int) (m : MM) (h : P_X1_variable x1 m Q) : CC f M_X1_variable [vR 3, vL x1] m Q T := by
  refine CC.of (plainFor_of_name (by decide)) (Nat.le_of_ble_eq_true rfl) (ls := [vR 3, vL x1, vU, vU]) rfl ?_
  have h : ∃ nn, P_X1_variable_2 Q nn x1 0 m := h
  refine b_iconst dX1_variable_0 ?_
  refine b_istore_n (ls' := [vR 3, vL x1, vU, vI 0]) dX1_variable_1 (Nat.le_of_ble_eq_true rfl) rfl ?_
  obtain ⟨nn, h⟩ := h
  exact pl_X1_variable_2 hf nn _ _ _ h
theorem dX5_begin_0 : decode cX5_begin 0 = .ok (.aload_n 0, 1) := by decide +kernel
theorem dX5_begin_1 : decode cX5_begin 1 = .ok (.iconst 0, 1) := by decide +kernel
theorem dX5_begin_2 : decode cX5_begin 2 = .ok (.putfield 19, 3) := by decide +kernel
theorem dX5_begin_5 : decode cX5_begin 5 = .ok (.return_, 1) := by decide +kernel
/-! AlgebraHouse$Judge.begin()V -/
def P_X5_begin (m : MM) (Q : Int → MM → Prop) : Prop := ∀ m1 : MM, m1 = up m 372 5 0 → Q 0 m1
theorem p_X5_begin {f : Nat} {Q : Int → MM → Prop} {T : MM → Prop} (hf : 1 ≤ f) (m : MM) (h : P_X5_begin m Q) : CC f M_X5_begin [vR 372] m Q T := by
  refine CC.of (plainFor_of_name (by decide)) (Nat.le_of_ble_eq_true rfl) (ls := [vR 372]) rfl ?_
  have h : ∀ m1 : MM, m1 = up m 372 5 0 → Q 0 m1 := h
  refine b_aload_n dX5_begin_0 rfl ?_
  refine b_iconst dX5_begin_1 ?_
  refine b_putI dX5_begin_2 fk_X5_19 ly_372 (fun m1 em1 => ?_)
  have h := h m1 em1
  exact b_vret dX5_begin_5 rfl h
theorem dX1_ring_0 : decode cX1_ring 0 = .ok (.aload_n 0, 1) := by decide +kernel
theorem dX1_ring_1 : decode cX1_ring 1 = .ok (.getfield 33, 3) := by decide +kernel
theorem dX1_ring_4 : decode cX1_ring 4 = .ok (.iload_n 1, 1) := by decide +kernel
theorem dX1_ring_5 : decode cX1_ring 5 = .ok (.baload, 1) := by decide +kernel
theorem dX1_ring_6 : decode cX1_ring 6 = .ok (.ifCond .ne 10, 3) := by decide +kernel
theorem dX1_ring_9 : decode cX1_ring 9 = .ok (.aload_n 0, 1) := by decide +kernel
theorem dX1_ring_10 : decode cX1_ring 10 = .ok (.getfield 37, 3) := by decide +kernel
theorem dX1_ring_13 : decode cX1_ring 13 = .ok (.iload_n 1, 1) := by decide +kernel
theorem dX1_ring_14 : decode cX1_ring 14 = .ok (.iaload, 1) := by decide +kernel
theorem dX1_ring_15 : decode cX1_ring 15 = .ok (.ireturn, 1) := by decide +kernel
theorem dX1_ring_16 : decode cX1_ring 16 = .ok (.aload_n 0, 1) := by decide +kernel
theorem dX1_ring_17 : decode cX1_ring 17 = .ok (.getfield 39, 3) := by decide +kernel
theorem dX1_ring_20 : decode cX1_ring 20 = .ok (.iload_n 1, 1) := by decide +kernel
theorem dX1_ring_21 : decode cX1_ring 21 = .ok (.iaload, 1) := by decide +kernel
theorem dX1_ring_22 : decode cX1_ring 22 = .ok (.ifCond .ne 16, 3) := by decide +kernel
theorem dX1_ring_25 : decode cX1_ring 25 = .ok (.aload_n 0, 1) := by decide +kernel
theorem dX1_ring_26 : decode cX1_ring 26 = .ok (.getfield 42, 3) := by decide +kernel
theorem dX1_ring_29 : decode cX1_ring 29 = .ok (.iload_n 1, 1) := by decide +kernel
theorem dX1_ring_30 : decode cX1_ring 30 = .ok (.iaload, 1) := by decide +kernel
theorem dX1_ring_31 : decode cX1_ring 31 = .ok (.ifCond .ne 7, 3) := by decide +kernel
theorem dX1_ring_34 : decode cX1_ring 34 = .ok (.iconst 1, 1) := by decide +kernel
theorem dX1_ring_35 : decode cX1_ring 35 = .ok (.goto 4, 3) := by decide +kernel
theorem dX1_ring_38 : decode cX1_ring 38 = .ok (.iconst 0, 1) := by decide +kernel
theorem dX1_ring_39 : decode cX1_ring 39 = .ok (.istore_n 3, 1) := by decide +kernel
theorem dX1_ring_40 : decode cX1_ring 40 = .ok (.iload_n 3, 1) := by decide +kernel
theorem dX1_ring_41 : decode cX1_ring 41 = .ok (.ifCond .ne 10, 3) := by decide +kernel
theorem dX1_ring_44 : decode cX1_ring 44 = .ok (.iload_n 2, 1) := by decide +kernel
theorem dX1_ring_45 : decode cX1_ring 45 = .ok (.invokestatic 45, 3) := by decide +kernel
theorem dX1_ring_48 : decode cX1_ring 48 = .ok (.ifCond .ne 18, 3) := by decide +kernel
theorem dX1_ring_51 : decode cX1_ring 51 = .ok (.iload_n 2, 1) := by decide +kernel
theorem dX1_ring_52 : decode cX1_ring 52 = .ok (.invokestatic 51, 3) := by decide +kernel
theorem dX1_ring_55 : decode cX1_ring 55 = .ok (.aload_n 0, 1) := by decide +kernel
theorem dX1_ring_56 : decode cX1_ring 56 = .ok (.getfield 39, 3) := by decide +kernel
theorem dX1_ring_59 : decode cX1_ring 59 = .ok (.iload_n 1, 1) := by decide +kernel
theorem dX1_ring_60 : decode cX1_ring 60 = .ok (.iaload, 1) := by decide +kernel
theorem dX1_ring_61 : decode cX1_ring 61 = .ok (.iadd, 1) := by decide +kernel
theorem dX1_ring_62 : decode cX1_ring 62 = .ok (.iconst 2, 1) := by decide +kernel
theorem dX1_ring_63 : decode cX1_ring 63 = .ok (.if_icmp .le 5, 3) := by decide +kernel
theorem dX1_ring_66 : decode cX1_ring 66 = .ok (.iconst (-1), 1) := by decide +kernel
theorem dX1_ring_67 : decode cX1_ring 67 = .ok (.ireturn, 1) := by decide +kernel
theorem dX1_ring_68 : decode cX1_ring 68 = .ok (.iload_n 2, 1) := by decide +kernel
theorem dX1_ring_69 : decode cX1_ring 69 = .ok (.invokestatic 54, 3) := by decide +kernel
theorem dX1_ring_72 : decode cX1_ring 72 = .ok (.iload_n 2, 1) := by decide +kernel
theorem dX1_ring_73 : decode cX1_ring 73 = .ok (.invokestatic 51, 3) := by decide +kernel
theorem dX1_ring_76 : decode cX1_ring 76 = .ok (.aload_n 0, 1) := by decide +kernel
theorem dX1_ring_77 : decode cX1_ring 77 = .ok (.getfield 39, 3) := by decide +kernel
theorem dX1_ring_80 : decode cX1_ring 80 = .ok (.iload_n 1, 1) := by decide +kernel
theorem dX1_ring_81 : decode cX1_ring 81 = .ok (.iaload, 1) := by decide +kernel
theorem dX1_ring_82 : decode cX1_ring 82 = .ok (.iadd, 1) := by decide +kernel
theorem dX1_ring_83 : decode cX1_ring 83 = .ok (.iload_n 3, 1) := by decide +kernel
theorem dX1_ring_84 : decode cX1_ring 84 = .ok (.ifCond .eq 10, 3) := by decide +kernel
theorem dX1_ring_87 : decode cX1_ring 87 = .ok (.iload_n 2, 1) := by decide +kernel
theorem dX1_ring_88 : decode cX1_ring 88 = .ok (.invokestatic 45, 3) := by decide +kernel
theorem dX1_ring_91 : decode cX1_ring 91 = .ok (.goto 9, 3) := by decide +kernel
theorem dX1_ring_94 : decode cX1_ring 94 = .ok (.aload_n 0, 1) := by decide +kernel
theorem dX1_ring_95 : decode cX1_ring 95 = .ok (.getfield 42, 3) := by decide +kernel
theorem dX1_ring_98 : decode cX1_ring 98 = .ok (.iload_n 1, 1) := by decide +kernel
theorem dX1_ring_99 : decode cX1_ring 99 = .ok (.iaload, 1) := by decide +kernel
theorem dX1_ring_100 : decode cX1_ring 100 = .ok (.invokestatic 57, 3) := by decide +kernel
theorem dX1_ring_103 : decode cX1_ring 103 = .ok (.ireturn, 1) := by decide +kernel
/-! AlgebraHouse$Book.ring(LAlgebraHouse$Text;II)I -/
def P_X1_ring_100 (Q : Int → MM → Prop) (s0 : Int) (s1 : Int) (s2 : Int) (m : MM) : Prop := P_X11_of s0 s1 s2 m (fun r1 m1 => Q r1 m1)
def P_X1_ring_51 (Q : Int → MM → Prop) (x0 : Int) (x1 : Int) (x2 : Int) (x3 : Int) (m : MM) : Prop := P_X11_depth x2 m (fun r1 m1 => (isTx x0) ∧ (0 ≤ x1 ∧ x1 < 4) ∧ (RI (r1 + (m1 (x0 + 15) x1))) ∧ (if (r1 + (m1 (x0 + 15) x1)) ≤ 2 then P_X11_base x2 m1 (fun r2 m2 => P_X11_depth x2 m2 (fun r3 m3 => (RI x3) ∧ (if x3 = 0 then P_X1_ring_100 Q r2 (r3 + (m3 (x0 + 15) x1)) (m3 (x0 + 16) x1) m3 else P_X11_size x2 m3 (fun r4 m4 => P_X1_ring_100 Q r2 (r3 + (m3 (x0 + 15) x1)) r4 m4)))) else Q (-1) m1))
def P_X1_ring (x0 : Int) (x1 : Int) (x2 : Int) (m : MM) (Q : Int → MM → Prop) : Prop := (isTx x0) ∧ (0 ≤ x1 ∧ x1 < 4) ∧ (RI (m (x0 + 13) x1)) ∧ (if (m (x0 + 13) x1) = 0 then Q (m (x0 + 14) x1) m else ((RI (m (x0 + 15) x1)) ∧ (if (m (x0 + 15) x1) = 0 then ((RI (m (x0 + 16) x1))) else True)) ∧ (RI (if (m (x0 + 15) x1) = 0 then (if (m (x0 + 16) x1) = 0 then 1 else 0 : Int) else 0 : Int)) ∧ (if (if (m (x0 + 15) x1) = 0 then (if (m (x0 + 16) x1) = 0 then 1 else 0 : Int) else 0 : Int) = 0 then P_X11_size x2 m (fun r1 m1 => (RI r1) ∧ (if r1 = 0 then P_X1_ring_51 Q x0 x1 x2 (if (m (x0 + 15) x1) = 0 then (if (m (x0 + 16) x1) = 0 then 1 else 0 : Int) else 0 : Int) m1 else Q (-1) m1)) else P_X1_ring_51 Q x0 x1 x2 (if (m (x0 + 15) x1) = 0 then (if (m (x0 + 16) x1) = 0 then 1 else 0 : Int) else 0 : Int) m))
theorem pl_X1_ring_100 {f : Nat} {Q : Int → MM → Prop} {T : MM → Prop} (hf : 2 ≤ f) : ∀ (s0 : Int) (s1 : Int) (s2 : Int) (m : MM), P_X1_ring_100 Q s0 s1 s2 m → B f M_X1_ring 100 [vU, vU, vU, vU] [vI s2, vI s1, vI s0] m Q T := by
  intro s0 s1 s2 m h
  have h : P_X11_of s0 s1 s2 m (fun r1 m1 => Q r1 m1) := h
  refine b_cSi (as := [vI s0, vI s1, vI s2]) (st := []) dX1_ring_100 mf_X11_of lk_X1_57 (p_X11_of (f := 1) (Nat.le_refl _) _ _ _ _ h) (by omega) rfl rfl (Nat.le_of_ble_eq_true rfl) (by decide) rfl (fun _ => rfl) (fun r1 m1 h => ?_) (fun _ h => h)
  exact b_iret dX1_ring_103 rfl h
theorem pl_X1_ring_51 {f : Nat} {Q : Int → MM → Prop} {T : MM → Prop} (hf : 2 ≤ f) : ∀ (x0 : Int) (x1 : Int) (x2 : Int) (x3 : Int) (m : MM), P_X1_ring_51 Q x0 x1 x2 x3 m → B f M_X1_ring 51 [vR x0, vI x1, vI x2, vI x3] [] m Q T := by
  intro x0 x1 x2 x3 m h
  have h : P_X11_depth x2 m (fun r1 m1 => (isTx x0) ∧ (0 ≤ x1 ∧ x1 < 4) ∧ (RI (r1 + (m1 (x0 + 15) x1))) ∧ (if (r1 + (m1 (x0 + 15) x1)) ≤ 2 then P_X11_base x2 m1 (fun r2 m2 => P_X11_depth x2 m2 (fun r3 m3 => (RI x3) ∧ (if x3 = 0 then P_X1_ring_100 Q r2 (r3 + (m3 (x0 + 15) x1)) (m3 (x0 + 16) x1) m3 else P_X11_size x2 m3 (fun r4 m4 => P_X1_ring_100 Q r2 (r3 + (m3 (x0 + 15) x1)) r4 m4)))) else Q (-1) m1)) := h
  refine b_iload_n dX1_ring_51 rfl ?_
  refine b_cSi (as := [vI x2]) (st := []) dX1_ring_52 mf_X11_depth lk_X1_51 (p_X11_depth (f := 1) (Nat.le_refl _) _ _ h) (by omega) rfl rfl (Nat.le_of_ble_eq_true rfl) (by decide) rfl (fun _ => rfl) (fun r1 m1 h => ?_) (fun _ h => h)
  refine b_aload_n dX1_ring_55 rfl ?_
  obtain ⟨g1, h⟩ := h
  refine b_getR dX1_ring_56 fk_X1_39 (tx_ly0 g1) (tx_gg25 g1) ?_
  refine b_iload_n dX1_ring_59 rfl ?_
  obtain ⟨g2, h⟩ := h
  refine b_iald dX1_ring_60 (tx_ly15 g1) g2 ?_
  refine b_iadd dX1_ring_61 ?_
  refine b_iconst dX1_ring_62 ?_
  obtain ⟨g3, h⟩ := h
  refine b_icmp_le 68 dX1_ring_63 g3 (by decide) (by decide) (fun c1 => ?_) (fun c1 => ?_)
  · have h := ifT c1 h
    refine b_iload_n dX1_ring_68 rfl ?_
    refine b_cSi (as := [vI x2]) (st := []) dX1_ring_69 mf_X11_base lk_X1_54 (p_X11_base (f := 1) (Nat.le_refl _) _ _ h) (by omega) rfl rfl (Nat.le_of_ble_eq_true rfl) (by decide) rfl (fun _ => rfl) (fun r2 m2 h => ?_) (fun _ h => h)
    refine b_iload_n dX1_ring_72 rfl ?_
    refine b_cSi (as := [vI x2]) (st := [vI r2]) dX1_ring_73 mf_X11_depth lk_X1_51 (p_X11_depth (f := 1) (Nat.le_refl _) _ _ h) (by omega) rfl rfl (Nat.le_of_ble_eq_true rfl) (by decide) rfl (fun _ => rfl) (fun r3 m3 h => ?_) (fun _ h => h)
    refine b_aload_n dX1_ring_76 rfl ?_
    refine b_getR dX1_ring_77 fk_X1_39 (tx_ly0 g1) (tx_gg25 g1) ?_
    refine b_iload_n dX1_ring_80 rfl ?_
    refine b_iald dX1_ring_81 (tx_ly15 g1) g2 ?_
    refine b_iadd dX1_ring_82 ?_
    refine b_iload_n dX1_ring_83 rfl ?_
    obtain ⟨g4, h⟩ := h
    refine b_if_eq 94 dX1_ring_84 g4 (by decide) (fun c2 => ?_) (fun c2 => ?_)
    · have h := ifT c2 h
      refine b_aload_n dX1_ring_94 rfl ?_
      refine b_getR dX1_ring_95 fk_X1_42 (tx_ly0 g1) (tx_gg26 g1) ?_
      refine b_iload_n dX1_ring_98 rfl ?_
      refine b_iald dX1_ring_99 (tx_ly16 g1) g2 ?_
      refine b_fgt [false, false, false, false] (ls' := [vU, vU, vU, vU]) rfl rfl ?_
      exact pl_X1_ring_100 hf _ _ _ _ h
    · have h := ifF c2 h
      refine b_iload_n dX1_ring_87 rfl ?_
      refine b_cSi (as := [vI x2]) (st := [vI (r3 + (m3 (x0 + 15) x1)), vI r2]) dX1_ring_88 mf_X11_size lk_X1_45 (p_X11_size (f := 1) (Nat.le_refl _) _ _ h) (by omega) rfl rfl (Nat.le_of_ble_eq_true rfl) (by decide) rfl (fun _ => rfl) (fun r4 m4 h => ?_) (fun _ h => h)
      refine b_goto 100 dX1_ring_91 (by decide) ?_
      refine b_fgt [false, false, false, false] (ls' := [vU, vU, vU, vU]) rfl rfl ?_
      exact pl_X1_ring_100 hf _ _ _ _ h
  · have h := ifF c1 h
    refine b_iconst dX1_ring_66 ?_
    exact b_iret dX1_ring_67 rfl h
theorem p_X1_ring {f : Nat} {Q : Int → MM → Prop} {T : MM → Prop} (hf : 2 ≤ f) (x0 : Int) (x1 : Int) (x2 : Int) (m : MM) (h : P_X1_ring x0 x1 x2 m Q) : CC f M_X1_ring [vR x0, vI x1, vI x2] m Q T := by
  refine CC.of (plainFor_of_name (by decide)) (Nat.le_of_ble_eq_true rfl) (ls := [vR x0, vI x1, vI x2, vU]) rfl ?_
  have h : (isTx x0) ∧ (0 ≤ x1 ∧ x1 < 4) ∧ (RI (m (x0 + 13) x1)) ∧ (if (m (x0 + 13) x1) = 0 then Q (m (x0 + 14) x1) m else ((RI (m (x0 + 15) x1)) ∧ (if (m (x0 + 15) x1) = 0 then ((RI (m (x0 + 16) x1))) else True)) ∧ (RI (if (m (x0 + 15) x1) = 0 then (if (m (x0 + 16) x1) = 0 then 1 else 0 : Int) else 0 : Int)) ∧ (if (if (m (x0 + 15) x1) = 0 then (if (m (x0 + 16) x1) = 0 then 1 else 0 : Int) else 0 : Int) = 0 then P_X11_size x2 m (fun r1 m1 => (RI r1) ∧ (if r1 = 0 then P_X1_ring_51 Q x0 x1 x2 (if (m (x0 + 15) x1) = 0 then (if (m (x0 + 16) x1) = 0 then 1 else 0 : Int) else 0 : Int) m1 else Q (-1) m1)) else P_X1_ring_51 Q x0 x1 x2 (if (m (x0 + 15) x1) = 0 then (if (m (x0 + 16) x1) = 0 then 1 else 0 : Int) else 0 : Int) m)) := h
  refine b_aload_n dX1_ring_0 rfl ?_
  obtain ⟨g1, h⟩ := h
  refine b_getR dX1_ring_1 fk_X1_33 (tx_ly0 g1) (tx_gg23 g1) ?_
  refine b_iload_n dX1_ring_4 rfl ?_
  obtain ⟨g2, h⟩ := h
  refine b_zald dX1_ring_5 (tx_ly13 g1) g2 ?_
  obtain ⟨g3, h⟩ := h
  refine b_if_ne 16 dX1_ring_6 g3 (by decide) (fun c1 => ?_) (fun c1 => ?_)
  · have h := ifF c1 h
    refine b_aload_n dX1_ring_16 rfl ?_
    refine b_getR dX1_ring_17 fk_X1_39 (tx_ly0 g1) (tx_gg25 g1) ?_
    refine b_iload_n dX1_ring_20 rfl ?_
    refine b_iald dX1_ring_21 (tx_ly15 g1) g2 ?_
    obtain ⟨hs, h⟩ := h
    have K : B f M_X1_ring 39 [vR x0, vI x1, vI x2, vU] [vI (if (m (x0 + 15) x1) = 0 then (if (m (x0 + 16) x1) = 0 then 1 else 0 : Int) else 0 : Int)] m Q T := by
      clear hs
      refine b_istore_n (ls' := [vR x0, vI x1, vI x2, vI (if (m (x0 + 15) x1) = 0 then (if (m (x0 + 16) x1) = 0 then 1 else 0 : Int) else 0 : Int)]) dX1_ring_39 (Nat.le_of_ble_eq_true rfl) rfl ?_
      refine b_iload_n dX1_ring_40 rfl ?_
      obtain ⟨g6, h⟩ := h
      refine b_if_ne 51 dX1_ring_41 g6 (by decide) (fun c2 => ?_) (fun c2 => ?_)
      · have h := ifF c2 h
        exact pl_X1_ring_51 hf _ _ _ _ _ h
      · have h := ifT (Decidable.of_not_not c2) h
        refine b_iload_n dX1_ring_44 rfl ?_
        refine b_cSi (as := [vI x2]) (st := []) dX1_ring_45 mf_X11_size lk_X1_45 (p_X11_size (f := 1) (Nat.le_refl _) _ _ h) (by omega) rfl rfl (Nat.le_of_ble_eq_true rfl) (by decide) rfl (fun _ => rfl) (fun r1 m1 h => ?_) (fun _ h => h)
        obtain ⟨g7, h⟩ := h
        refine b_if_ne 66 dX1_ring_48 g7 (by decide) (fun c3 => ?_) (fun c3 => ?_)
        · have h := ifF c3 h
          refine b_iconst dX1_ring_66 ?_
          exact b_iret dX1_ring_67 rfl h
        · have h := ifT (Decidable.of_not_not c3) h
          exact pl_X1_ring_51 hf _ _ _ _ _ h
    obtain ⟨g4, hs⟩ := hs
    refine b_if_ne 38 dX1_ring_22 g4 (by decide) (fun c4 => ?_) (fun c4 => ?_)
    ·
      refine b_iconst dX1_ring_38 ?_
      rw [if_neg c4] at K
      exact K
    ·
      have c4 := Decidable.of_not_not c4
      have hs := ifT c4 hs
      have g5 := hs
      refine b_aload_n dX1_ring_25 rfl ?_
      refine b_getR dX1_ring_26 fk_X1_42 (tx_ly0 g1) (tx_gg26 g1) ?_
      refine b_iload_n dX1_ring_29 rfl ?_
      refine b_iald dX1_ring_30 (tx_ly16 g1) g2 ?_
      refine b_if_ne 38 dX1_ring_31 g5 (by decide) (fun c5 => ?_) (fun c5 => ?_)
      ·
        refine b_iconst dX1_ring_38 ?_
        rw [if_pos c4, if_neg c5] at K
        exact K
      ·
        have c5 := Decidable.of_not_not c5
        refine b_iconst dX1_ring_34 ?_
        refine b_goto 39 dX1_ring_35 (by decide) ?_
        rw [if_pos c4, if_pos c5] at K
        exact K
  · have h := ifT (Decidable.of_not_not c1) h
    refine b_aload_n dX1_ring_9 rfl ?_
    refine b_getR dX1_ring_10 fk_X1_37 (tx_ly0 g1) (tx_gg24 g1) ?_
    refine b_iload_n dX1_ring_13 rfl ?_
    refine b_iald dX1_ring_14 (tx_ly14 g1) g2 ?_
    exact b_iret dX1_ring_15 rfl h
theorem dX1_can_0 : decode cX1_can 0 = .ok (.iload_n 1, 1) := by decide +kernel
theorem dX1_can_1 : decode cX1_can 1 = .ok (.ifCond .lt 18, 3) := by decide +kernel
theorem dX1_can_4 : decode cX1_can 4 = .ok (.aload_n 0, 1) := by decide +kernel
theorem dX1_can_5 : decode cX1_can 5 = .ok (.getfield 61, 3) := by decide +kernel
theorem dX1_can_8 : decode cX1_can 8 = .ok (.iconst 2, 1) := by decide +kernel
theorem dX1_can_9 : decode cX1_can 9 = .ok (.if_icmp .ne 12, 3) := by decide +kernel
theorem dX1_can_12 : decode cX1_can 12 = .ok (.iload_n 1, 1) := by decide +kernel
theorem dX1_can_13 : decode cX1_can 13 = .ok (.invokestatic 45, 3) := by decide +kernel
theorem dX1_can_16 : decode cX1_can 16 = .ok (.ifCond .eq 5, 3) := by decide +kernel
theorem dX1_can_19 : decode cX1_can 19 = .ok (.iconst 0, 1) := by decide +kernel
theorem dX1_can_20 : decode cX1_can 20 = .ok (.ireturn, 1) := by decide +kernel
theorem dX1_can_21 : decode cX1_can 21 = .ok (.aload_n 0, 1) := by decide +kernel
theorem dX1_can_22 : decode cX1_can 22 = .ok (.getfield 61, 3) := by decide +kernel
theorem dX1_can_25 : decode cX1_can 25 = .ok (.iconst 3, 1) := by decide +kernel
theorem dX1_can_26 : decode cX1_can 26 = .ok (.if_icmp .ne 10, 3) := by decide +kernel
theorem dX1_can_29 : decode cX1_can 29 = .ok (.iload_n 1, 1) := by decide +kernel
theorem dX1_can_30 : decode cX1_can 30 = .ok (.bipush 15, 2) := by decide +kernel
theorem dX1_can_32 : decode cX1_can 32 = .ok (.iand, 1) := by decide +kernel
theorem dX1_can_33 : decode cX1_can 33 = .ok (.ifCond .ne 21, 3) := by decide +kernel
theorem dX1_can_36 : decode cX1_can 36 = .ok (.aload_n 0, 1) := by decide +kernel
theorem dX1_can_37 : decode cX1_can 37 = .ok (.getfield 61, 3) := by decide +kernel
theorem dX1_can_40 : decode cX1_can 40 = .ok (.iconst 3, 1) := by decide +kernel
theorem dX1_can_41 : decode cX1_can 41 = .ok (.if_icmp .ne 15, 3) := by decide +kernel
theorem dX1_can_44 : decode cX1_can 44 = .ok (.iload_n 1, 1) := by decide +kernel
theorem dX1_can_45 : decode cX1_can 45 = .ok (.invokestatic 54, 3) := by decide +kernel
theorem dX1_can_48 : decode cX1_can 48 = .ok (.invokestatic 64, 3) := by decide +kernel
theorem dX1_can_51 : decode cX1_can 51 = .ok (.ifCond .ne 5, 3) := by decide +kernel
theorem dX1_can_54 : decode cX1_can 54 = .ok (.iconst 0, 1) := by decide +kernel
theorem dX1_can_55 : decode cX1_can 55 = .ok (.ireturn, 1) := by decide +kernel
theorem dX1_can_56 : decode cX1_can 56 = .ok (.iconst 0, 1) := by decide +kernel
theorem dX1_can_57 : decode cX1_can 57 = .ok (.istore_n 2, 1) := by decide +kernel
theorem dX1_can_58 : decode cX1_can 58 = .ok (.iload_n 2, 1) := by decide +kernel
theorem dX1_can_59 : decode cX1_can 59 = .ok (.aload_n 0, 1) := by decide +kernel
theorem dX1_can_60 : decode cX1_can 60 = .ok (.getfield 68, 3) := by decide +kernel
theorem dX1_can_63 : decode cX1_can 63 = .ok (.if_icmp .gt 21, 3) := by decide +kernel
theorem dX1_can_66 : decode cX1_can 66 = .ok (.aload_n 0, 1) := by decide +kernel
theorem dX1_can_67 : decode cX1_can 67 = .ok (.iload_n 2, 1) := by decide +kernel
theorem dX1_can_68 : decode cX1_can 68 = .ok (.iload_n 1, 1) := by decide +kernel
theorem dX1_can_69 : decode cX1_can 69 = .ok (.invokestatic 71, 3) := by decide +kernel
theorem dX1_can_72 : decode cX1_can 72 = .ok (.iconst (-1), 1) := by decide +kernel
theorem dX1_can_73 : decode cX1_can 73 = .ok (.if_icmp .ne 5, 3) := by decide +kernel
theorem dX1_can_76 : decode cX1_can 76 = .ok (.iconst 0, 1) := by decide +kernel
theorem dX1_can_77 : decode cX1_can 77 = .ok (.ireturn, 1) := by decide +kernel
theorem dX1_can_78 : decode cX1_can 78 = .ok (.iinc 2 1, 3) := by decide +kernel
theorem dX1_can_81 : decode cX1_can 81 = .ok (.goto (-23), 3) := by decide +kernel
theorem dX1_can_84 : decode cX1_can 84 = .ok (.iconst 1, 1) := by decide +kernel
theorem dX1_can_85 : decode cX1_can 85 = .ok (.ireturn, 1) := by decide +kernel
/-! AlgebraHouse$Book.can(LAlgebraHouse$Text;I)Z -/
def P_X1_can_58 (Q : Int → MM → Prop) : Nat → Int → Int → Int → MM → Prop
  | 0, _, _, _, _ => False
  | n + 1, x0, x1, x2, m => (isTx x0) ∧ (RI x2) ∧ (RI (m x0 5)) ∧ (if (m x0 5) < x2 then Q 1 m else P_X1_ring x0 x2 x1 m (fun r1 m1 => (RI r1) ∧ (if r1 = (-1) then Q 0 m1 else P_X1_can_58 Q n x0 x1 (x2 + 1) m1)))
def P_X1_can_36 (Q : Int → MM → Prop) (x0 : Int) (x1 : Int) (m : MM) : Prop := (isTx x0) ∧ (RI (m x0 22)) ∧ (if (m x0 22) = 3 then P_X11_base x1 m (fun r1 m1 => P_X11_isField r1 m1 (fun r2 m2 => (RI r2) ∧ (if r2 = 0 then Q 0 m2 else ∃ nn, P_X1_can_58 Q nn x0 x1 0 m2))) else ∃ nn, P_X1_can_58 Q nn x0 x1 0 m)
def P_X1_can_21 (Q : Int → MM → Prop) (x0 : Int) (x1 : Int) (m : MM) : Prop := (isTx x0) ∧ (RI (m x0 22)) ∧ (if (m x0 22) = 3 then (RI (iAnd x1 15)) ∧ (if (iAnd x1 15) = 0 then P_X1_can_36 Q x0 x1 m else Q 0 m) else P_X1_can_36 Q x0 x1 m)
def P_X1_can (x0 : Int) (x1 : Int) (m : MM) (Q : Int → MM → Prop) : Prop := (RI x1) ∧ (if x1 < 0 then Q 0 m else (isTx x0) ∧ (RI (m x0 22)) ∧ (if (m x0 22) = 2 then P_X11_size x1 m (fun r1 m1 => (RI r1) ∧ (if r1 = 0 then P_X1_can_21 Q x0 x1 m1 else Q 0 m1)) else P_X1_can_21 Q x0 x1 m))
theorem pl_X1_can_58 {f : Nat} {Q : Int → MM → Prop} {T : MM → Prop} (hf : 3 ≤ f) : ∀ (n : Nat) (x0 : Int) (x1 : Int) (x2 : Int) (m : MM), P_X1_can_58 Q n x0 x1 x2 m → B f M_X1_can 58 [vR x0, vI x1, vI x2] [] m Q T := by
  intro n
  induction n with
  | zero => intro x0 x1 x2 m h; exact h.elim
  | succ n ih =>
    intro x0 x1 x2 m h
    have h : (isTx x0) ∧ (RI x2) ∧ (RI (m x0 5)) ∧ (if (m x0 5) < x2 then Q 1 m else P_X1_ring x0 x2 x1 m (fun r1 m1 => (RI r1) ∧ (if r1 = (-1) then Q 0 m1 else P_X1_can_58 Q n x0 x1 (x2 + 1) m1))) := h
    refine b_iload_n dX1_can_58 rfl ?_
    refine b_aload_n dX1_can_59 rfl ?_
    obtain ⟨g1, h⟩ := h
    refine b_getI dX1_can_60 fk_X1_68 (tx_ly0 g1) ?_
    obtain ⟨g2, h⟩ := h
    obtain ⟨g3, h⟩ := h
    refine b_icmp_gt 84 dX1_can_63 g2 g3 (by decide) (fun c1 => ?_) (fun c1 => ?_)
    · have h := ifT c1 h
      refine b_iconst dX1_can_84 ?_
      exact b_zret dX1_can_85 rfl (Or.inr rfl) h
    · have h := ifF c1 h
      refine b_aload_n dX1_can_66 rfl ?_
      refine b_iload_n dX1_can_67 rfl ?_
      refine b_iload_n dX1_can_68 rfl ?_
      refine b_cSi (as := [vR x0, vI x2, vI x1]) (st := []) dX1_can_69 mf_X1_ring lk_X1_71 (p_X1_ring (f := 2) (Nat.le_refl _) _ _ _ _ h) (by omega) rfl rfl (Nat.le_of_ble_eq_true rfl) (by decide) rfl (fun _ => rfl) (fun r1 m1 h => ?_) (fun _ h => h)
      refine b_iconst dX1_can_72 ?_
      obtain ⟨g4, h⟩ := h
      refine b_icmp_ne 78 dX1_can_73 g4 (by decide) (by decide) (fun c2 => ?_) (fun c2 => ?_)
      · have h := ifF c2 h
        refine b_iinc (ls' := [vR x0, vI x1, vI (x2 + 1)]) dX1_can_78 rfl rfl ?_
        refine b_goto 58 dX1_can_81 (by decide) ?_
        exact ih _ _ _ _ h
      · have h := ifT (Decidable.of_not_not c2) h
        refine b_iconst dX1_can_76 ?_
        exact b_zret dX1_can_77 rfl (Or.inl rfl) h
theorem pl_X1_can_36 {f : Nat} {Q : Int → MM → Prop} {T : MM → Prop} (hf : 3 ≤ f) : ∀ (x0 : Int) (x1 : Int) (m : MM), P_X1_can_36 Q x0 x1 m → B f M_X1_can 36 [vR x0, vI x1, vU] [] m Q T := by
  intro x0 x1 m h
  have h : (isTx x0) ∧ (RI (m x0 22)) ∧ (if (m x0 22) = 3 then P_X11_base x1 m (fun r1 m1 => P_X11_isField r1 m1 (fun r2 m2 => (RI r2) ∧ (if r2 = 0 then Q 0 m2 else ∃ nn, P_X1_can_58 Q nn x0 x1 0 m2))) else ∃ nn, P_X1_can_58 Q nn x0 x1 0 m) := h
  refine b_aload_n dX1_can_36 rfl ?_
  obtain ⟨g1, h⟩ := h
  refine b_getI dX1_can_37 fk_X1_61 (tx_ly0 g1) ?_
  refine b_iconst dX1_can_40 ?_
  obtain ⟨g2, h⟩ := h
  refine b_icmp_ne 56 dX1_can_41 g2 (by decide) (by decide) (fun c1 => ?_) (fun c1 => ?_)
  · have h := ifF c1 h
    refine b_iconst dX1_can_56 ?_
    refine b_istore_n (ls' := [vR x0, vI x1, vI 0]) dX1_can_57 (Nat.le_of_ble_eq_true rfl) rfl ?_
    obtain ⟨nn, h⟩ := h
    exact pl_X1_can_58 hf nn _ _ _ _ h
  · have h := ifT (Decidable.of_not_not c1) h
    refine b_iload_n dX1_can_44 rfl ?_
    refine b_cSi (as := [vI x1]) (st := []) dX1_can_45 mf_X11_base lk_X1_54 (p_X11_base (f := 1) (Nat.le_refl _) _ _ h) (by omega) rfl rfl (Nat.le_of_ble_eq_true rfl) (by decide) rfl (fun _ => rfl) (fun r1 m1 h => ?_) (fun _ h => h)
    refine b_cSi (as := [vI r1]) (st := []) dX1_can_48 mf_X11_isField lk_X1_64 (p_X11_isField (f := 2) (Nat.le_refl _) _ _ h) (by omega) rfl rfl (Nat.le_of_ble_eq_true rfl) (by decide) rfl (fun _ => rfl) (fun r2 m2 h => ?_) (fun _ h => h)
    obtain ⟨g3, h⟩ := h
    refine b_if_ne 56 dX1_can_51 g3 (by decide) (fun c2 => ?_) (fun c2 => ?_)
    · have h := ifF c2 h
      refine b_iconst dX1_can_56 ?_
      refine b_istore_n (ls' := [vR x0, vI x1, vI 0]) dX1_can_57 (Nat.le_of_ble_eq_true rfl) rfl ?_
      obtain ⟨nn, h⟩ := h
      exact pl_X1_can_58 hf nn _ _ _ _ h
    · have h := ifT (Decidable.of_not_not c2) h
      refine b_iconst dX1_can_54 ?_
      exact b_zret dX1_can_55 rfl (Or.inl rfl) h
theorem pl_X1_can_21 {f : Nat} {Q : Int → MM → Prop} {T : MM → Prop} (hf : 3 ≤ f) : ∀ (x0 : Int) (x1 : Int) (m : MM), P_X1_can_21 Q x0 x1 m → B f M_X1_can 21 [vR x0, vI x1, vU] [] m Q T := by
  intro x0 x1 m h
  have h : (isTx x0) ∧ (RI (m x0 22)) ∧ (if (m x0 22) = 3 then (RI (iAnd x1 15)) ∧ (if (iAnd x1 15) = 0 then P_X1_can_36 Q x0 x1 m else Q 0 m) else P_X1_can_36 Q x0 x1 m) := h
  refine b_aload_n dX1_can_21 rfl ?_
  obtain ⟨g1, h⟩ := h
  refine b_getI dX1_can_22 fk_X1_61 (tx_ly0 g1) ?_
  refine b_iconst dX1_can_25 ?_
  obtain ⟨g2, h⟩ := h
  refine b_icmp_ne 36 dX1_can_26 g2 (by decide) (by decide) (fun c1 => ?_) (fun c1 => ?_)
  · have h := ifF c1 h
    exact pl_X1_can_36 hf _ _ _ h
  · have h := ifT (Decidable.of_not_not c1) h
    refine b_iload_n dX1_can_29 rfl ?_
    refine b_bipush dX1_can_30 (by decide) ?_
    refine b_iand dX1_can_32 ?_
    obtain ⟨g3, h⟩ := h
    refine b_if_ne 54 dX1_can_33 g3 (by decide) (fun c2 => ?_) (fun c2 => ?_)
    · have h := ifF c2 h
      refine b_iconst dX1_can_54 ?_
      exact b_zret dX1_can_55 rfl (Or.inl rfl) h
    · have h := ifT (Decidable.of_not_not c2) h
      exact pl_X1_can_36 hf _ _ _ h
theorem p_X1_can {f : Nat} {Q : Int → MM → Prop} {T : MM → Prop} (hf : 3 ≤ f) (x0 : Int) (x1 : Int) (m : MM) (h : P_X1_can x0 x1 m Q) : CC f M_X1_can [vR x0, vI x1] m Q T := by
  refine CC.of (plainFor_of_name (by decide)) (Nat.le_of_ble_eq_true rfl) (ls := [vR x0, vI x1, vU]) rfl ?_
  have h : (RI x1) ∧ (if x1 < 0 then Q 0 m else (isTx x0) ∧ (RI (m x0 22)) ∧ (if (m x0 22) = 2 then P_X11_size x1 m (fun r1 m1 => (RI r1) ∧ (if r1 = 0 then P_X1_can_21 Q x0 x1 m1 else Q 0 m1)) else P_X1_can_21 Q x0 x1 m)) := h
  refine b_iload_n dX1_can_0 rfl ?_
  obtain ⟨g1, h⟩ := h
  refine b_if_lt 19 dX1_can_1 g1 (by decide) (fun c1 => ?_) (fun c1 => ?_)
  · have h := ifT c1 h
    refine b_iconst dX1_can_19 ?_
    exact b_zret dX1_can_20 rfl (Or.inl rfl) h
  · have h := ifF c1 h
    refine b_aload_n dX1_can_4 rfl ?_
    obtain ⟨g2, h⟩ := h
    refine b_getI dX1_can_5 fk_X1_61 (tx_ly0 g2) ?_
    refine b_iconst dX1_can_8 ?_
    obtain ⟨g3, h⟩ := h
    refine b_icmp_ne 21 dX1_can_9 g3 (by decide) (by decide) (fun c2 => ?_) (fun c2 => ?_)
    · have h := ifF c2 h
      exact pl_X1_can_21 hf _ _ _ h
    · have h := ifT (Decidable.of_not_not c2) h
      refine b_iload_n dX1_can_12 rfl ?_
      refine b_cSi (as := [vI x1]) (st := []) dX1_can_13 mf_X11_size lk_X1_45 (p_X11_size (f := 1) (Nat.le_refl _) _ _ h) (by omega) rfl rfl (Nat.le_of_ble_eq_true rfl) (by decide) rfl (fun _ => rfl) (fun r1 m1 h => ?_) (fun _ h => h)
      obtain ⟨g4, h⟩ := h
      refine b_if_eq 21 dX1_can_16 g4 (by decide) (fun c3 => ?_) (fun c3 => ?_)
      · have h := ifT c3 h
        exact pl_X1_can_21 hf _ _ _ h
      · have h := ifF c3 h
        refine b_iconst dX1_can_19 ?_
        exact b_zret dX1_can_20 rfl (Or.inl rfl) h
theorem dX5_fail_0 : decode cX5_fail 0 = .ok (.aload_n 0, 1) := by decide +kernel
theorem dX5_fail_1 : decode cX5_fail 1 = .ok (.getfield 19, 3) := by decide +kernel
theorem dX5_fail_4 : decode cX5_fail 4 = .ok (.ifCond .eq 27, 3) := by decide +kernel
theorem dX5_fail_7 : decode cX5_fail 7 = .ok (.iload_n 2, 1) := by decide +kernel
theorem dX5_fail_8 : decode cX5_fail 8 = .ok (.aload_n 0, 1) := by decide +kernel
theorem dX5_fail_9 : decode cX5_fail 9 = .ok (.getfield 23, 3) := by decide +kernel
theorem dX5_fail_12 : decode cX5_fail 12 = .ok (.if_icmp .lt 19, 3) := by decide +kernel
theorem dX5_fail_15 : decode cX5_fail 15 = .ok (.iload_n 2, 1) := by decide +kernel
theorem dX5_fail_16 : decode cX5_fail 16 = .ok (.aload_n 0, 1) := by decide +kernel
theorem dX5_fail_17 : decode cX5_fail 17 = .ok (.getfield 23, 3) := by decide +kernel
theorem dX5_fail_20 : decode cX5_fail 20 = .ok (.if_icmp .ne 21, 3) := by decide +kernel
theorem dX5_fail_23 : decode cX5_fail 23 = .ok (.iload_n 1, 1) := by decide +kernel
theorem dX5_fail_24 : decode cX5_fail 24 = .ok (.aload_n 0, 1) := by decide +kernel
theorem dX5_fail_25 : decode cX5_fail 25 = .ok (.getfield 19, 3) := by decide +kernel
theorem dX5_fail_28 : decode cX5_fail 28 = .ok (.if_icmp .ge 13, 3) := by decide +kernel
theorem dX5_fail_31 : decode cX5_fail 31 = .ok (.aload_n 0, 1) := by decide +kernel
theorem dX5_fail_32 : decode cX5_fail 32 = .ok (.iload_n 1, 1) := by decide +kernel
theorem dX5_fail_33 : decode cX5_fail 33 = .ok (.putfield 19, 3) := by decide +kernel
theorem dX5_fail_36 : decode cX5_fail 36 = .ok (.aload_n 0, 1) := by decide +kernel
theorem dX5_fail_37 : decode cX5_fail 37 = .ok (.iload_n 2, 1) := by decide +kernel
theorem dX5_fail_38 : decode cX5_fail 38 = .ok (.putfield 23, 3) := by decide +kernel
theorem dX5_fail_41 : decode cX5_fail 41 = .ok (.bipush (-3), 2) := by decide +kernel
theorem dX5_fail_43 : decode cX5_fail 43 = .ok (.ireturn, 1) := by decide +kernel
/-! AlgebraHouse$Judge.fail(II)I -/
def P_X5_fail (x1 : Int) (x2 : Int) (m : MM) (Q : Int → MM → Prop) : Prop := (RI (m 372 5)) ∧ (if (m 372 5) = 0 then ∀ m1 : MM, m1 = up m 372 5 x1 → ∀ m2 : MM, m2 = up m1 372 6 x2 → Q (-3) m2 else (RI x2) ∧ (RI (m 372 6)) ∧ (if x2 < (m 372 6) then ∀ m3 : MM, m3 = up m 372 5 x1 → ∀ m4 : MM, m4 = up m3 372 6 x2 → Q (-3) m4 else (if x2 = (m 372 6) then (RI x1) ∧ (if (m 372 5) ≤ x1 then Q (-3) m else ∀ m5 : MM, m5 = up m 372 5 x1 → ∀ m6 : MM, m6 = up m5 372 6 x2 → Q (-3) m6) else Q (-3) m)))
theorem p_X5_fail {f : Nat} {Q : Int → MM → Prop} {T : MM → Prop} (hf : 1 ≤ f) (x1 : Int) (x2 : Int) (m : MM) (h : P_X5_fail x1 x2 m Q) : CC f M_X5_fail [vR 372, vI x1, vI x2] m Q T := by
  refine CC.of (plainFor_of_name (by decide)) (Nat.le_of_ble_eq_true rfl) (ls := [vR 372, vI x1, vI x2]) rfl ?_
  have h : (RI (m 372 5)) ∧ (if (m 372 5) = 0 then ∀ m1 : MM, m1 = up m 372 5 x1 → ∀ m2 : MM, m2 = up m1 372 6 x2 → Q (-3) m2 else (RI x2) ∧ (RI (m 372 6)) ∧ (if x2 < (m 372 6) then ∀ m3 : MM, m3 = up m 372 5 x1 → ∀ m4 : MM, m4 = up m3 372 6 x2 → Q (-3) m4 else (if x2 = (m 372 6) then (RI x1) ∧ (if (m 372 5) ≤ x1 then Q (-3) m else ∀ m5 : MM, m5 = up m 372 5 x1 → ∀ m6 : MM, m6 = up m5 372 6 x2 → Q (-3) m6) else Q (-3) m))) := h
  refine b_aload_n dX5_fail_0 rfl ?_
  refine b_getI dX5_fail_1 fk_X5_19 ly_372 ?_
  obtain ⟨g1, h⟩ := h
  refine b_if_eq 31 dX5_fail_4 g1 (by decide) (fun c1 => ?_) (fun c1 => ?_)
  · have h := ifT c1 h
    refine b_aload_n dX5_fail_31 rfl ?_
    refine b_iload_n dX5_fail_32 rfl ?_
    refine b_putI dX5_fail_33 fk_X5_19 ly_372 (fun m1 em1 => ?_)
    have h := h m1 em1
    refine b_aload_n dX5_fail_36 rfl ?_
    refine b_iload_n dX5_fail_37 rfl ?_
    refine b_putI dX5_fail_38 fk_X5_23 ly_372 (fun m2 em2 => ?_)
    have h := h m2 em2
    refine b_bipush dX5_fail_41 (by decide) ?_
    exact b_iret dX5_fail_43 rfl h
  · have h := ifF c1 h
    refine b_iload_n dX5_fail_7 rfl ?_
    refine b_aload_n dX5_fail_8 rfl ?_
    refine b_getI dX5_fail_9 fk_X5_23 ly_372 ?_
    obtain ⟨g2, h⟩ := h
    obtain ⟨g3, h⟩ := h
    refine b_icmp_lt 31 dX5_fail_12 g2 g3 (by decide) (fun c2 => ?_) (fun c2 => ?_)
    · have h := ifT c2 h
      refine b_aload_n dX5_fail_31 rfl ?_
      refine b_iload_n dX5_fail_32 rfl ?_
      refine b_putI dX5_fail_33 fk_X5_19 ly_372 (fun m3 em3 => ?_)
      have h := h m3 em3
      refine b_aload_n dX5_fail_36 rfl ?_
      refine b_iload_n dX5_fail_37 rfl ?_
      refine b_putI dX5_fail_38 fk_X5_23 ly_372 (fun m4 em4 => ?_)
      have h := h m4 em4
      refine b_bipush dX5_fail_41 (by decide) ?_
      exact b_iret dX5_fail_43 rfl h
    · have h := ifF c2 h
      refine b_iload_n dX5_fail_15 rfl ?_
      refine b_aload_n dX5_fail_16 rfl ?_
      refine b_getI dX5_fail_17 fk_X5_23 ly_372 ?_
      refine b_icmp_ne 41 dX5_fail_20 g2 g3 (by decide) (fun c3 => ?_) (fun c3 => ?_)
      · have h := ifF c3 h
        refine b_bipush dX5_fail_41 (by decide) ?_
        exact b_iret dX5_fail_43 rfl h
      · have h := ifT (Decidable.of_not_not c3) h
        refine b_iload_n dX5_fail_23 rfl ?_
        refine b_aload_n dX5_fail_24 rfl ?_
        refine b_getI dX5_fail_25 fk_X5_19 ly_372 ?_
        obtain ⟨g4, h⟩ := h
        refine b_icmp_ge 41 dX5_fail_28 g4 g1 (by decide) (fun c4 => ?_) (fun c4 => ?_)
        · have h := ifT c4 h
          refine b_bipush dX5_fail_41 (by decide) ?_
          exact b_iret dX5_fail_43 rfl h
        · have h := ifF c4 h
          refine b_aload_n dX5_fail_31 rfl ?_
          refine b_iload_n dX5_fail_32 rfl ?_
          refine b_putI dX5_fail_33 fk_X5_19 ly_372 (fun m5 em5 => ?_)
          have h := h m5 em5
          refine b_aload_n dX5_fail_36 rfl ?_
          refine b_iload_n dX5_fail_37 rfl ?_
          refine b_putI dX5_fail_38 fk_X5_23 ly_372 (fun m6 em6 => ?_)
          have h := h m6 em6
          refine b_bipush dX5_fail_41 (by decide) ?_
          exact b_iret dX5_fail_43 rfl h
theorem dX1_isCalled_0 : decode cX1_isCalled 0 = .ok (.iconst 0, 1) := by decide +kernel
theorem dX1_isCalled_1 : decode cX1_isCalled 1 = .ok (.istore 4, 2) := by decide +kernel
theorem dX1_isCalled_3 : decode cX1_isCalled 3 = .ok (.iload 4, 2) := by decide +kernel
theorem dX1_isCalled_5 : decode cX1_isCalled 5 = .ok (.iload_n 3, 1) := by decide +kernel
theorem dX1_isCalled_6 : decode cX1_isCalled 6 = .ok (.if_icmp .ge 26, 3) := by decide +kernel
theorem dX1_isCalled_9 : decode cX1_isCalled 9 = .ok (.aload_n 0, 1) := by decide +kernel
theorem dX1_isCalled_10 : decode cX1_isCalled 10 = .ok (.getfield 11, 3) := by decide +kernel
theorem dX1_isCalled_13 : decode cX1_isCalled 13 = .ok (.iload 4, 2) := by decide +kernel
theorem dX1_isCalled_15 : decode cX1_isCalled 15 = .ok (.aaload, 1) := by decide +kernel
theorem dX1_isCalled_16 : decode cX1_isCalled 16 = .ok (.getfield 88, 3) := by decide +kernel
theorem dX1_isCalled_19 : decode cX1_isCalled 19 = .ok (.lload_n 1, 1) := by decide +kernel
theorem dX1_isCalled_20 : decode cX1_isCalled 20 = .ok (.lcmp, 1) := by decide +kernel
theorem dX1_isCalled_21 : decode cX1_isCalled 21 = .ok (.ifCond .ne 5, 3) := by decide +kernel
theorem dX1_isCalled_24 : decode cX1_isCalled 24 = .ok (.iconst 1, 1) := by decide +kernel
theorem dX1_isCalled_25 : decode cX1_isCalled 25 = .ok (.ireturn, 1) := by decide +kernel
theorem dX1_isCalled_26 : decode cX1_isCalled 26 = .ok (.iinc 4 1, 3) := by decide +kernel
theorem dX1_isCalled_29 : decode cX1_isCalled 29 = .ok (.goto (-26), 3) := by decide +kernel
theorem dX1_isCalled_32 : decode cX1_isCalled 32 = .ok (.iconst 0, 1) := by decide +kernel
theorem dX1_isCalled_33 : decode cX1_isCalled 33 = .ok (.ireturn, 1) := by decide +kernel
/-! AlgebraHouse$Book.isCalled(JI)Z -/
def P_X1_isCalled_3 (Q : Int → MM → Prop) : Nat → Int → Int → Int → MM → Prop
  | 0, _, _, _, _ => False
  | n + 1, x1, x3, x4, m => (RI x4) ∧ (RI x3) ∧ (if x3 ≤ x4 then Q 0 m else (0 ≤ x4 ∧ x4 < 21) ∧ (isTx (8 + 17 * x4)) ∧ (RL (m (8 + 17 * x4) 16)) ∧ (RL x1) ∧ (if (m (8 + 17 * x4) 16) = x1 then Q 1 m else P_X1_isCalled_3 Q n x1 x3 (x4 + 1) m))
def P_X1_isCalled (x1 : Int) (x3 : Int) (m : MM) (Q : Int → MM → Prop) : Prop := ∃ nn, P_X1_isCalled_3 Q nn x1 x3 0 m
theorem pl_X1_isCalled_3 {f : Nat} {Q : Int → MM → Prop} {T : MM → Prop} (hf : 1 ≤ f) : ∀ (n : Nat) (x1 : Int) (x3 : Int) (x4 : Int) (m : MM), P_X1_isCalled_3 Q n x1 x3 x4 m → B f M_X1_isCalled 3 [vR 3, vL x1, vU, vI x3, vI x4] [] m Q T := by
  intro n
  induction n with
  | zero => intro x1 x3 x4 m h; exact h.elim
  | succ n ih =>
    intro x1 x3 x4 m h
    have h : (RI x4) ∧ (RI x3) ∧ (if x3 ≤ x4 then Q 0 m else (0 ≤ x4 ∧ x4 < 21) ∧ (isTx (8 + 17 * x4)) ∧ (RL (m (8 + 17 * x4) 16)) ∧ (RL x1) ∧ (if (m (8 + 17 * x4) 16) = x1 then Q 1 m else P_X1_isCalled_3 Q n x1 x3 (x4 + 1) m)) := h
    refine b_iload dX1_isCalled_3 rfl ?_
    refine b_iload_n dX1_isCalled_5 rfl ?_
    obtain ⟨g1, h⟩ := h
    obtain ⟨g2, h⟩ := h
    refine b_icmp_ge 32 dX1_isCalled_6 g1 g2 (by decide) (fun c1 => ?_) (fun c1 => ?_)
    · have h := ifT c1 h
      refine b_iconst dX1_isCalled_32 ?_
      exact b_zret dX1_isCalled_33 rfl (Or.inl rfl) h
    · have h := ifF c1 h
      refine b_aload_n dX1_isCalled_9 rfl ?_
      refine b_getR dX1_isCalled_10 fk_X1_11 ly_3 gg_3_0 ?_
      refine b_iload dX1_isCalled_13 rfl ?_
      obtain ⟨g3, h⟩ := h
      refine b_aald dX1_isCalled_15 ly_4 (Or.inl rfl) g3 (gg_told _) ?_
      obtain ⟨g4, h⟩ := h
      refine b_getL dX1_isCalled_16 fk_X1_88 (tx_ly0 g4) ?_
      refine b_lload_n dX1_isCalled_19 rfl ?_
      obtain ⟨g5, h⟩ := h
      obtain ⟨g6, h⟩ := h
      refine b_lc_ne 26 dX1_isCalled_20 dX1_isCalled_21 g5 g6 (by decide) (fun c2 => ?_) (fun c2 => ?_)
      · have h := ifF c2 h
        refine b_iinc (ls' := [vR 3, vL x1, vU, vI x3, vI (x4 + 1)]) dX1_isCalled_26 rfl rfl ?_
        refine b_goto 3 dX1_isCalled_29 (by decide) ?_
        exact ih _ _ _ _ h
      · have h := ifT (Decidable.of_not_not c2) h
        refine b_iconst dX1_isCalled_24 ?_
        exact b_zret dX1_isCalled_25 rfl (Or.inr rfl) h
theorem p_X1_isCalled {f : Nat} {Q : Int → MM → Prop} {T : MM → Prop} (hf : 1 ≤ f) (x1 : Int) (x3 : Int) (m : MM) (h : P_X1_isCalled x1 x3 m Q) : CC f M_X1_isCalled [vR 3, vL x1, vI x3] m Q T := by
  refine CC.of (plainFor_of_name (by decide)) (Nat.le_of_ble_eq_true rfl) (ls := [vR 3, vL x1, vU, vI x3, vU]) rfl ?_
  have h : ∃ nn, P_X1_isCalled_3 Q nn x1 x3 0 m := h
  refine b_iconst dX1_isCalled_0 ?_
  refine b_istore (ls' := [vR 3, vL x1, vU, vI x3, vI 0]) dX1_isCalled_1 (Nat.le_of_ble_eq_true rfl) rfl ?_
  obtain ⟨nn, h⟩ := h
  exact pl_X1_isCalled_3 hf nn _ _ _ _ h
theorem dX1_found_0 : decode cX1_found 0 = .ok (.iconst (-1), 1) := by decide +kernel
theorem dX1_found_1 : decode cX1_found 1 = .ok (.istore_n 2, 1) := by decide +kernel
theorem dX1_found_2 : decode cX1_found 2 = .ok (.iconst 1, 1) := by decide +kernel
theorem dX1_found_3 : decode cX1_found 3 = .ok (.istore_n 3, 1) := by decide +kernel
theorem dX1_found_4 : decode cX1_found 4 = .ok (.iload_n 3, 1) := by decide +kernel
theorem dX1_found_5 : decode cX1_found 5 = .ok (.aload_n 0, 1) := by decide +kernel
theorem dX1_found_6 : decode cX1_found 6 = .ok (.getfield 68, 3) := by decide +kernel
theorem dX1_found_9 : decode cX1_found 9 = .ok (.if_icmp .gt 124, 3) := by decide +kernel
theorem dX1_found_12 : decode cX1_found 12 = .ok (.aload_n 0, 1) := by decide +kernel
theorem dX1_found_13 : decode cX1_found 13 = .ok (.getfield 33, 3) := by decide +kernel
theorem dX1_found_16 : decode cX1_found 16 = .ok (.iload_n 3, 1) := by decide +kernel
theorem dX1_found_17 : decode cX1_found 17 = .ok (.baload, 1) := by decide +kernel
theorem dX1_found_18 : decode cX1_found 18 = .ok (.ifCond .ne 6, 3) := by decide +kernel
theorem dX1_found_21 : decode cX1_found 21 = .ok (.goto 106, 3) := by decide +kernel
theorem dX1_found_24 : decode cX1_found 24 = .ok (.aload_n 1, 1) := by decide +kernel
theorem dX1_found_25 : decode cX1_found 25 = .ok (.iload_n 3, 1) := by decide +kernel
theorem dX1_found_26 : decode cX1_found 26 = .ok (.iconst 1, 1) := by decide +kernel
theorem dX1_found_27 : decode cX1_found 27 = .ok (.isub, 1) := by decide +kernel
theorem dX1_found_28 : decode cX1_found 28 = .ok (.iaload, 1) := by decide +kernel
theorem dX1_found_29 : decode cX1_found 29 = .ok (.istore 4, 2) := by decide +kernel
theorem dX1_found_31 : decode cX1_found 31 = .ok (.iload 4, 2) := by decide +kernel
theorem dX1_found_33 : decode cX1_found 33 = .ok (.ifCond .ge 5, 3) := by decide +kernel
theorem dX1_found_36 : decode cX1_found 36 = .ok (.iconst (-1), 1) := by decide +kernel
theorem dX1_found_37 : decode cX1_found 37 = .ok (.ireturn, 1) := by decide +kernel
theorem dX1_found_38 : decode cX1_found 38 = .ok (.aload_n 0, 1) := by decide +kernel
theorem dX1_found_39 : decode cX1_found 39 = .ok (.getfield 39, 3) := by decide +kernel
theorem dX1_found_42 : decode cX1_found 42 = .ok (.iload_n 3, 1) := by decide +kernel
theorem dX1_found_43 : decode cX1_found 43 = .ok (.iaload, 1) := by decide +kernel
theorem dX1_found_44 : decode cX1_found 44 = .ok (.ifCond .ne 16, 3) := by decide +kernel
theorem dX1_found_47 : decode cX1_found 47 = .ok (.aload_n 0, 1) := by decide +kernel
theorem dX1_found_48 : decode cX1_found 48 = .ok (.getfield 42, 3) := by decide +kernel
theorem dX1_found_51 : decode cX1_found 51 = .ok (.iload_n 3, 1) := by decide +kernel
theorem dX1_found_52 : decode cX1_found 52 = .ok (.iaload, 1) := by decide +kernel
theorem dX1_found_53 : decode cX1_found 53 = .ok (.ifCond .ne 7, 3) := by decide +kernel
theorem dX1_found_56 : decode cX1_found 56 = .ok (.iconst 1, 1) := by decide +kernel
theorem dX1_found_57 : decode cX1_found 57 = .ok (.goto 4, 3) := by decide +kernel
theorem dX1_found_60 : decode cX1_found 60 = .ok (.iconst 0, 1) := by decide +kernel
theorem dX1_found_61 : decode cX1_found 61 = .ok (.istore 5, 2) := by decide +kernel
theorem dX1_found_63 : decode cX1_found 63 = .ok (.iload 4, 2) := by decide +kernel
theorem dX1_found_65 : decode cX1_found 65 = .ok (.invokestatic 54, 3) := by decide +kernel
theorem dX1_found_68 : decode cX1_found 68 = .ok (.iconst 0, 1) := by decide +kernel
theorem dX1_found_69 : decode cX1_found 69 = .ok (.iload 4, 2) := by decide +kernel
theorem dX1_found_71 : decode cX1_found 71 = .ok (.invokestatic 51, 3) := by decide +kernel
theorem dX1_found_74 : decode cX1_found 74 = .ok (.aload_n 0, 1) := by decide +kernel
theorem dX1_found_75 : decode cX1_found 75 = .ok (.getfield 39, 3) := by decide +kernel
theorem dX1_found_78 : decode cX1_found 78 = .ok (.iload_n 3, 1) := by decide +kernel
theorem dX1_found_79 : decode cX1_found 79 = .ok (.iaload, 1) := by decide +kernel
theorem dX1_found_80 : decode cX1_found 80 = .ok (.isub, 1) := by decide +kernel
theorem dX1_found_81 : decode cX1_found 81 = .ok (.invokestatic 75, 3) := by decide +kernel
theorem dX1_found_84 : decode cX1_found 84 = .ok (.iload 5, 2) := by decide +kernel
theorem dX1_found_86 : decode cX1_found 86 = .ok (.ifCond .eq 11, 3) := by decide +kernel
theorem dX1_found_89 : decode cX1_found 89 = .ok (.iload 4, 2) := by decide +kernel
theorem dX1_found_91 : decode cX1_found 91 = .ok (.invokestatic 45, 3) := by decide +kernel
theorem dX1_found_94 : decode cX1_found 94 = .ok (.goto 4, 3) := by decide +kernel
theorem dX1_found_97 : decode cX1_found 97 = .ok (.iconst 0, 1) := by decide +kernel
theorem dX1_found_98 : decode cX1_found 98 = .ok (.invokestatic 57, 3) := by decide +kernel
theorem dX1_found_101 : decode cX1_found 101 = .ok (.istore 6, 2) := by decide +kernel
theorem dX1_found_103 : decode cX1_found 103 = .ok (.iload_n 2, 1) := by decide +kernel
theorem dX1_found_104 : decode cX1_found 104 = .ok (.iconst (-1), 1) := by decide +kernel
theorem dX1_found_105 : decode cX1_found 105 = .ok (.if_icmp .ne 8, 3) := by decide +kernel
theorem dX1_found_108 : decode cX1_found 108 = .ok (.iload 6, 2) := by decide +kernel
theorem dX1_found_110 : decode cX1_found 110 = .ok (.goto 9, 3) := by decide +kernel
theorem dX1_found_113 : decode cX1_found 113 = .ok (.iload_n 2, 1) := by decide +kernel
theorem dX1_found_114 : decode cX1_found 114 = .ok (.iload 6, 2) := by decide +kernel
theorem dX1_found_116 : decode cX1_found 116 = .ok (.invokestatic 81, 3) := by decide +kernel
theorem dX1_found_119 : decode cX1_found 119 = .ok (.istore_n 2, 1) := by decide +kernel
theorem dX1_found_120 : decode cX1_found 120 = .ok (.iload_n 2, 1) := by decide +kernel
theorem dX1_found_121 : decode cX1_found 121 = .ok (.iconst (-1), 1) := by decide +kernel
theorem dX1_found_122 : decode cX1_found 122 = .ok (.if_icmp .ne 5, 3) := by decide +kernel
theorem dX1_found_125 : decode cX1_found 125 = .ok (.iconst (-1), 1) := by decide +kernel
theorem dX1_found_126 : decode cX1_found 126 = .ok (.ireturn, 1) := by decide +kernel
theorem dX1_found_127 : decode cX1_found 127 = .ok (.iinc 3 1, 3) := by decide +kernel
theorem dX1_found_130 : decode cX1_found 130 = .ok (.goto (-126), 3) := by decide +kernel
theorem dX1_found_133 : decode cX1_found 133 = .ok (.aload_n 0, 1) := by decide +kernel
theorem dX1_found_134 : decode cX1_found 134 = .ok (.getfield 61, 3) := by decide +kernel
theorem dX1_found_137 : decode cX1_found 137 = .ok (.iconst 3, 1) := by decide +kernel
theorem dX1_found_138 : decode cX1_found 138 = .ok (.if_icmp .ne 20, 3) := by decide +kernel
theorem dX1_found_141 : decode cX1_found 141 = .ok (.iload_n 2, 1) := by decide +kernel
theorem dX1_found_142 : decode cX1_found 142 = .ok (.iconst 0, 1) := by decide +kernel
theorem dX1_found_143 : decode cX1_found 143 = .ok (.iconst 0, 1) := by decide +kernel
theorem dX1_found_144 : decode cX1_found 144 = .ok (.iconst 0, 1) := by decide +kernel
theorem dX1_found_145 : decode cX1_found 145 = .ok (.invokestatic 57, 3) := by decide +kernel
theorem dX1_found_148 : decode cX1_found 148 = .ok (.if_icmp .ne 10, 3) := by decide +kernel
theorem dX1_found_151 : decode cX1_found 151 = .ok (.iconst 1, 1) := by decide +kernel
theorem dX1_found_152 : decode cX1_found 152 = .ok (.iconst 0, 1) := by decide +kernel
theorem dX1_found_153 : decode cX1_found 153 = .ok (.iconst 0, 1) := by decide +kernel
theorem dX1_found_154 : decode cX1_found 154 = .ok (.invokestatic 57, 3) := by decide +kernel
theorem dX1_found_157 : decode cX1_found 157 = .ok (.istore_n 2, 1) := by decide +kernel
theorem dX1_found_158 : decode cX1_found 158 = .ok (.aload_n 0, 1) := by decide +kernel
theorem dX1_found_159 : decode cX1_found 159 = .ok (.iload_n 2, 1) := by decide +kernel
theorem dX1_found_160 : decode cX1_found 160 = .ok (.invokestatic 84, 3) := by decide +kernel
theorem dX1_found_163 : decode cX1_found 163 = .ok (.ifCond .eq 7, 3) := by decide +kernel
theorem dX1_found_166 : decode cX1_found 166 = .ok (.iload_n 2, 1) := by decide +kernel
theorem dX1_found_167 : decode cX1_found 167 = .ok (.goto 4, 3) := by decide +kernel
theorem dX1_found_170 : decode cX1_found 170 = .ok (.iconst (-1), 1) := by decide +kernel
theorem dX1_found_171 : decode cX1_found 171 = .ok (.ireturn, 1) := by decide +kernel
/-! AlgebraHouse$Book.found(LAlgebraHouse$Text;[I)I -/
def P_X1_found_119 (Q : Int → MM → Prop) (K4 : Int → Int → Int → Int → MM → Prop) (x0 : Int) (x1 : Int) (x3 : Int) (s0 : Int) (m : MM) : Prop := (RI s0) ∧ (if s0 = (-1) then Q (-1) m else K4 x0 x1 s0 (x3 + 1) m)
def P_X1_found_98 (Q : Int → MM → Prop) (K4 : Int → Int → Int → Int → MM → Prop) (x0 : Int) (x1 : Int) (x2 : Int) (x3 : Int) (s0 : Int) (s1 : Int) (s2 : Int) (m : MM) : Prop := P_X11_of s0 s1 s2 m (fun r1 m1 => (RI x2) ∧ (if x2 = (-1) then P_X1_found_119 Q K4 x0 x1 x3 r1 m1 else P_X11_join x2 r1 m1 (fun r2 m2 => P_X1_found_119 Q K4 x0 x1 x3 r2 m2)))
def P_X1_found_158 (Q : Int → MM → Prop) (x0 : Int) (x2 : Int) (m : MM) : Prop := P_X1_can x0 x2 m (fun r1 m1 => (RI r1) ∧ (if r1 = 0 then Q (-1) m1 else Q x2 m1))
def P_X1_found_133 (Q : Int → MM → Prop) (x0 : Int) (x2 : Int) (m : MM) : Prop := (isTx x0) ∧ (RI (m x0 22)) ∧ (if (m x0 22) = 3 then P_X11_of 0 0 0 m (fun r1 m1 => (RI x2) ∧ (RI r1) ∧ (if x2 = r1 then P_X11_of 1 0 0 m1 (fun r2 m2 => P_X1_found_158 Q x0 r2 m2) else P_X1_found_158 Q x0 x2 m1)) else P_X1_found_158 Q x0 x2 m)
def P_X1_found_4 (Q : Int → MM → Prop) : Nat → Int → Int → Int → Int → MM → Prop
  | 0, _, _, _, _, _ => False
  | n + 1, x0, x1, x2, x3, m => (isTx x0) ∧ (RI x3) ∧ (RI (m x0 5)) ∧ (if (m x0 5) < x3 then P_X1_found_133 Q x0 x2 m else (0 ≤ x3 ∧ x3 < 4) ∧ (RI (m (x0 + 13) x3)) ∧ (if (m (x0 + 13) x3) = 0 then P_X1_found_4 Q n x0 x1 x2 (x3 + 1) m else (inI x1 (x3 - 1)) ∧ (RI (m x1 (x3 - 1))) ∧ (if 0 ≤ (m x1 (x3 - 1)) then ((RI (m (x0 + 15) x3)) ∧ (if (m (x0 + 15) x3) = 0 then ((RI (m (x0 + 16) x3))) else True)) ∧ P_X11_base (m x1 (x3 - 1)) m (fun r1 m1 => P_X11_depth (m x1 (x3 - 1)) m1 (fun r2 m2 => P_J4_max 0 (r2 - (m2 (x0 + 15) x3)) m2 (fun r3 m3 => (RI (if (m (x0 + 15) x3) = 0 then (if (m (x0 + 16) x3) = 0 then 1 else 0 : Int) else 0 : Int)) ∧ (if (if (m (x0 + 15) x3) = 0 then (if (m (x0 + 16) x3) = 0 then 1 else 0 : Int) else 0 : Int) = 0 then P_X1_found_98 Q (fun z0 z1 z2 z3 z4 => P_X1_found_4 Q n z0 z1 z2 z3 z4) x0 x1 x2 x3 r1 r3 0 m3 else P_X11_size (m x1 (x3 - 1)) m3 (fun r4 m4 => P_X1_found_98 Q (fun z0 z1 z2 z3 z4 => P_X1_found_4 Q n z0 z1 z2 z3 z4) x0 x1 x2 x3 r1 r3 r4 m4))))) else Q (-1) m)))
def P_X1_found (x0 : Int) (x1 : Int) (m : MM) (Q : Int → MM → Prop) : Prop := ∃ nn, P_X1_found_4 Q nn x0 x1 (-1) 1 m
theorem pl_X1_found_119 {f : Nat} {Q : Int → MM → Prop} {T : MM → Prop} (hf : 4 ≤ f) {K4 : Int → Int → Int → Int → MM → Prop} (hK4 : ∀ (x0 : Int) (x1 : Int) (x2 : Int) (x3 : Int) (m : MM), K4 x0 x1 x2 x3 m → B f M_X1_found 4 [vR x0, vR x1, vI x2, vI x3, vU, vU, vU] [] m Q T) : ∀ (x0 : Int) (x1 : Int) (x3 : Int) (s0 : Int) (m : MM), P_X1_found_119 Q K4 x0 x1 x3 s0 m → B f M_X1_found 119 [vR x0, vR x1, vU, vI x3, vU, vU, vU] [vI s0] m Q T := by
  intro x0 x1 x3 s0 m h
  have h : (RI s0) ∧ (if s0 = (-1) then Q (-1) m else K4 x0 x1 s0 (x3 + 1) m) := h
  refine b_istore_n (ls' := [vR x0, vR x1, vI s0, vI x3, vU, vU, vU]) dX1_found_119 (Nat.le_of_ble_eq_true rfl) rfl ?_
  refine b_iload_n dX1_found_120 rfl ?_
  refine b_iconst dX1_found_121 ?_
  obtain ⟨g1, h⟩ := h
  refine b_icmp_ne 127 dX1_found_122 g1 (by decide) (by decide) (fun c1 => ?_) (fun c1 => ?_)
  · have h := ifF c1 h
    refine b_iinc (ls' := [vR x0, vR x1, vI s0, vI (x3 + 1), vU, vU, vU]) dX1_found_127 rfl rfl ?_
    refine b_goto 4 dX1_found_130 (by decide) ?_
    exact hK4 _ _ _ _ _ h
  · have h := ifT (Decidable.of_not_not c1) h
    refine b_iconst dX1_found_125 ?_
    exact b_iret dX1_found_126 rfl h
theorem pl_X1_found_98 {f : Nat} {Q : Int → MM → Prop} {T : MM → Prop} (hf : 4 ≤ f) {K4 : Int → Int → Int → Int → MM → Prop} (hK4 : ∀ (x0 : Int) (x1 : Int) (x2 : Int) (x3 : Int) (m : MM), K4 x0 x1 x2 x3 m → B f M_X1_found 4 [vR x0, vR x1, vI x2, vI x3, vU, vU, vU] [] m Q T) : ∀ (x0 : Int) (x1 : Int) (x2 : Int) (x3 : Int) (s0 : Int) (s1 : Int) (s2 : Int) (m : MM), P_X1_found_98 Q K4 x0 x1 x2 x3 s0 s1 s2 m → B f M_X1_found 98 [vR x0, vR x1, vI x2, vI x3, vU, vU, vU] [vI s2, vI s1, vI s0] m Q T := by
  intro x0 x1 x2 x3 s0 s1 s2 m h
  have h : P_X11_of s0 s1 s2 m (fun r1 m1 => (RI x2) ∧ (if x2 = (-1) then P_X1_found_119 Q K4 x0 x1 x3 r1 m1 else P_X11_join x2 r1 m1 (fun r2 m2 => P_X1_found_119 Q K4 x0 x1 x3 r2 m2))) := h
  refine b_cSi (as := [vI s0, vI s1, vI s2]) (st := []) dX1_found_98 mf_X11_of lk_X1_57 (p_X11_of (f := 1) (Nat.le_refl _) _ _ _ _ h) (by omega) rfl rfl (Nat.le_of_ble_eq_true rfl) (by decide) rfl (fun _ => rfl) (fun r1 m1 h => ?_) (fun _ h => h)
  refine b_istore (ls' := [vR x0, vR x1, vI x2, vI x3, vU, vU, vI r1]) dX1_found_101 (Nat.le_of_ble_eq_true rfl) rfl ?_
  refine b_iload_n dX1_found_103 rfl ?_
  refine b_iconst dX1_found_104 ?_
  obtain ⟨g1, h⟩ := h
  refine b_icmp_ne 113 dX1_found_105 g1 (by decide) (by decide) (fun c1 => ?_) (fun c1 => ?_)
  · have h := ifF c1 h
    refine b_iload_n dX1_found_113 rfl ?_
    refine b_iload dX1_found_114 rfl ?_
    refine b_cSi (as := [vI x2, vI r1]) (st := []) dX1_found_116 mf_X11_join lk_X1_81 (p_X11_join (f := 2) (Nat.le_refl _) _ _ _ h) (by omega) rfl rfl (Nat.le_of_ble_eq_true rfl) (by decide) rfl (fun _ => rfl) (fun r2 m2 h => ?_) (fun _ h => h)
    refine b_fgt [true, true, false, true, false, false, false] (ls' := [vR x0, vR x1, vU, vI x3, vU, vU, vU]) rfl rfl ?_
    exact pl_X1_found_119 hf hK4 _ _ _ _ _ h
  · have h := ifT (Decidable.of_not_not c1) h
    refine b_iload dX1_found_108 rfl ?_
    refine b_goto 119 dX1_found_110 (by decide) ?_
    refine b_fgt [true, true, false, true, false, false, false] (ls' := [vR x0, vR x1, vU, vI x3, vU, vU, vU]) rfl rfl ?_
    exact pl_X1_found_119 hf hK4 _ _ _ _ _ h
theorem pl_X1_found_158 {f : Nat} {Q : Int → MM → Prop} {T : MM → Prop} (hf : 4 ≤ f) : ∀ (x0 : Int) (x2 : Int) (m : MM), P_X1_found_158 Q x0 x2 m → B f M_X1_found 158 [vR x0, vU, vI x2, vU, vU, vU, vU] [] m Q T := by
  intro x0 x2 m h
  have h : P_X1_can x0 x2 m (fun r1 m1 => (RI r1) ∧ (if r1 = 0 then Q (-1) m1 else Q x2 m1)) := h
  refine b_aload_n dX1_found_158 rfl ?_
  refine b_iload_n dX1_found_159 rfl ?_
  refine b_cSi (as := [vR x0, vI x2]) (st := []) dX1_found_160 mf_X1_can lk_X1_84 (p_X1_can (f := 3) (Nat.le_refl _) _ _ _ h) (by omega) rfl rfl (Nat.le_of_ble_eq_true rfl) (by decide) rfl (fun _ => rfl) (fun r1 m1 h => ?_) (fun _ h => h)
  obtain ⟨g1, h⟩ := h
  refine b_if_eq 170 dX1_found_163 g1 (by decide) (fun c1 => ?_) (fun c1 => ?_)
  · have h := ifT c1 h
    refine b_iconst dX1_found_170 ?_
    exact b_iret dX1_found_171 rfl h
  · have h := ifF c1 h
    refine b_iload_n dX1_found_166 rfl ?_
    refine b_goto 171 dX1_found_167 (by decide) ?_
    exact b_iret dX1_found_171 rfl h
theorem pl_X1_found_133 {f : Nat} {Q : Int → MM → Prop} {T : MM → Prop} (hf : 4 ≤ f) : ∀ (x0 : Int) (x2 : Int) (m : MM), P_X1_found_133 Q x0 x2 m → B f M_X1_found 133 [vR x0, vU, vI x2, vU, vU, vU, vU] [] m Q T := by
  intro x0 x2 m h
  have h : (isTx x0) ∧ (RI (m x0 22)) ∧ (if (m x0 22) = 3 then P_X11_of 0 0 0 m (fun r1 m1 => (RI x2) ∧ (RI r1) ∧ (if x2 = r1 then P_X11_of 1 0 0 m1 (fun r2 m2 => P_X1_found_158 Q x0 r2 m2) else P_X1_found_158 Q x0 x2 m1)) else P_X1_found_158 Q x0 x2 m) := h
  refine b_aload_n dX1_found_133 rfl ?_
  obtain ⟨g1, h⟩ := h
  refine b_getI dX1_found_134 fk_X1_61 (tx_ly0 g1) ?_
  refine b_iconst dX1_found_137 ?_
  obtain ⟨g2, h⟩ := h
  refine b_icmp_ne 158 dX1_found_138 g2 (by decide) (by decide) (fun c1 => ?_) (fun c1 => ?_)
  · have h := ifF c1 h
    exact pl_X1_found_158 hf _ _ _ h
  · have h := ifT (Decidable.of_not_not c1) h
    refine b_iload_n dX1_found_141 rfl ?_
    refine b_iconst dX1_found_142 ?_
    refine b_iconst dX1_found_143 ?_
    refine b_iconst dX1_found_144 ?_
    refine b_cSi (as := [vI 0, vI 0, vI 0]) (st := [vI x2]) dX1_found_145 mf_X11_of lk_X1_57 (p_X11_of (f := 1) (Nat.le_refl _) _ _ _ _ h) (by omega) rfl rfl (Nat.le_of_ble_eq_true rfl) (by decide) rfl (fun _ => rfl) (fun r1 m1 h => ?_) (fun _ h => h)
    obtain ⟨g3, h⟩ := h
    obtain ⟨g4, h⟩ := h
    refine b_icmp_ne 158 dX1_found_148 g3 g4 (by decide) (fun c2 => ?_) (fun c2 => ?_)
    · have h := ifF c2 h
      exact pl_X1_found_158 hf _ _ _ h
    · have h := ifT (Decidable.of_not_not c2) h
      refine b_iconst dX1_found_151 ?_
      refine b_iconst dX1_found_152 ?_
      refine b_iconst dX1_found_153 ?_
      refine b_cSi (as := [vI 1, vI 0, vI 0]) (st := []) dX1_found_154 mf_X11_of lk_X1_57 (p_X11_of (f := 1) (Nat.le_refl _) _ _ _ _ h) (by omega) rfl rfl (Nat.le_of_ble_eq_true rfl) (by decide) rfl (fun _ => rfl) (fun r2 m2 h => ?_) (fun _ h => h)
      refine b_istore_n (ls' := [vR x0, vU, vI r2, vU, vU, vU, vU]) dX1_found_157 (Nat.le_of_ble_eq_true rfl) rfl ?_
      exact pl_X1_found_158 hf _ _ _ h
theorem pl_X1_found_4 {f : Nat} {Q : Int → MM → Prop} {T : MM → Prop} (hf : 4 ≤ f) : ∀ (n : Nat) (x0 : Int) (x1 : Int) (x2 : Int) (x3 : Int) (m : MM), P_X1_found_4 Q n x0 x1 x2 x3 m → B f M_X1_found 4 [vR x0, vR x1, vI x2, vI x3, vU, vU, vU] [] m Q T := by
  intro n
  induction n with
  | zero => intro x0 x1 x2 x3 m h; exact h.elim
  | succ n ih =>
    intro x0 x1 x2 x3 m h
    have h : (isTx x0) ∧ (RI x3) ∧ (RI (m x0 5)) ∧ (if (m x0 5) < x3 then P_X1_found_133 Q x0 x2 m else (0 ≤ x3 ∧ x3 < 4) ∧ (RI (m (x0 + 13) x3)) ∧ (if (m (x0 + 13) x3) = 0 then P_X1_found_4 Q n x0 x1 x2 (x3 + 1) m else (inI x1 (x3 - 1)) ∧ (RI (m x1 (x3 - 1))) ∧ (if 0 ≤ (m x1 (x3 - 1)) then ((RI (m (x0 + 15) x3)) ∧ (if (m (x0 + 15) x3) = 0 then ((RI (m (x0 + 16) x3))) else True)) ∧ P_X11_base (m x1 (x3 - 1)) m (fun r1 m1 => P_X11_depth (m x1 (x3 - 1)) m1 (fun r2 m2 => P_J4_max 0 (r2 - (m2 (x0 + 15) x3)) m2 (fun r3 m3 => (RI (if (m (x0 + 15) x3) = 0 then (if (m (x0 + 16) x3) = 0 then 1 else 0 : Int) else 0 : Int)) ∧ (if (if (m (x0 + 15) x3) = 0 then (if (m (x0 + 16) x3) = 0 then 1 else 0 : Int) else 0 : Int) = 0 then P_X1_found_98 Q (fun z0 z1 z2 z3 z4 => P_X1_found_4 Q n z0 z1 z2 z3 z4) x0 x1 x2 x3 r1 r3 0 m3 else P_X11_size (m x1 (x3 - 1)) m3 (fun r4 m4 => P_X1_found_98 Q (fun z0 z1 z2 z3 z4 => P_X1_found_4 Q n z0 z1 z2 z3 z4) x0 x1 x2 x3 r1 r3 r4 m4))))) else Q (-1) m))) := h
    refine b_iload_n dX1_found_4 rfl ?_
    refine b_aload_n dX1_found_5 rfl ?_
    obtain ⟨g1, h⟩ := h
    refine b_getI dX1_found_6 fk_X1_68 (tx_ly0 g1) ?_
    obtain ⟨g2, h⟩ := h
    obtain ⟨g3, h⟩ := h
    refine b_icmp_gt 133 dX1_found_9 g2 g3 (by decide) (fun c1 => ?_) (fun c1 => ?_)
    · have h := ifT c1 h
      refine b_fgt [true, false, true, false, false, false, false] (ls' := [vR x0, vU, vI x2, vU, vU, vU, vU]) rfl rfl ?_
      exact pl_X1_found_133 hf _ _ _ h
    · have h := ifF c1 h
      refine b_aload_n dX1_found_12 rfl ?_
      refine b_getR dX1_found_13 fk_X1_33 (tx_ly0 g1) (tx_gg23 g1) ?_
      refine b_iload_n dX1_found_16 rfl ?_
      obtain ⟨g4, h⟩ := h
      refine b_zald dX1_found_17 (tx_ly13 g1) g4 ?_
      obtain ⟨g5, h⟩ := h
      refine b_if_ne 24 dX1_found_18 g5 (by decide) (fun c2 => ?_) (fun c2 => ?_)
      · have h := ifF c2 h
        refine b_aload_n dX1_found_24 rfl ?_
        refine b_iload_n dX1_found_25 rfl ?_
        refine b_iconst dX1_found_26 ?_
        refine b_isub dX1_found_27 ?_
        obtain ⟨g6, h⟩ := h
        refine b_ialdX dX1_found_28 g6 ?_
        refine b_istore (ls' := [vR x0, vR x1, vI x2, vI x3, vI (m x1 (x3 - 1)), vU, vU]) dX1_found_29 (Nat.le_of_ble_eq_true rfl) rfl ?_
        refine b_iload dX1_found_31 rfl ?_
        obtain ⟨g7, h⟩ := h
        refine b_if_ge 38 dX1_found_33 g7 (by decide) (fun c3 => ?_) (fun c3 => ?_)
        · have h := ifT c3 h
          refine b_aload_n dX1_found_38 rfl ?_
          refine b_getR dX1_found_39 fk_X1_39 (tx_ly0 g1) (tx_gg25 g1) ?_
          refine b_iload_n dX1_found_42 rfl ?_
          refine b_iald dX1_found_43 (tx_ly15 g1) g4 ?_
          obtain ⟨hs, h⟩ := h
          have K : B f M_X1_found 61 [vR x0, vR x1, vI x2, vI x3, vI (m x1 (x3 - 1)), vU, vU] [vI (if (m (x0 + 15) x3) = 0 then (if (m (x0 + 16) x3) = 0 then 1 else 0 : Int) else 0 : Int)] m Q T := by
            clear hs
            refine b_istore (ls' := [vR x0, vR x1, vI x2, vI x3, vI (m x1 (x3 - 1)), vI (if (m (x0 + 15) x3) = 0 then (if (m (x0 + 16) x3) = 0 then 1 else 0 : Int) else 0 : Int), vU]) dX1_found_61 (Nat.le_of_ble_eq_true rfl) rfl ?_
            refine b_iload dX1_found_63 rfl ?_
            refine b_cSi (as := [vI (m x1 (x3 - 1))]) (st := []) dX1_found_65 mf_X11_base lk_X1_54 (p_X11_base (f := 1) (Nat.le_refl _) _ _ h) (by omega) rfl rfl (Nat.le_of_ble_eq_true rfl) (by decide) rfl (fun _ => rfl) (fun r1 m1 h => ?_) (fun _ h => h)
            refine b_iconst dX1_found_68 ?_
            refine b_iload dX1_found_69 rfl ?_
            refine b_cSi (as := [vI (m x1 (x3 - 1))]) (st := [vI 0, vI r1]) dX1_found_71 mf_X11_depth lk_X1_51 (p_X11_depth (f := 1) (Nat.le_refl _) _ _ h) (by omega) rfl rfl (Nat.le_of_ble_eq_true rfl) (by decide) rfl (fun _ => rfl) (fun r2 m2 h => ?_) (fun _ h => h)
            refine b_aload_n dX1_found_74 rfl ?_
            refine b_getR dX1_found_75 fk_X1_39 (tx_ly0 g1) (tx_gg25 g1) ?_
            refine b_iload_n dX1_found_78 rfl ?_
            refine b_iald dX1_found_79 (tx_ly15 g1) g4 ?_
            refine b_isub dX1_found_80 ?_
            refine b_cSi (as := [vI 0, vI (r2 - (m2 (x0 + 15) x3))]) (st := [vI r1]) dX1_found_81 mf_J4_max lk_X1_75 (p_J4_max (f := 1) (Nat.le_refl _) _ _ _ h) (by omega) rfl rfl (Nat.le_of_ble_eq_true rfl) (by decide) rfl (fun _ => rfl) (fun r3 m3 h => ?_) (fun _ h => h)
            refine b_iload dX1_found_84 rfl ?_
            obtain ⟨g10, h⟩ := h
            refine b_if_eq 97 dX1_found_86 g10 (by decide) (fun c4 => ?_) (fun c4 => ?_)
            · have h := ifT c4 h
              refine b_iconst dX1_found_97 ?_
              refine b_fgt [true, true, true, true, false, false, false] (ls' := [vR x0, vR x1, vI x2, vI x3, vU, vU, vU]) rfl rfl ?_
              exact pl_X1_found_98 hf (fun _ _ _ _ _ h => ih _ _ _ _ _ h) _ _ _ _ _ _ _ _ h
            · have h := ifF c4 h
              refine b_iload dX1_found_89 rfl ?_
              refine b_cSi (as := [vI (m x1 (x3 - 1))]) (st := [vI r3, vI r1]) dX1_found_91 mf_X11_size lk_X1_45 (p_X11_size (f := 1) (Nat.le_refl _) _ _ h) (by omega) rfl rfl (Nat.le_of_ble_eq_true rfl) (by decide) rfl (fun _ => rfl) (fun r4 m4 h => ?_) (fun _ h => h)
              refine b_goto 98 dX1_found_94 (by decide) ?_
              refine b_fgt [true, true, true, true, false, false, false] (ls' := [vR x0, vR x1, vI x2, vI x3, vU, vU, vU]) rfl rfl ?_
              exact pl_X1_found_98 hf (fun _ _ _ _ _ h => ih _ _ _ _ _ h) _ _ _ _ _ _ _ _ h
          obtain ⟨g8, hs⟩ := hs
          refine b_if_ne 60 dX1_found_44 g8 (by decide) (fun c5 => ?_) (fun c5 => ?_)
          ·
            refine b_iconst dX1_found_60 ?_
            rw [if_neg c5] at K
            exact K
          ·
            have c5 := Decidable.of_not_not c5
            have hs := ifT c5 hs
            have g9 := hs
            refine b_aload_n dX1_found_47 rfl ?_
            refine b_getR dX1_found_48 fk_X1_42 (tx_ly0 g1) (tx_gg26 g1) ?_
            refine b_iload_n dX1_found_51 rfl ?_
            refine b_iald dX1_found_52 (tx_ly16 g1) g4 ?_
            refine b_if_ne 60 dX1_found_53 g9 (by decide) (fun c6 => ?_) (fun c6 => ?_)
            ·
              refine b_iconst dX1_found_60 ?_
              rw [if_pos c5, if_neg c6] at K
              exact K
            ·
              have c6 := Decidable.of_not_not c6
              refine b_iconst dX1_found_56 ?_
              refine b_goto 61 dX1_found_57 (by decide) ?_
              rw [if_pos c5, if_pos c6] at K
              exact K
        · have h := ifF c3 h
          refine b_iconst dX1_found_36 ?_
          exact b_iret dX1_found_37 rfl h
      · have h := ifT (Decidable.of_not_not c2) h
        refine b_goto 127 dX1_found_21 (by decide) ?_
        refine b_iinc (ls' := [vR x0, vR x1, vI x2, vI (x3 + 1), vU, vU, vU]) dX1_found_127 rfl rfl ?_
        refine b_goto 4 dX1_found_130 (by decide) ?_
        exact ih _ _ _ _ _ h
theorem p_X1_found {f : Nat} {Q : Int → MM → Prop} {T : MM → Prop} (hf : 4 ≤ f) (x0 : Int) (x1 : Int) (m : MM) (h : P_X1_found x0 x1 m Q) : CC f M_X1_found [vR x0, vR x1] m Q T := by
  refine CC.of (plainFor_of_name (by decide)) (Nat.le_of_ble_eq_true rfl) (ls := [vR x0, vR x1, vU, vU, vU, vU, vU]) rfl ?_
  have h : ∃ nn, P_X1_found_4 Q nn x0 x1 (-1) 1 m := h
  refine b_iconst dX1_found_0 ?_
  refine b_istore_n (ls' := [vR x0, vR x1, vI (-1), vU, vU, vU, vU]) dX1_found_1 (Nat.le_of_ble_eq_true rfl) rfl ?_
  refine b_iconst dX1_found_2 ?_
  refine b_istore_n (ls' := [vR x0, vR x1, vI (-1), vI 1, vU, vU, vU]) dX1_found_3 (Nat.le_of_ble_eq_true rfl) rfl ?_
  obtain ⟨nn, h⟩ := h
  exact pl_X1_found_4 hf nn _ _ _ _ _ h
theorem dX1_price_0 : decode cX1_price 0 = .ok (.iconst 0, 1) := by decide +kernel
theorem dX1_price_1 : decode cX1_price 1 = .ok (.istore_n 3, 1) := by decide +kernel
theorem dX1_price_2 : decode cX1_price 2 = .ok (.iconst 0, 1) := by decide +kernel
theorem dX1_price_3 : decode cX1_price 3 = .ok (.istore 4, 2) := by decide +kernel
theorem dX1_price_5 : decode cX1_price 5 = .ok (.iload 4, 2) := by decide +kernel
theorem dX1_price_7 : decode cX1_price 7 = .ok (.aload_n 0, 1) := by decide +kernel
theorem dX1_price_8 : decode cX1_price 8 = .ok (.getfield 68, 3) := by decide +kernel
theorem dX1_price_11 : decode cX1_price 11 = .ok (.if_icmp .ge 46, 3) := by decide +kernel
theorem dX1_price_14 : decode cX1_price 14 = .ok (.aload_n 0, 1) := by decide +kernel
theorem dX1_price_15 : decode cX1_price 15 = .ok (.iload 4, 2) := by decide +kernel
theorem dX1_price_17 : decode cX1_price 17 = .ok (.iconst 1, 1) := by decide +kernel
theorem dX1_price_18 : decode cX1_price 18 = .ok (.iadd, 1) := by decide +kernel
theorem dX1_price_19 : decode cX1_price 19 = .ok (.iload_n 2, 1) := by decide +kernel
theorem dX1_price_20 : decode cX1_price 20 = .ok (.invokestatic 71, 3) := by decide +kernel
theorem dX1_price_23 : decode cX1_price 23 = .ok (.istore 5, 2) := by decide +kernel
theorem dX1_price_25 : decode cX1_price 25 = .ok (.aload_n 1, 1) := by decide +kernel
theorem dX1_price_26 : decode cX1_price 26 = .ok (.iload 4, 2) := by decide +kernel
theorem dX1_price_28 : decode cX1_price 28 = .ok (.iaload, 1) := by decide +kernel
theorem dX1_price_29 : decode cX1_price 29 = .ok (.iload 5, 2) := by decide +kernel
theorem dX1_price_31 : decode cX1_price 31 = .ok (.invokestatic 103, 3) := by decide +kernel
theorem dX1_price_34 : decode cX1_price 34 = .ok (.ifCond .ne 5, 3) := by decide +kernel
theorem dX1_price_37 : decode cX1_price 37 = .ok (.iconst (-1), 1) := by decide +kernel
theorem dX1_price_38 : decode cX1_price 38 = .ok (.ireturn, 1) := by decide +kernel
theorem dX1_price_39 : decode cX1_price 39 = .ok (.iload_n 3, 1) := by decide +kernel
theorem dX1_price_40 : decode cX1_price 40 = .ok (.aload_n 1, 1) := by decide +kernel
theorem dX1_price_41 : decode cX1_price 41 = .ok (.iload 4, 2) := by decide +kernel
theorem dX1_price_43 : decode cX1_price 43 = .ok (.iaload, 1) := by decide +kernel
theorem dX1_price_44 : decode cX1_price 44 = .ok (.iload 5, 2) := by decide +kernel
theorem dX1_price_46 : decode cX1_price 46 = .ok (.invokestatic 107, 3) := by decide +kernel
theorem dX1_price_49 : decode cX1_price 49 = .ok (.iadd, 1) := by decide +kernel
theorem dX1_price_50 : decode cX1_price 50 = .ok (.istore_n 3, 1) := by decide +kernel
theorem dX1_price_51 : decode cX1_price 51 = .ok (.iinc 4 1, 3) := by decide +kernel
theorem dX1_price_54 : decode cX1_price 54 = .ok (.goto (-49), 3) := by decide +kernel
theorem dX1_price_57 : decode cX1_price 57 = .ok (.iload_n 3, 1) := by decide +kernel
theorem dX1_price_58 : decode cX1_price 58 = .ok (.ireturn, 1) := by decide +kernel
/-! AlgebraHouse$Book.price(LAlgebraHouse$Text;[II)I -/
def P_X1_price_5 (Q : Int → MM → Prop) : Nat → Int → Int → Int → Int → Int → MM → Prop
  | 0, _, _, _, _, _, _ => False
  | n + 1, x0, x1, x2, x3, x4, m => (isTx x0) ∧ (RI x4) ∧ (RI (m x0 5)) ∧ (if (m x0 5) ≤ x4 then Q x3 m else P_X1_ring x0 (x4 + 1) x2 m (fun r1 m1 => (inI x1 x4) ∧ P_X11_goes (m1 x1 x4) r1 m1 (fun r2 m2 => (RI r2) ∧ (if r2 = 0 then Q (-1) m2 else P_X11_price (m2 x1 x4) r1 m2 (fun r3 m3 => P_X1_price_5 Q n x0 x1 x2 (x3 + r3) (x4 + 1) m3)))))
def P_X1_price (x0 : Int) (x1 : Int) (x2 : Int) (m : MM) (Q : Int → MM → Prop) : Prop := ∃ nn, P_X1_price_5 Q nn x0 x1 x2 0 0 m
theorem pl_X1_price_5 {f : Nat} {Q : Int → MM → Prop} {T : MM → Prop} (hf : 4 ≤ f) : ∀ (n : Nat) (x0 : Int) (x1 : Int) (x2 : Int) (x3 : Int) (x4 : Int) (m : MM), P_X1_price_5 Q n x0 x1 x2 x3 x4 m → B f M_X1_price 5 [vR x0, vR x1, vI x2, vI x3, vI x4, vU] [] m Q T := by
  intro n
  induction n with
  | zero => intro x0 x1 x2 x3 x4 m h; exact h.elim
  | succ n ih =>
    intro x0 x1 x2 x3 x4 m h
    have h : (isTx x0) ∧ (RI x4) ∧ (RI (m x0 5)) ∧ (if (m x0 5) ≤ x4 then Q x3 m else P_X1_ring x0 (x4 + 1) x2 m (fun r1 m1 => (inI x1 x4) ∧ P_X11_goes (m1 x1 x4) r1 m1 (fun r2 m2 => (RI r2) ∧ (if r2 = 0 then Q (-1) m2 else P_X11_price (m2 x1 x4) r1 m2 (fun r3 m3 => P_X1_price_5 Q n x0 x1 x2 (x3 + r3) (x4 + 1) m3))))) := h
    refine b_iload dX1_price_5 rfl ?_
    refine b_aload_n dX1_price_7 rfl ?_
    obtain ⟨g1, h⟩ := h
    refine b_getI dX1_price_8 fk_X1_68 (tx_ly0 g1) ?_
    obtain ⟨g2, h⟩ := h
    obtain ⟨g3, h⟩ := h
    refine b_icmp_ge 57 dX1_price_11 g2 g3 (by decide) (fun c1 => ?_) (fun c1 => ?_)
    · have h := ifT c1 h
      refine b_iload_n dX1_price_57 rfl ?_
      exact b_iret dX1_price_58 rfl h
    · have h := ifF c1 h
      refine b_aload_n dX1_price_14 rfl ?_
      refine b_iload dX1_price_15 rfl ?_
      refine b_iconst dX1_price_17 ?_
      refine b_iadd dX1_price_18 ?_
      refine b_iload_n dX1_price_19 rfl ?_
      refine b_cSi (as := [vR x0, vI (x4 + 1), vI x2]) (st := []) dX1_price_20 mf_X1_ring lk_X1_71 (p_X1_ring (f := 2) (Nat.le_refl _) _ _ _ _ h) (by omega) rfl rfl (Nat.le_of_ble_eq_true rfl) (by decide) rfl (fun _ => rfl) (fun r1 m1 h => ?_) (fun _ h => h)
      refine b_istore (ls' := [vR x0, vR x1, vI x2, vI x3, vI x4, vI r1]) dX1_price_23 (Nat.le_of_ble_eq_true rfl) rfl ?_
      refine b_aload_n dX1_price_25 rfl ?_
      refine b_iload dX1_price_26 rfl ?_
      obtain ⟨g4, h⟩ := h
      refine b_ialdX dX1_price_28 g4 ?_
      refine b_iload dX1_price_29 rfl ?_
      refine b_cSi (as := [vI (m1 x1 x4), vI r1]) (st := []) dX1_price_31 mf_X11_goes lk_X1_103 (p_X11_goes (f := 3) (Nat.le_refl _) _ _ _ h) (by omega) rfl rfl (Nat.le_of_ble_eq_true rfl) (by decide) rfl (fun _ => rfl) (fun r2 m2 h => ?_) (fun _ h => h)
      obtain ⟨g5, h⟩ := h
      refine b_if_ne 39 dX1_price_34 g5 (by decide) (fun c2 => ?_) (fun c2 => ?_)
      · have h := ifF c2 h
        refine b_iload_n dX1_price_39 rfl ?_
        refine b_aload_n dX1_price_40 rfl ?_
        refine b_iload dX1_price_41 rfl ?_
        refine b_ialdX dX1_price_43 g4 ?_
        refine b_iload dX1_price_44 rfl ?_
        refine b_cSi (as := [vI (m2 x1 x4), vI r1]) (st := [vI x3]) dX1_price_46 mf_X11_price lk_X1_107 (p_X11_price (f := 2) (Nat.le_refl _) _ _ _ h) (by omega) rfl rfl (Nat.le_of_ble_eq_true rfl) (by decide) rfl (fun _ => rfl) (fun r3 m3 h => ?_) (fun _ h => h)
        refine b_iadd dX1_price_49 ?_
        refine b_istore_n (ls' := [vR x0, vR x1, vI x2, vI (x3 + r3), vI x4, vI r1]) dX1_price_50 (Nat.le_of_ble_eq_true rfl) rfl ?_
        refine b_iinc (ls' := [vR x0, vR x1, vI x2, vI (x3 + r3), vI (x4 + 1), vI r1]) dX1_price_51 rfl rfl ?_
        refine b_goto 5 dX1_price_54 (by decide) ?_
        refine b_fgt [true, true, true, true, true, false] (ls' := [vR x0, vR x1, vI x2, vI (x3 + r3), vI (x4 + 1), vU]) rfl rfl ?_
        exact ih _ _ _ _ _ _ h
      · have h := ifT (Decidable.of_not_not c2) h
        refine b_iconst dX1_price_37 ?_
        exact b_iret dX1_price_38 rfl h
theorem p_X1_price {f : Nat} {Q : Int → MM → Prop} {T : MM → Prop} (hf : 4 ≤ f) (x0 : Int) (x1 : Int) (x2 : Int) (m : MM) (h : P_X1_price x0 x1 x2 m Q) : CC f M_X1_price [vR x0, vR x1, vI x2] m Q T := by
  refine CC.of (plainFor_of_name (by decide)) (Nat.le_of_ble_eq_true rfl) (ls := [vR x0, vR x1, vI x2, vU, vU, vU]) rfl ?_
  have h : ∃ nn, P_X1_price_5 Q nn x0 x1 x2 0 0 m := h
  refine b_iconst dX1_price_0 ?_
  refine b_istore_n (ls' := [vR x0, vR x1, vI x2, vI 0, vU, vU]) dX1_price_1 (Nat.le_of_ble_eq_true rfl) rfl ?_
  refine b_iconst dX1_price_2 ?_
  refine b_istore (ls' := [vR x0, vR x1, vI x2, vI 0, vI 0, vU]) dX1_price_3 (Nat.le_of_ble_eq_true rfl) rfl ?_
  obtain ⟨nn, h⟩ := h
  exact pl_X1_price_5 hf nn _ _ _ _ _ _ h
theorem dX1_meant_0 : decode cX1_meant 0 = .ok (.iconst (-1), 1) := by decide +kernel
theorem dX1_meant_1 : decode cX1_meant 1 = .ok (.istore 6, 2) := by decide +kernel
theorem dX1_meant_3 : decode cX1_meant 3 = .ok (.iconst 0, 1) := by decide +kernel
theorem dX1_meant_4 : decode cX1_meant 4 = .ok (.istore 7, 2) := by decide +kernel
theorem dX1_meant_6 : decode cX1_meant 6 = .ok (.iconst 0, 1) := by decide +kernel
theorem dX1_meant_7 : decode cX1_meant 7 = .ok (.istore 8, 2) := by decide +kernel
theorem dX1_meant_9 : decode cX1_meant 9 = .ok (.iload 8, 2) := by decide +kernel
theorem dX1_meant_11 : decode cX1_meant 11 = .ok (.iload 5, 2) := by decide +kernel
theorem dX1_meant_13 : decode cX1_meant 13 = .ok (.if_icmp .ge 151, 3) := by decide +kernel
theorem dX1_meant_16 : decode cX1_meant 16 = .ok (.aload_n 0, 1) := by decide +kernel
theorem dX1_meant_17 : decode cX1_meant 17 = .ok (.getfield 11, 3) := by decide +kernel
theorem dX1_meant_20 : decode cX1_meant 20 = .ok (.iload 8, 2) := by decide +kernel
theorem dX1_meant_22 : decode cX1_meant 22 = .ok (.aaload, 1) := by decide +kernel
theorem dX1_meant_23 : decode cX1_meant 23 = .ok (.astore 9, 2) := by decide +kernel
theorem dX1_meant_25 : decode cX1_meant 25 = .ok (.aload 9, 2) := by decide +kernel
theorem dX1_meant_27 : decode cX1_meant 27 = .ok (.getfield 88, 3) := by decide +kernel
theorem dX1_meant_30 : decode cX1_meant 30 = .ok (.lload_n 1, 1) := by decide +kernel
theorem dX1_meant_31 : decode cX1_meant 31 = .ok (.lcmp, 1) := by decide +kernel
theorem dX1_meant_32 : decode cX1_meant 32 = .ok (.ifCond .ne 126, 3) := by decide +kernel
theorem dX1_meant_35 : decode cX1_meant 35 = .ok (.aload 9, 2) := by decide +kernel
theorem dX1_meant_37 : decode cX1_meant 37 = .ok (.getfield 68, 3) := by decide +kernel
theorem dX1_meant_40 : decode cX1_meant 40 = .ok (.iload 4, 2) := by decide +kernel
theorem dX1_meant_42 : decode cX1_meant 42 = .ok (.if_icmp .eq 6, 3) := by decide +kernel
theorem dX1_meant_45 : decode cX1_meant 45 = .ok (.goto 113, 3) := by decide +kernel
theorem dX1_meant_48 : decode cX1_meant 48 = .ok (.aload 9, 2) := by decide +kernel
theorem dX1_meant_50 : decode cX1_meant 50 = .ok (.getfield 61, 3) := by decide +kernel
theorem dX1_meant_53 : decode cX1_meant 53 = .ok (.ifCond .ne 7, 3) := by decide +kernel
theorem dX1_meant_56 : decode cX1_meant 56 = .ok (.iconst (-1), 1) := by decide +kernel
theorem dX1_meant_57 : decode cX1_meant 57 = .ok (.goto 9, 3) := by decide +kernel
theorem dX1_meant_60 : decode cX1_meant 60 = .ok (.aload 9, 2) := by decide +kernel
theorem dX1_meant_62 : decode cX1_meant 62 = .ok (.aload_n 3, 1) := by decide +kernel
theorem dX1_meant_63 : decode cX1_meant 63 = .ok (.invokestatic 92, 3) := by decide +kernel
theorem dX1_meant_66 : decode cX1_meant 66 = .ok (.istore 10, 2) := by decide +kernel
theorem dX1_meant_68 : decode cX1_meant 68 = .ok (.aload 9, 2) := by decide +kernel
theorem dX1_meant_70 : decode cX1_meant 70 = .ok (.getfield 61, 3) := by decide +kernel
theorem dX1_meant_73 : decode cX1_meant 73 = .ok (.ifCond .le 12, 3) := by decide +kernel
theorem dX1_meant_76 : decode cX1_meant 76 = .ok (.iload 10, 2) := by decide +kernel
theorem dX1_meant_78 : decode cX1_meant 78 = .ok (.iconst (-1), 1) := by decide +kernel
theorem dX1_meant_79 : decode cX1_meant 79 = .ok (.if_icmp .ne 6, 3) := by decide +kernel
theorem dX1_meant_82 : decode cX1_meant 82 = .ok (.goto 76, 3) := by decide +kernel
theorem dX1_meant_85 : decode cX1_meant 85 = .ok (.aload 9, 2) := by decide +kernel
theorem dX1_meant_87 : decode cX1_meant 87 = .ok (.aload_n 3, 1) := by decide +kernel
theorem dX1_meant_88 : decode cX1_meant 88 = .ok (.iload 10, 2) := by decide +kernel
theorem dX1_meant_90 : decode cX1_meant 90 = .ok (.invokestatic 96, 3) := by decide +kernel
theorem dX1_meant_93 : decode cX1_meant 93 = .ok (.istore 11, 2) := by decide +kernel
theorem dX1_meant_95 : decode cX1_meant 95 = .ok (.iload 11, 2) := by decide +kernel
theorem dX1_meant_97 : decode cX1_meant 97 = .ok (.ifCond .lt 61, 3) := by decide +kernel
theorem dX1_meant_100 : decode cX1_meant 100 = .ok (.iload 6, 2) := by decide +kernel
theorem dX1_meant_102 : decode cX1_meant 102 = .ok (.iconst (-1), 1) := by decide +kernel
theorem dX1_meant_103 : decode cX1_meant 103 = .ok (.if_icmp .eq 41, 3) := by decide +kernel
theorem dX1_meant_106 : decode cX1_meant 106 = .ok (.iload 11, 2) := by decide +kernel
theorem dX1_meant_108 : decode cX1_meant 108 = .ok (.iload 7, 2) := by decide +kernel
theorem dX1_meant_110 : decode cX1_meant 110 = .ok (.if_icmp .gt 48, 3) := by decide +kernel
theorem dX1_meant_113 : decode cX1_meant 113 = .ok (.iload 11, 2) := by decide +kernel
theorem dX1_meant_115 : decode cX1_meant 115 = .ok (.iload 7, 2) := by decide +kernel
theorem dX1_meant_117 : decode cX1_meant 117 = .ok (.if_icmp .ne 27, 3) := by decide +kernel
theorem dX1_meant_120 : decode cX1_meant 120 = .ok (.aload_n 0, 1) := by decide +kernel
theorem dX1_meant_121 : decode cX1_meant 121 = .ok (.getfield 11, 3) := by decide +kernel
theorem dX1_meant_124 : decode cX1_meant 124 = .ok (.iload 6, 2) := by decide +kernel
theorem dX1_meant_126 : decode cX1_meant 126 = .ok (.aaload, 1) := by decide +kernel
theorem dX1_meant_127 : decode cX1_meant 127 = .ok (.getfield 61, 3) := by decide +kernel
theorem dX1_meant_130 : decode cX1_meant 130 = .ok (.ifCond .eq 28, 3) := by decide +kernel
theorem dX1_meant_133 : decode cX1_meant 133 = .ok (.aload 9, 2) := by decide +kernel
theorem dX1_meant_135 : decode cX1_meant 135 = .ok (.getfield 61, 3) := by decide +kernel
theorem dX1_meant_138 : decode cX1_meant 138 = .ok (.ifCond .le 6, 3) := by decide +kernel
theorem dX1_meant_141 : decode cX1_meant 141 = .ok (.goto 17, 3) := by decide +kernel
theorem dX1_meant_144 : decode cX1_meant 144 = .ok (.iload 8, 2) := by decide +kernel
theorem dX1_meant_146 : decode cX1_meant 146 = .ok (.istore 6, 2) := by decide +kernel
theorem dX1_meant_148 : decode cX1_meant 148 = .ok (.iload 11, 2) := by decide +kernel
theorem dX1_meant_150 : decode cX1_meant 150 = .ok (.istore 7, 2) := by decide +kernel
theorem dX1_meant_152 : decode cX1_meant 152 = .ok (.aload_n 0, 1) := by decide +kernel
theorem dX1_meant_153 : decode cX1_meant 153 = .ok (.iload 10, 2) := by decide +kernel
theorem dX1_meant_155 : decode cX1_meant 155 = .ok (.putfield 100, 3) := by decide +kernel
theorem dX1_meant_158 : decode cX1_meant 158 = .ok (.iinc 8 1, 3) := by decide +kernel
theorem dX1_meant_161 : decode cX1_meant 161 = .ok (.goto (-152), 3) := by decide +kernel
theorem dX1_meant_164 : decode cX1_meant 164 = .ok (.iload 6, 2) := by decide +kernel
theorem dX1_meant_166 : decode cX1_meant 166 = .ok (.ireturn, 1) := by decide +kernel
/-! AlgebraHouse$Book.meant(J[III)I -/
def P_X1_meant_144 (Q : Int → MM → Prop) (K9 : Int → Int → Int → Int → Int → Int → Int → MM → Prop) (x1 : Int) (x3 : Int) (x4 : Int) (x5 : Int) (x8 : Int) (x10 : Int) (x11 : Int) (m : MM) : Prop := ∀ m1 : MM, m1 = up m 3 7 x10 → K9 x1 x3 x4 x5 x8 x11 (x8 + 1) m1
def P_X1_meant_85 (Q : Int → MM → Prop) (K9 : Int → Int → Int → Int → Int → Int → Int → MM → Prop) (x1 : Int) (x3 : Int) (x4 : Int) (x5 : Int) (x6 : Int) (x7 : Int) (x8 : Int) (x9 : Int) (x10 : Int) (m : MM) : Prop := P_X1_price x9 x3 x10 m (fun r1 m1 => (RI r1) ∧ (if r1 < 0 then K9 x1 x3 x4 x5 x6 x7 (x8 + 1) m1 else (RI x6) ∧ (if x6 = (-1) then P_X1_meant_144 Q K9 x1 x3 x4 x5 x8 x10 r1 m1 else (RI x7) ∧ (if x7 < r1 then K9 x1 x3 x4 x5 x6 x7 (x8 + 1) m1 else (if r1 = x7 then (0 ≤ x6 ∧ x6 < 21) ∧ (isTx (8 + 17 * x6)) ∧ (RI (m1 (8 + 17 * x6) 22)) ∧ (if (m1 (8 + 17 * x6) 22) = 0 then K9 x1 x3 x4 x5 x6 x7 (x8 + 1) m1 else (isTx x9) ∧ (RI (m1 x9 22)) ∧ (if (m1 x9 22) ≤ 0 then P_X1_meant_144 Q K9 x1 x3 x4 x5 x8 x10 r1 m1 else K9 x1 x3 x4 x5 x6 x7 (x8 + 1) m1)) else P_X1_meant_144 Q K9 x1 x3 x4 x5 x8 x10 r1 m1)))))
def P_X1_meant_66 (Q : Int → MM → Prop) (K9 : Int → Int → Int → Int → Int → Int → Int → MM → Prop) (x1 : Int) (x3 : Int) (x4 : Int) (x5 : Int) (x6 : Int) (x7 : Int) (x8 : Int) (x9 : Int) (s0 : Int) (m : MM) : Prop := (isTx x9) ∧ (RI (m x9 22)) ∧ (if (m x9 22) ≤ 0 then P_X1_meant_85 Q K9 x1 x3 x4 x5 x6 x7 x8 x9 s0 m else (RI s0) ∧ (if s0 = (-1) then K9 x1 x3 x4 x5 x6 x7 (x8 + 1) m else P_X1_meant_85 Q K9 x1 x3 x4 x5 x6 x7 x8 x9 s0 m))
def P_X1_meant_9 (Q : Int → MM → Prop) : Nat → Int → Int → Int → Int → Int → Int → Int → MM → Prop
  | 0, _, _, _, _, _, _, _, _ => False
  | n + 1, x1, x3, x4, x5, x6, x7, x8, m => (RI x8) ∧ (RI x5) ∧ (if x5 ≤ x8 then Q x6 m else (0 ≤ x8 ∧ x8 < 21) ∧ (isTx (8 + 17 * x8)) ∧ (RL (m (8 + 17 * x8) 16)) ∧ (RL x1) ∧ (if (m (8 + 17 * x8) 16) = x1 then (RI (m (8 + 17 * x8) 5)) ∧ (RI x4) ∧ (if (m (8 + 17 * x8) 5) = x4 then (RI (m (8 + 17 * x8) 22)) ∧ (if (m (8 + 17 * x8) 22) = 0 then P_X1_meant_66 Q (fun z0 z1 z2 z3 z4 z5 z6 z7 => P_X1_meant_9 Q n z0 z1 z2 z3 z4 z5 z6 z7) x1 x3 x4 x5 x6 x7 x8 (8 + 17 * x8) (-1) m else P_X1_found (8 + 17 * x8) x3 m (fun r1 m1 => P_X1_meant_66 Q (fun z0 z1 z2 z3 z4 z5 z6 z7 => P_X1_meant_9 Q n z0 z1 z2 z3 z4 z5 z6 z7) x1 x3 x4 x5 x6 x7 x8 (8 + 17 * x8) r1 m1)) else P_X1_meant_9 Q n x1 x3 x4 x5 x6 x7 (x8 + 1) m) else P_X1_meant_9 Q n x1 x3 x4 x5 x6 x7 (x8 + 1) m))
def P_X1_meant (x1 : Int) (x3 : Int) (x4 : Int) (x5 : Int) (m : MM) (Q : Int → MM → Prop) : Prop := ∃ nn, P_X1_meant_9 Q nn x1 x3 x4 x5 (-1) 0 0 m
theorem pl_X1_meant_144 {f : Nat} {Q : Int → MM → Prop} {T : MM → Prop} (hf : 5 ≤ f) {K9 : Int → Int → Int → Int → Int → Int → Int → MM → Prop} (hK9 : ∀ (x1 : Int) (x3 : Int) (x4 : Int) (x5 : Int) (x6 : Int) (x7 : Int) (x8 : Int) (m : MM), K9 x1 x3 x4 x5 x6 x7 x8 m → B f M_X1_meant 9 [vR 3, vL x1, vU, vR x3, vI x4, vI x5, vI x6, vI x7, vI x8, vU, vU, vU] [] m Q T) : ∀ (x1 : Int) (x3 : Int) (x4 : Int) (x5 : Int) (x8 : Int) (x10 : Int) (x11 : Int) (m : MM), P_X1_meant_144 Q K9 x1 x3 x4 x5 x8 x10 x11 m → B f M_X1_meant 144 [vR 3, vL x1, vU, vR x3, vI x4, vI x5, vU, vU, vI x8, vU, vI x10, vI x11] [] m Q T := by
  intro x1 x3 x4 x5 x8 x10 x11 m h
  have h : ∀ m1 : MM, m1 = up m 3 7 x10 → K9 x1 x3 x4 x5 x8 x11 (x8 + 1) m1 := h
  refine b_iload dX1_meant_144 rfl ?_
  refine b_istore (ls' := [vR 3, vL x1, vU, vR x3, vI x4, vI x5, vI x8, vU, vI x8, vU, vI x10, vI x11]) dX1_meant_146 (Nat.le_of_ble_eq_true rfl) rfl ?_
  refine b_iload dX1_meant_148 rfl ?_
  refine b_istore (ls' := [vR 3, vL x1, vU, vR x3, vI x4, vI x5, vI x8, vI x11, vI x8, vU, vI x10, vI x11]) dX1_meant_150 (Nat.le_of_ble_eq_true rfl) rfl ?_
  refine b_aload_n dX1_meant_152 rfl ?_
  refine b_iload dX1_meant_153 rfl ?_
  refine b_putI dX1_meant_155 fk_X1_100 ly_3 (fun m1 em1 => ?_)
  have h := h m1 em1
  refine b_iinc (ls' := [vR 3, vL x1, vU, vR x3, vI x4, vI x5, vI x8, vI x11, vI (x8 + 1), vU, vI x10, vI x11]) dX1_meant_158 rfl rfl ?_
  refine b_goto 9 dX1_meant_161 (by decide) ?_
  refine b_fgt [true, true, false, true, true, true, true, true, true, false, false, false] (ls' := [vR 3, vL x1, vU, vR x3, vI x4, vI x5, vI x8, vI x11, vI (x8 + 1), vU, vU, vU]) rfl rfl ?_
  exact hK9 _ _ _ _ _ _ _ _ h
theorem pl_X1_meant_85 {f : Nat} {Q : Int → MM → Prop} {T : MM → Prop} (hf : 5 ≤ f) {K9 : Int → Int → Int → Int → Int → Int → Int → MM → Prop} (hK9 : ∀ (x1 : Int) (x3 : Int) (x4 : Int) (x5 : Int) (x6 : Int) (x7 : Int) (x8 : Int) (m : MM), K9 x1 x3 x4 x5 x6 x7 x8 m → B f M_X1_meant 9 [vR 3, vL x1, vU, vR x3, vI x4, vI x5, vI x6, vI x7, vI x8, vU, vU, vU] [] m Q T) : ∀ (x1 : Int) (x3 : Int) (x4 : Int) (x5 : Int) (x6 : Int) (x7 : Int) (x8 : Int) (x9 : Int) (x10 : Int) (m : MM), P_X1_meant_85 Q K9 x1 x3 x4 x5 x6 x7 x8 x9 x10 m → B f M_X1_meant 85 [vR 3, vL x1, vU, vR x3, vI x4, vI x5, vI x6, vI x7, vI x8, vR x9, vI x10, vU] [] m Q T := by
  intro x1 x3 x4 x5 x6 x7 x8 x9 x10 m h
  have h : P_X1_price x9 x3 x10 m (fun r1 m1 => (RI r1) ∧ (if r1 < 0 then K9 x1 x3 x4 x5 x6 x7 (x8 + 1) m1 else (RI x6) ∧ (if x6 = (-1) then P_X1_meant_144 Q K9 x1 x3 x4 x5 x8 x10 r1 m1 else (RI x7) ∧ (if x7 < r1 then K9 x1 x3 x4 x5 x6 x7 (x8 + 1) m1 else (if r1 = x7 then (0 ≤ x6 ∧ x6 < 21) ∧ (isTx (8 + 17 * x6)) ∧ (RI (m1 (8 + 17 * x6) 22)) ∧ (if (m1 (8 + 17 * x6) 22) = 0 then K9 x1 x3 x4 x5 x6 x7 (x8 + 1) m1 else (isTx x9) ∧ (RI (m1 x9 22)) ∧ (if (m1 x9 22) ≤ 0 then P_X1_meant_144 Q K9 x1 x3 x4 x5 x8 x10 r1 m1 else K9 x1 x3 x4 x5 x6 x7 (x8 + 1) m1)) else P_X1_meant_144 Q K9 x1 x3 x4 x5 x8 x10 r1 m1))))) := h
  refine b_aload dX1_meant_85 rfl ?_
  refine b_aload_n dX1_meant_87 rfl ?_
  refine b_iload dX1_meant_88 rfl ?_
  refine b_cSi (as := [vR x9, vR x3, vI x10]) (st := []) dX1_meant_90 mf_X1_price lk_X1_96 (p_X1_price (f := 4) (Nat.le_refl _) _ _ _ _ h) (by omega) rfl rfl (Nat.le_of_ble_eq_true rfl) (by decide) rfl (fun _ => rfl) (fun r1 m1 h => ?_) (fun _ h => h)
  refine b_istore (ls' := [vR 3, vL x1, vU, vR x3, vI x4, vI x5, vI x6, vI x7, vI x8, vR x9, vI x10, vI r1]) dX1_meant_93 (Nat.le_of_ble_eq_true rfl) rfl ?_
  refine b_iload dX1_meant_95 rfl ?_
  obtain ⟨g1, h⟩ := h
  refine b_if_lt 158 dX1_meant_97 g1 (by decide) (fun c1 => ?_) (fun c1 => ?_)
  · have h := ifT c1 h
    refine b_iinc (ls' := [vR 3, vL x1, vU, vR x3, vI x4, vI x5, vI x6, vI x7, vI (x8 + 1), vR x9, vI x10, vI r1]) dX1_meant_158 rfl rfl ?_
    refine b_goto 9 dX1_meant_161 (by decide) ?_
    refine b_fgt [true, true, false, true, true, true, true, true, true, false, false, false] (ls' := [vR 3, vL x1, vU, vR x3, vI x4, vI x5, vI x6, vI x7, vI (x8 + 1), vU, vU, vU]) rfl rfl ?_
    exact hK9 _ _ _ _ _ _ _ _ h
  · have h := ifF c1 h
    refine b_iload dX1_meant_100 rfl ?_
    refine b_iconst dX1_meant_102 ?_
    obtain ⟨g2, h⟩ := h
    refine b_icmp_eq 144 dX1_meant_103 g2 (by decide) (by decide) (fun c2 => ?_) (fun c2 => ?_)
    · have h := ifT c2 h
      refine b_fgt [true, true, false, true, true, true, false, false, true, false, true, true] (ls' := [vR 3, vL x1, vU, vR x3, vI x4, vI x5, vU, vU, vI x8, vU, vI x10, vI r1]) rfl rfl ?_
      exact pl_X1_meant_144 hf hK9 _ _ _ _ _ _ _ _ h
    · have h := ifF c2 h
      refine b_iload dX1_meant_106 rfl ?_
      refine b_iload dX1_meant_108 rfl ?_
      obtain ⟨g3, h⟩ := h
      refine b_icmp_gt 158 dX1_meant_110 g1 g3 (by decide) (fun c3 => ?_) (fun c3 => ?_)
      · have h := ifT c3 h
        refine b_iinc (ls' := [vR 3, vL x1, vU, vR x3, vI x4, vI x5, vI x6, vI x7, vI (x8 + 1), vR x9, vI x10, vI r1]) dX1_meant_158 rfl rfl ?_
        refine b_goto 9 dX1_meant_161 (by decide) ?_
        refine b_fgt [true, true, false, true, true, true, true, true, true, false, false, false] (ls' := [vR 3, vL x1, vU, vR x3, vI x4, vI x5, vI x6, vI x7, vI (x8 + 1), vU, vU, vU]) rfl rfl ?_
        exact hK9 _ _ _ _ _ _ _ _ h
      · have h := ifF c3 h
        refine b_iload dX1_meant_113 rfl ?_
        refine b_iload dX1_meant_115 rfl ?_
        refine b_icmp_ne 144 dX1_meant_117 g1 g3 (by decide) (fun c4 => ?_) (fun c4 => ?_)
        · have h := ifF c4 h
          refine b_fgt [true, true, false, true, true, true, false, false, true, false, true, true] (ls' := [vR 3, vL x1, vU, vR x3, vI x4, vI x5, vU, vU, vI x8, vU, vI x10, vI r1]) rfl rfl ?_
          exact pl_X1_meant_144 hf hK9 _ _ _ _ _ _ _ _ h
        · have h := ifT (Decidable.of_not_not c4) h
          refine b_aload_n dX1_meant_120 rfl ?_
          refine b_getR dX1_meant_121 fk_X1_11 ly_3 gg_3_0 ?_
          refine b_iload dX1_meant_124 rfl ?_
          obtain ⟨g4, h⟩ := h
          refine b_aald dX1_meant_126 ly_4 (Or.inl rfl) g4 (gg_told _) ?_
          obtain ⟨g5, h⟩ := h
          refine b_getI dX1_meant_127 fk_X1_61 (tx_ly0 g5) ?_
          obtain ⟨g6, h⟩ := h
          refine b_if_eq 158 dX1_meant_130 g6 (by decide) (fun c5 => ?_) (fun c5 => ?_)
          · have h := ifT c5 h
            refine b_iinc (ls' := [vR 3, vL x1, vU, vR x3, vI x4, vI x5, vI x6, vI x7, vI (x8 + 1), vR x9, vI x10, vI r1]) dX1_meant_158 rfl rfl ?_
            refine b_goto 9 dX1_meant_161 (by decide) ?_
            refine b_fgt [true, true, false, true, true, true, true, true, true, false, false, false] (ls' := [vR 3, vL x1, vU, vR x3, vI x4, vI x5, vI x6, vI x7, vI (x8 + 1), vU, vU, vU]) rfl rfl ?_
            exact hK9 _ _ _ _ _ _ _ _ h
          · have h := ifF c5 h
            refine b_aload dX1_meant_133 rfl ?_
            obtain ⟨g7, h⟩ := h
            refine b_getI dX1_meant_135 fk_X1_61 (tx_ly0 g7) ?_
            obtain ⟨g8, h⟩ := h
            refine b_if_le 144 dX1_meant_138 g8 (by decide) (fun c6 => ?_) (fun c6 => ?_)
            · have h := ifT c6 h
              refine b_fgt [true, true, false, true, true, true, false, false, true, false, true, true] (ls' := [vR 3, vL x1, vU, vR x3, vI x4, vI x5, vU, vU, vI x8, vU, vI x10, vI r1]) rfl rfl ?_
              exact pl_X1_meant_144 hf hK9 _ _ _ _ _ _ _ _ h
            · have h := ifF c6 h
              refine b_goto 158 dX1_meant_141 (by decide) ?_
              refine b_iinc (ls' := [vR 3, vL x1, vU, vR x3, vI x4, vI x5, vI x6, vI x7, vI (x8 + 1), vR x9, vI x10, vI r1]) dX1_meant_158 rfl rfl ?_
              refine b_goto 9 dX1_meant_161 (by decide) ?_
              refine b_fgt [true, true, false, true, true, true, true, true, true, false, false, false] (ls' := [vR 3, vL x1, vU, vR x3, vI x4, vI x5, vI x6, vI x7, vI (x8 + 1), vU, vU, vU]) rfl rfl ?_
              exact hK9 _ _ _ _ _ _ _ _ h
theorem pl_X1_meant_66 {f : Nat} {Q : Int → MM → Prop} {T : MM → Prop} (hf : 5 ≤ f) {K9 : Int → Int → Int → Int → Int → Int → Int → MM → Prop} (hK9 : ∀ (x1 : Int) (x3 : Int) (x4 : Int) (x5 : Int) (x6 : Int) (x7 : Int) (x8 : Int) (m : MM), K9 x1 x3 x4 x5 x6 x7 x8 m → B f M_X1_meant 9 [vR 3, vL x1, vU, vR x3, vI x4, vI x5, vI x6, vI x7, vI x8, vU, vU, vU] [] m Q T) : ∀ (x1 : Int) (x3 : Int) (x4 : Int) (x5 : Int) (x6 : Int) (x7 : Int) (x8 : Int) (x9 : Int) (s0 : Int) (m : MM), P_X1_meant_66 Q K9 x1 x3 x4 x5 x6 x7 x8 x9 s0 m → B f M_X1_meant 66 [vR 3, vL x1, vU, vR x3, vI x4, vI x5, vI x6, vI x7, vI x8, vR x9, vU, vU] [vI s0] m Q T := by
  intro x1 x3 x4 x5 x6 x7 x8 x9 s0 m h
  have h : (isTx x9) ∧ (RI (m x9 22)) ∧ (if (m x9 22) ≤ 0 then P_X1_meant_85 Q K9 x1 x3 x4 x5 x6 x7 x8 x9 s0 m else (RI s0) ∧ (if s0 = (-1) then K9 x1 x3 x4 x5 x6 x7 (x8 + 1) m else P_X1_meant_85 Q K9 x1 x3 x4 x5 x6 x7 x8 x9 s0 m)) := h
  refine b_istore (ls' := [vR 3, vL x1, vU, vR x3, vI x4, vI x5, vI x6, vI x7, vI x8, vR x9, vI s0, vU]) dX1_meant_66 (Nat.le_of_ble_eq_true rfl) rfl ?_
  refine b_aload dX1_meant_68 rfl ?_
  obtain ⟨g1, h⟩ := h
  refine b_getI dX1_meant_70 fk_X1_61 (tx_ly0 g1) ?_
  obtain ⟨g2, h⟩ := h
  refine b_if_le 85 dX1_meant_73 g2 (by decide) (fun c1 => ?_) (fun c1 => ?_)
  · have h := ifT c1 h
    exact pl_X1_meant_85 hf hK9 _ _ _ _ _ _ _ _ _ _ h
  · have h := ifF c1 h
    refine b_iload dX1_meant_76 rfl ?_
    refine b_iconst dX1_meant_78 ?_
    obtain ⟨g3, h⟩ := h
    refine b_icmp_ne 85 dX1_meant_79 g3 (by decide) (by decide) (fun c2 => ?_) (fun c2 => ?_)
    · have h := ifF c2 h
      exact pl_X1_meant_85 hf hK9 _ _ _ _ _ _ _ _ _ _ h
    · have h := ifT (Decidable.of_not_not c2) h
      refine b_goto 158 dX1_meant_82 (by decide) ?_
      refine b_iinc (ls' := [vR 3, vL x1, vU, vR x3, vI x4, vI x5, vI x6, vI x7, vI (x8 + 1), vR x9, vI s0, vU]) dX1_meant_158 rfl rfl ?_
      refine b_goto 9 dX1_meant_161 (by decide) ?_
      refine b_fgt [true, true, false, true, true, true, true, true, true, false, false, false] (ls' := [vR 3, vL x1, vU, vR x3, vI x4, vI x5, vI x6, vI x7, vI (x8 + 1), vU, vU, vU]) rfl rfl ?_
      exact hK9 _ _ _ _ _ _ _ _ h
theorem pl_X1_meant_9 {f : Nat} {Q : Int → MM → Prop} {T : MM → Prop} (hf : 5 ≤ f) : ∀ (n : Nat) (x1 : Int) (x3 : Int) (x4 : Int) (x5 : Int) (x6 : Int) (x7 : Int) (x8 : Int) (m : MM), P_X1_meant_9 Q n x1 x3 x4 x5 x6 x7 x8 m → B f M_X1_meant 9 [vR 3, vL x1, vU, vR x3, vI x4, vI x5, vI x6, vI x7, vI x8, vU, vU, vU] [] m Q T := by
  intro n
  induction n with
  | zero => intro x1 x3 x4 x5 x6 x7 x8 m h; exact h.elim
  | succ n ih =>
    intro x1 x3 x4 x5 x6 x7 x8 m h
    have h : (RI x8) ∧ (RI x5) ∧ (if x5 ≤ x8 then Q x6 m else (0 ≤ x8 ∧ x8 < 21) ∧ (isTx (8 + 17 * x8)) ∧ (RL (m (8 + 17 * x8) 16)) ∧ (RL x1) ∧ (if (m (8 + 17 * x8) 16) = x1 then (RI (m (8 + 17 * x8) 5)) ∧ (RI x4) ∧ (if (m (8 + 17 * x8) 5) = x4 then (RI (m (8 + 17 * x8) 22)) ∧ (if (m (8 + 17 * x8) 22) = 0 then P_X1_meant_66 Q (fun z0 z1 z2 z3 z4 z5 z6 z7 => P_X1_meant_9 Q n z0 z1 z2 z3 z4 z5 z6 z7) x1 x3 x4 x5 x6 x7 x8 (8 + 17 * x8) (-1) m else P_X1_found (8 + 17 * x8) x3 m (fun r1 m1 => P_X1_meant_66 Q (fun z0 z1 z2 z3 z4 z5 z6 z7 => P_X1_meant_9 Q n z0 z1 z2 z3 z4 z5 z6 z7) x1 x3 x4 x5 x6 x7 x8 (8 + 17 * x8) r1 m1)) else P_X1_meant_9 Q n x1 x3 x4 x5 x6 x7 (x8 + 1) m) else P_X1_meant_9 Q n x1 x3 x4 x5 x6 x7 (x8 + 1) m)) := h
    refine b_iload dX1_meant_9 rfl ?_
    refine b_iload dX1_meant_11 rfl ?_
    obtain ⟨g1, h⟩ := h
    obtain ⟨g2, h⟩ := h
    refine b_icmp_ge 164 dX1_meant_13 g1 g2 (by decide) (fun c1 => ?_) (fun c1 => ?_)
    · have h := ifT c1 h
      refine b_iload dX1_meant_164 rfl ?_
      exact b_iret dX1_meant_166 rfl h
    · have h := ifF c1 h
      refine b_aload_n dX1_meant_16 rfl ?_
      refine b_getR dX1_meant_17 fk_X1_11 ly_3 gg_3_0 ?_
      refine b_iload dX1_meant_20 rfl ?_
      obtain ⟨g3, h⟩ := h
      refine b_aald dX1_meant_22 ly_4 (Or.inl rfl) g3 (gg_told _) ?_
      refine b_astore (ls' := [vR 3, vL x1, vU, vR x3, vI x4, vI x5, vI x6, vI x7, vI x8, vR (8 + 17 * x8), vU, vU]) dX1_meant_23 (Nat.le_of_ble_eq_true rfl) rfl ?_
      refine b_aload dX1_meant_25 rfl ?_
      obtain ⟨g4, h⟩ := h
      refine b_getL dX1_meant_27 fk_X1_88 (tx_ly0 g4) ?_
      refine b_lload_n dX1_meant_30 rfl ?_
      obtain ⟨g5, h⟩ := h
      obtain ⟨g6, h⟩ := h
      refine b_lc_ne 158 dX1_meant_31 dX1_meant_32 g5 g6 (by decide) (fun c2 => ?_) (fun c2 => ?_)
      · have h := ifF c2 h
        refine b_iinc (ls' := [vR 3, vL x1, vU, vR x3, vI x4, vI x5, vI x6, vI x7, vI (x8 + 1), vR (8 + 17 * x8), vU, vU]) dX1_meant_158 rfl rfl ?_
        refine b_goto 9 dX1_meant_161 (by decide) ?_
        refine b_fgt [true, true, false, true, true, true, true, true, true, false, false, false] (ls' := [vR 3, vL x1, vU, vR x3, vI x4, vI x5, vI x6, vI x7, vI (x8 + 1), vU, vU, vU]) rfl rfl ?_
        exact ih _ _ _ _ _ _ _ _ h
      · have h := ifT (Decidable.of_not_not c2) h
        refine b_aload dX1_meant_35 rfl ?_
        refine b_getI dX1_meant_37 fk_X1_68 (tx_ly0 g4) ?_
        refine b_iload dX1_meant_40 rfl ?_
        obtain ⟨g7, h⟩ := h
        obtain ⟨g8, h⟩ := h
        refine b_icmp_eq 48 dX1_meant_42 g7 g8 (by decide) (fun c3 => ?_) (fun c3 => ?_)
        · have h := ifT c3 h
          refine b_aload dX1_meant_48 rfl ?_
          refine b_getI dX1_meant_50 fk_X1_61 (tx_ly0 g4) ?_
          obtain ⟨g9, h⟩ := h
          refine b_if_ne 60 dX1_meant_53 g9 (by decide) (fun c4 => ?_) (fun c4 => ?_)
          · have h := ifF c4 h
            refine b_aload dX1_meant_60 rfl ?_
            refine b_aload_n dX1_meant_62 rfl ?_
            refine b_cSi (as := [vR (8 + 17 * x8), vR x3]) (st := []) dX1_meant_63 mf_X1_found lk_X1_92 (p_X1_found (f := 4) (Nat.le_refl _) _ _ _ h) (by omega) rfl rfl (Nat.le_of_ble_eq_true rfl) (by decide) rfl (fun _ => rfl) (fun r1 m1 h => ?_) (fun _ h => h)
            exact pl_X1_meant_66 hf (fun _ _ _ _ _ _ _ _ h => ih _ _ _ _ _ _ _ _ h) _ _ _ _ _ _ _ _ _ _ h
          · have h := ifT (Decidable.of_not_not c4) h
            refine b_iconst dX1_meant_56 ?_
            refine b_goto 66 dX1_meant_57 (by decide) ?_
            exact pl_X1_meant_66 hf (fun _ _ _ _ _ _ _ _ h => ih _ _ _ _ _ _ _ _ h) _ _ _ _ _ _ _ _ _ _ h
        · have h := ifF c3 h
          refine b_goto 158 dX1_meant_45 (by decide) ?_
          refine b_iinc (ls' := [vR 3, vL x1, vU, vR x3, vI x4, vI x5, vI x6, vI x7, vI (x8 + 1), vR (8 + 17 * x8), vU, vU]) dX1_meant_158 rfl rfl ?_
          refine b_goto 9 dX1_meant_161 (by decide) ?_
          refine b_fgt [true, true, false, true, true, true, true, true, true, false, false, false] (ls' := [vR 3, vL x1, vU, vR x3, vI x4, vI x5, vI x6, vI x7, vI (x8 + 1), vU, vU, vU]) rfl rfl ?_
          exact ih _ _ _ _ _ _ _ _ h
theorem p_X1_meant {f : Nat} {Q : Int → MM → Prop} {T : MM → Prop} (hf : 5 ≤ f) (x1 : Int) (x3 : Int) (x4 : Int) (x5 : Int) (m : MM) (h : P_X1_meant x1 x3 x4 x5 m Q) : CC f M_X1_meant [vR 3, vL x1, vR x3, vI x4, vI x5] m Q T := by
  refine CC.of (plainFor_of_name (by decide)) (Nat.le_of_ble_eq_true rfl) (ls := [vR 3, vL x1, vU, vR x3, vI x4, vI x5, vU, vU, vU, vU, vU, vU]) rfl ?_
  have h : ∃ nn, P_X1_meant_9 Q nn x1 x3 x4 x5 (-1) 0 0 m := h
  refine b_iconst dX1_meant_0 ?_
  refine b_istore (ls' := [vR 3, vL x1, vU, vR x3, vI x4, vI x5, vI (-1), vU, vU, vU, vU, vU]) dX1_meant_1 (Nat.le_of_ble_eq_true rfl) rfl ?_
  refine b_iconst dX1_meant_3 ?_
  refine b_istore (ls' := [vR 3, vL x1, vU, vR x3, vI x4, vI x5, vI (-1), vI 0, vU, vU, vU, vU]) dX1_meant_4 (Nat.le_of_ble_eq_true rfl) rfl ?_
  refine b_iconst dX1_meant_6 ?_
  refine b_istore (ls' := [vR 3, vL x1, vU, vR x3, vI x4, vI x5, vI (-1), vI 0, vI 0, vU, vU, vU]) dX1_meant_7 (Nat.le_of_ble_eq_true rfl) rfl ?_
  obtain ⟨nn, h⟩ := h
  exact pl_X1_meant_9 hf nn _ _ _ _ _ _ _ _ h
theorem dX5_ofOne_0 : decode cX5_ofOne 0 = .ok (.iload_n 1, 1) := by decide +kernel
theorem dX5_ofOne_1 : decode cX5_ofOne 1 = .ok (.ifCond .ge 5, 3) := by decide +kernel
theorem dX5_ofOne_4 : decode cX5_ofOne 4 = .ok (.iconst (-1), 1) := by decide +kernel
theorem dX5_ofOne_5 : decode cX5_ofOne 5 = .ok (.ireturn, 1) := by decide +kernel
theorem dX5_ofOne_6 : decode cX5_ofOne 6 = .ok (.iload_n 1, 1) := by decide +kernel
theorem dX5_ofOne_7 : decode cX5_ofOne 7 = .ok (.invokestatic 185, 3) := by decide +kernel
theorem dX5_ofOne_10 : decode cX5_ofOne 10 = .ok (.ifCond .ne 14, 3) := by decide +kernel
theorem dX5_ofOne_13 : decode cX5_ofOne 13 = .ok (.iload_n 1, 1) := by decide +kernel
theorem dX5_ofOne_14 : decode cX5_ofOne 14 = .ok (.invokestatic 182, 3) := by decide +kernel
theorem dX5_ofOne_17 : decode cX5_ofOne 17 = .ok (.ifCond .le 7, 3) := by decide +kernel
theorem dX5_ofOne_20 : decode cX5_ofOne 20 = .ok (.iconst 1, 1) := by decide +kernel
theorem dX5_ofOne_21 : decode cX5_ofOne 21 = .ok (.goto 4, 3) := by decide +kernel
theorem dX5_ofOne_24 : decode cX5_ofOne 24 = .ok (.iconst 0, 1) := by decide +kernel
theorem dX5_ofOne_25 : decode cX5_ofOne 25 = .ok (.istore_n 2, 1) := by decide +kernel
theorem dX5_ofOne_26 : decode cX5_ofOne 26 = .ok (.iload_n 1, 1) := by decide +kernel
theorem dX5_ofOne_27 : decode cX5_ofOne 27 = .ok (.invokestatic 185, 3) := by decide +kernel
theorem dX5_ofOne_30 : decode cX5_ofOne 30 = .ok (.ifCond .le 7, 3) := by decide +kernel
theorem dX5_ofOne_33 : decode cX5_ofOne 33 = .ok (.iconst 1, 1) := by decide +kernel
theorem dX5_ofOne_34 : decode cX5_ofOne 34 = .ok (.goto 4, 3) := by decide +kernel
theorem dX5_ofOne_37 : decode cX5_ofOne 37 = .ok (.iconst 0, 1) := by decide +kernel
theorem dX5_ofOne_38 : decode cX5_ofOne 38 = .ok (.istore_n 3, 1) := by decide +kernel
theorem dX5_ofOne_39 : decode cX5_ofOne 39 = .ok (.iload_n 1, 1) := by decide +kernel
theorem dX5_ofOne_40 : decode cX5_ofOne 40 = .ok (.invokestatic 258, 3) := by decide +kernel
theorem dX5_ofOne_43 : decode cX5_ofOne 43 = .ok (.istore 4, 2) := by decide +kernel
theorem dX5_ofOne_45 : decode cX5_ofOne 45 = .ok (.iload_n 0, 1) := by decide +kernel
theorem dX5_ofOne_46 : decode cX5_ofOne 46 = .ok (.tableswitch 195 1 11 #[58, 195, 195, 73, 83, 83, 96, 96, 106, 135, 158], 58) := by decide +kernel
theorem dX5_ofOne_104 : decode cX5_ofOne 104 = .ok (.iload_n 2, 1) := by decide +kernel
theorem dX5_ofOne_105 : decode cX5_ofOne 105 = .ok (.ifCond .eq 12, 3) := by decide +kernel
theorem dX5_ofOne_108 : decode cX5_ofOne 108 = .ok (.iconst 0, 1) := by decide +kernel
theorem dX5_ofOne_109 : decode cX5_ofOne 109 = .ok (.iconst 0, 1) := by decide +kernel
theorem dX5_ofOne_110 : decode cX5_ofOne 110 = .ok (.iconst 0, 1) := by decide +kernel
theorem dX5_ofOne_111 : decode cX5_ofOne 111 = .ok (.invokestatic 89, 3) := by decide +kernel
theorem dX5_ofOne_114 : decode cX5_ofOne 114 = .ok (.goto 4, 3) := by decide +kernel
theorem dX5_ofOne_117 : decode cX5_ofOne 117 = .ok (.iconst (-1), 1) := by decide +kernel
theorem dX5_ofOne_118 : decode cX5_ofOne 118 = .ok (.ireturn, 1) := by decide +kernel
theorem dX5_ofOne_119 : decode cX5_ofOne 119 = .ok (.iload_n 2, 1) := by decide +kernel
theorem dX5_ofOne_120 : decode cX5_ofOne 120 = .ok (.ifCond .eq 7, 3) := by decide +kernel
theorem dX5_ofOne_123 : decode cX5_ofOne 123 = .ok (.iload_n 1, 1) := by decide +kernel
theorem dX5_ofOne_124 : decode cX5_ofOne 124 = .ok (.goto 4, 3) := by decide +kernel
theorem dX5_ofOne_127 : decode cX5_ofOne 127 = .ok (.iconst (-1), 1) := by decide +kernel
theorem dX5_ofOne_128 : decode cX5_ofOne 128 = .ok (.ireturn, 1) := by decide +kernel
theorem dX5_ofOne_129 : decode cX5_ofOne 129 = .ok (.iload_n 3, 1) := by decide +kernel
theorem dX5_ofOne_130 : decode cX5_ofOne 130 = .ok (.ifCond .eq 10, 3) := by decide +kernel
theorem dX5_ofOne_133 : decode cX5_ofOne 133 = .ok (.iload_n 1, 1) := by decide +kernel
theorem dX5_ofOne_134 : decode cX5_ofOne 134 = .ok (.invokestatic 276, 3) := by decide +kernel
theorem dX5_ofOne_137 : decode cX5_ofOne 137 = .ok (.goto 4, 3) := by decide +kernel
theorem dX5_ofOne_140 : decode cX5_ofOne 140 = .ok (.iconst (-1), 1) := by decide +kernel
theorem dX5_ofOne_141 : decode cX5_ofOne 141 = .ok (.ireturn, 1) := by decide +kernel
theorem dX5_ofOne_142 : decode cX5_ofOne 142 = .ok (.iload_n 3, 1) := by decide +kernel
theorem dX5_ofOne_143 : decode cX5_ofOne 143 = .ok (.ifCond .eq 7, 3) := by decide +kernel
theorem dX5_ofOne_146 : decode cX5_ofOne 146 = .ok (.iload_n 1, 1) := by decide +kernel
theorem dX5_ofOne_147 : decode cX5_ofOne 147 = .ok (.goto 4, 3) := by decide +kernel
theorem dX5_ofOne_150 : decode cX5_ofOne 150 = .ok (.iconst (-1), 1) := by decide +kernel
theorem dX5_ofOne_151 : decode cX5_ofOne 151 = .ok (.ireturn, 1) := by decide +kernel
theorem dX5_ofOne_152 : decode cX5_ofOne 152 = .ok (.iload_n 1, 1) := by decide +kernel
theorem dX5_ofOne_153 : decode cX5_ofOne 153 = .ok (.invokestatic 182, 3) := by decide +kernel
theorem dX5_ofOne_156 : decode cX5_ofOne 156 = .ok (.ifCond .ne 23, 3) := by decide +kernel
theorem dX5_ofOne_159 : decode cX5_ofOne 159 = .ok (.iload 4, 2) := by decide +kernel
theorem dX5_ofOne_161 : decode cX5_ofOne 161 = .ok (.ifCond .eq 11, 3) := by decide +kernel
theorem dX5_ofOne_164 : decode cX5_ofOne 164 = .ok (.iload 4, 2) := by decide +kernel
theorem dX5_ofOne_166 : decode cX5_ofOne 166 = .ok (.invokestatic 261, 3) := by decide +kernel
theorem dX5_ofOne_169 : decode cX5_ofOne 169 = .ok (.ifCond .eq 10, 3) := by decide +kernel
theorem dX5_ofOne_172 : decode cX5_ofOne 172 = .ok (.iload_n 1, 1) := by decide +kernel
theorem dX5_ofOne_173 : decode cX5_ofOne 173 = .ok (.invokestatic 264, 3) := by decide +kernel
theorem dX5_ofOne_176 : decode cX5_ofOne 176 = .ok (.goto 4, 3) := by decide +kernel
theorem dX5_ofOne_179 : decode cX5_ofOne 179 = .ok (.iconst (-1), 1) := by decide +kernel
theorem dX5_ofOne_180 : decode cX5_ofOne 180 = .ok (.ireturn, 1) := by decide +kernel
theorem dX5_ofOne_181 : decode cX5_ofOne 181 = .ok (.iload_n 3, 1) := by decide +kernel
theorem dX5_ofOne_182 : decode cX5_ofOne 182 = .ok (.ifCond .eq 20, 3) := by decide +kernel
theorem dX5_ofOne_185 : decode cX5_ofOne 185 = .ok (.iload_n 1, 1) := by decide +kernel
theorem dX5_ofOne_186 : decode cX5_ofOne 186 = .ok (.invokestatic 182, 3) := by decide +kernel
theorem dX5_ofOne_189 : decode cX5_ofOne 189 = .ok (.ifCond .ne 13, 3) := by decide +kernel
theorem dX5_ofOne_192 : decode cX5_ofOne 192 = .ok (.iload 4, 2) := by decide +kernel
theorem dX5_ofOne_194 : decode cX5_ofOne 194 = .ok (.iconst 1, 1) := by decide +kernel
theorem dX5_ofOne_195 : decode cX5_ofOne 195 = .ok (.iconst 0, 1) := by decide +kernel
theorem dX5_ofOne_196 : decode cX5_ofOne 196 = .ok (.invokestatic 89, 3) := by decide +kernel
theorem dX5_ofOne_199 : decode cX5_ofOne 199 = .ok (.goto 4, 3) := by decide +kernel
theorem dX5_ofOne_202 : decode cX5_ofOne 202 = .ok (.iconst (-1), 1) := by decide +kernel
theorem dX5_ofOne_203 : decode cX5_ofOne 203 = .ok (.ireturn, 1) := by decide +kernel
theorem dX5_ofOne_204 : decode cX5_ofOne 204 = .ok (.iload_n 2, 1) := by decide +kernel
theorem dX5_ofOne_205 : decode cX5_ofOne 205 = .ok (.ifCond .eq 34, 3) := by decide +kernel
theorem dX5_ofOne_208 : decode cX5_ofOne 208 = .ok (.iload_n 1, 1) := by decide +kernel
theorem dX5_ofOne_209 : decode cX5_ofOne 209 = .ok (.invokestatic 182, 3) := by decide +kernel
theorem dX5_ofOne_212 : decode cX5_ofOne 212 = .ok (.iconst 1, 1) := by decide +kernel
theorem dX5_ofOne_213 : decode cX5_ofOne 213 = .ok (.if_icmp .ne 26, 3) := by decide +kernel
theorem dX5_ofOne_216 : decode cX5_ofOne 216 = .ok (.iload 4, 2) := by decide +kernel
theorem dX5_ofOne_218 : decode cX5_ofOne 218 = .ok (.iconst 1, 1) := by decide +kernel
theorem dX5_ofOne_219 : decode cX5_ofOne 219 = .ok (.if_icmp .le 20, 3) := by decide +kernel
theorem dX5_ofOne_222 : decode cX5_ofOne 222 = .ok (.iload 4, 2) := by decide +kernel
theorem dX5_ofOne_224 : decode cX5_ofOne 224 = .ok (.invokestatic 279, 3) := by decide +kernel
theorem dX5_ofOne_227 : decode cX5_ofOne 227 = .ok (.ifCond .eq 12, 3) := by decide +kernel
theorem dX5_ofOne_230 : decode cX5_ofOne 230 = .ok (.iconst 0, 1) := by decide +kernel
theorem dX5_ofOne_231 : decode cX5_ofOne 231 = .ok (.iconst 0, 1) := by decide +kernel
theorem dX5_ofOne_232 : decode cX5_ofOne 232 = .ok (.iconst 0, 1) := by decide +kernel
theorem dX5_ofOne_233 : decode cX5_ofOne 233 = .ok (.invokestatic 89, 3) := by decide +kernel
theorem dX5_ofOne_236 : decode cX5_ofOne 236 = .ok (.goto 4, 3) := by decide +kernel
theorem dX5_ofOne_239 : decode cX5_ofOne 239 = .ok (.iconst (-1), 1) := by decide +kernel
theorem dX5_ofOne_240 : decode cX5_ofOne 240 = .ok (.ireturn, 1) := by decide +kernel
theorem dX5_ofOne_241 : decode cX5_ofOne 241 = .ok (.iload_n 1, 1) := by decide +kernel
theorem dX5_ofOne_242 : decode cX5_ofOne 242 = .ok (.iconst 0, 1) := by decide +kernel
theorem dX5_ofOne_243 : decode cX5_ofOne 243 = .ok (.iconst 0, 1) := by decide +kernel
theorem dX5_ofOne_244 : decode cX5_ofOne 244 = .ok (.iconst 0, 1) := by decide +kernel
theorem dX5_ofOne_245 : decode cX5_ofOne 245 = .ok (.invokestatic 89, 3) := by decide +kernel
theorem dX5_ofOne_248 : decode cX5_ofOne 248 = .ok (.if_icmp .eq 13, 3) := by decide +kernel
theorem dX5_ofOne_251 : decode cX5_ofOne 251 = .ok (.iload_n 1, 1) := by decide +kernel
theorem dX5_ofOne_252 : decode cX5_ofOne 252 = .ok (.iconst 1, 1) := by decide +kernel
theorem dX5_ofOne_253 : decode cX5_ofOne 253 = .ok (.iconst 0, 1) := by decide +kernel
theorem dX5_ofOne_254 : decode cX5_ofOne 254 = .ok (.iconst 0, 1) := by decide +kernel
theorem dX5_ofOne_255 : decode cX5_ofOne 255 = .ok (.invokestatic 89, 3) := by decide +kernel
theorem dX5_ofOne_258 : decode cX5_ofOne 258 = .ok (.if_icmp .ne 12, 3) := by decide +kernel
theorem dX5_ofOne_261 : decode cX5_ofOne 261 = .ok (.iconst 0, 1) := by decide +kernel
theorem dX5_ofOne_262 : decode cX5_ofOne 262 = .ok (.iconst 0, 1) := by decide +kernel
theorem dX5_ofOne_263 : decode cX5_ofOne 263 = .ok (.iconst 0, 1) := by decide +kernel
theorem dX5_ofOne_264 : decode cX5_ofOne 264 = .ok (.invokestatic 89, 3) := by decide +kernel
theorem dX5_ofOne_267 : decode cX5_ofOne 267 = .ok (.goto 4, 3) := by decide +kernel
theorem dX5_ofOne_270 : decode cX5_ofOne 270 = .ok (.iconst (-1), 1) := by decide +kernel
theorem dX5_ofOne_271 : decode cX5_ofOne 271 = .ok (.ireturn, 1) := by decide +kernel
/-! AlgebraHouse$Judge.ofOne(II)I -/
def P_X5_ofOne_129 (Q : Int → MM → Prop) (x1 : Int) (x3 : Int) (m : MM) : Prop := (RI x3) ∧ (if x3 = 0 then Q (-1) m else P_X11_plain x1 m (fun r1 m1 => Q r1 m1))
def P_X5_ofOne_142 (Q : Int → MM → Prop) (x1 : Int) (x3 : Int) (m : MM) : Prop := (RI x3) ∧ (if x3 = 0 then Q (-1) m else Q x1 m)
def P_X5_ofOne_172 (Q : Int → MM → Prop) (x1 : Int) (m : MM) : Prop := P_X11_fraction x1 m (fun r1 m1 => Q r1 m1)
def P_X5_ofOne_261 (Q : Int → MM → Prop) (m : MM) : Prop := P_X11_of 0 0 0 m (fun r1 m1 => Q r1 m1)
def P_X5_ofOne_241 (Q : Int → MM → Prop) (x1 : Int) (m : MM) : Prop := P_X11_of 0 0 0 m (fun r1 m1 => (RI x1) ∧ (RI r1) ∧ (if x1 = r1 then P_X5_ofOne_261 Q m1 else P_X11_of 1 0 0 m1 (fun r2 m2 => (RI r2) ∧ (if x1 = r2 then P_X5_ofOne_261 Q m2 else Q (-1) m2))))
def P_X5_ofOne_24 (Q : Int → MM → Prop) (x0 : Int) (x1 : Int) (m : MM) : Prop := P_X11_size x1 m (fun r1 m1 => ((RI r1)) ∧ P_X11_base x1 m1 (fun r2 m2 => (RI x0) ∧ (if x0 = 1 then (if (0 : Int) = 0 then Q (-1) m2 else P_X11_of 0 0 0 m2 (fun r3 m3 => Q r3 m3)) else (if x0 = 4 then (if (0 : Int) = 0 then Q (-1) m2 else Q x1 m2) else (if x0 = 5 then P_X5_ofOne_129 Q x1 (if r1 ≤ 0 then 0 else 1 : Int) m2 else (if x0 = 6 then P_X5_ofOne_129 Q x1 (if r1 ≤ 0 then 0 else 1 : Int) m2 else (if x0 = 7 then P_X5_ofOne_142 Q x1 (if r1 ≤ 0 then 0 else 1 : Int) m2 else (if x0 = 8 then P_X5_ofOne_142 Q x1 (if r1 ≤ 0 then 0 else 1 : Int) m2 else (if x0 = 9 then P_X11_depth x1 m2 (fun r4 m4 => (RI r4) ∧ (if r4 = 0 then (RI r2) ∧ (if r2 = 0 then P_X5_ofOne_172 Q x1 m4 else P_X11_isField r2 m4 (fun r5 m5 => (RI r5) ∧ (if r5 = 0 then Q (-1) m5 else P_X5_ofOne_172 Q x1 m5))) else Q (-1) m4)) else (if x0 = 10 then (RI (if r1 ≤ 0 then 0 else 1 : Int)) ∧ (if (if r1 ≤ 0 then 0 else 1 : Int) = 0 then Q (-1) m2 else P_X11_depth x1 m2 (fun r6 m6 => (RI r6) ∧ (if r6 = 0 then P_X11_of r2 1 0 m6 (fun r7 m7 => Q r7 m7) else Q (-1) m6))) else (if x0 = 11 then (if (0 : Int) = 0 then Q (-1) m2 else P_X11_depth x1 m2 (fun r8 m8 => (RI r8) ∧ (if r8 = 1 then (RI r2) ∧ (if r2 ≤ 1 then Q (-1) m8 else P_X11_isPrime r2 m8 (fun r9 m9 => (RI r9) ∧ (if r9 = 0 then Q (-1) m9 else P_X11_of 0 0 0 m9 (fun r10 m10 => Q r10 m10)))) else Q (-1) m8))) else P_X5_ofOne_241 Q x1 m2)))))))))))
def P_X5_ofOne (x0 : Int) (x1 : Int) (m : MM) (Q : Int → MM → Prop) : Prop := (RI x1) ∧ (if 0 ≤ x1 then P_X11_size x1 m (fun r1 m1 => (RI r1) ∧ (if r1 = 0 then P_X11_depth x1 m1 (fun r2 m2 => ((RI r2)) ∧ P_X11_size x1 m2 (fun r3 m3 => ((RI r3)) ∧ P_X11_base x1 m3 (fun r4 m4 => (RI x0) ∧ (if x0 = 1 then (RI (if r2 ≤ 0 then 0 else 1 : Int)) ∧ (if (if r2 ≤ 0 then 0 else 1 : Int) = 0 then Q (-1) m4 else P_X11_of 0 0 0 m4 (fun r5 m5 => Q r5 m5)) else (if x0 = 4 then (RI (if r2 ≤ 0 then 0 else 1 : Int)) ∧ (if (if r2 ≤ 0 then 0 else 1 : Int) = 0 then Q (-1) m4 else Q x1 m4) else (if x0 = 5 then P_X5_ofOne_129 Q x1 (if r3 ≤ 0 then 0 else 1 : Int) m4 else (if x0 = 6 then P_X5_ofOne_129 Q x1 (if r3 ≤ 0 then 0 else 1 : Int) m4 else (if x0 = 7 then P_X5_ofOne_142 Q x1 (if r3 ≤ 0 then 0 else 1 : Int) m4 else (if x0 = 8 then P_X5_ofOne_142 Q x1 (if r3 ≤ 0 then 0 else 1 : Int) m4 else (if x0 = 9 then P_X11_depth x1 m4 (fun r6 m6 => (RI r6) ∧ (if r6 = 0 then (RI r4) ∧ (if r4 = 0 then P_X5_ofOne_172 Q x1 m6 else P_X11_isField r4 m6 (fun r7 m7 => (RI r7) ∧ (if r7 = 0 then Q (-1) m7 else P_X5_ofOne_172 Q x1 m7))) else Q (-1) m6)) else (if x0 = 10 then (RI (if r3 ≤ 0 then 0 else 1 : Int)) ∧ (if (if r3 ≤ 0 then 0 else 1 : Int) = 0 then Q (-1) m4 else P_X11_depth x1 m4 (fun r8 m8 => (RI r8) ∧ (if r8 = 0 then P_X11_of r4 1 0 m8 (fun r9 m9 => Q r9 m9) else Q (-1) m8))) else (if x0 = 11 then (RI (if r2 ≤ 0 then 0 else 1 : Int)) ∧ (if (if r2 ≤ 0 then 0 else 1 : Int) = 0 then Q (-1) m4 else P_X11_depth x1 m4 (fun r10 m10 => (RI r10) ∧ (if r10 = 1 then (RI r4) ∧ (if r4 ≤ 1 then Q (-1) m10 else P_X11_isPrime r4 m10 (fun r11 m11 => (RI r11) ∧ (if r11 = 0 then Q (-1) m11 else P_X11_of 0 0 0 m11 (fun r12 m12 => Q r12 m12)))) else Q (-1) m10))) else P_X5_ofOne_241 Q x1 m4)))))))))))) else P_X5_ofOne_24 Q x0 x1 m1)) else Q (-1) m)
theorem pl_X5_ofOne_129 {f : Nat} {Q : Int → MM → Prop} {T : MM → Prop} (hf : 3 ≤ f) : ∀ (x1 : Int) (x3 : Int) (m : MM), P_X5_ofOne_129 Q x1 x3 m → B f M_X5_ofOne 129 [vU, vI x1, vU, vI x3, vU] [] m Q T := by
  intro x1 x3 m h
  have h : (RI x3) ∧ (if x3 = 0 then Q (-1) m else P_X11_plain x1 m (fun r1 m1 => Q r1 m1)) := h
  refine b_iload_n dX5_ofOne_129 rfl ?_
  obtain ⟨g1, h⟩ := h
  refine b_if_eq 140 dX5_ofOne_130 g1 (by decide) (fun c1 => ?_) (fun c1 => ?_)
  · have h := ifT c1 h
    refine b_iconst dX5_ofOne_140 ?_
    exact b_iret dX5_ofOne_141 rfl h
  · have h := ifF c1 h
    refine b_iload_n dX5_ofOne_133 rfl ?_
    refine b_cSi (as := [vI x1]) (st := []) dX5_ofOne_134 mf_X11_plain lk_X5_276 (p_X11_plain (f := 1) (Nat.le_refl _) _ _ h) (by omega) rfl rfl (Nat.le_of_ble_eq_true rfl) (by decide) rfl (fun _ => rfl) (fun r1 m1 h => ?_) (fun _ h => h)
    refine b_goto 141 dX5_ofOne_137 (by decide) ?_
    exact b_iret dX5_ofOne_141 rfl h
theorem pl_X5_ofOne_142 {f : Nat} {Q : Int → MM → Prop} {T : MM → Prop} (hf : 3 ≤ f) : ∀ (x1 : Int) (x3 : Int) (m : MM), P_X5_ofOne_142 Q x1 x3 m → B f M_X5_ofOne 142 [vU, vI x1, vU, vI x3, vU] [] m Q T := by
  intro x1 x3 m h
  have h : (RI x3) ∧ (if x3 = 0 then Q (-1) m else Q x1 m) := h
  refine b_iload_n dX5_ofOne_142 rfl ?_
  obtain ⟨g1, h⟩ := h
  refine b_if_eq 150 dX5_ofOne_143 g1 (by decide) (fun c1 => ?_) (fun c1 => ?_)
  · have h := ifT c1 h
    refine b_iconst dX5_ofOne_150 ?_
    exact b_iret dX5_ofOne_151 rfl h
  · have h := ifF c1 h
    refine b_iload_n dX5_ofOne_146 rfl ?_
    refine b_goto 151 dX5_ofOne_147 (by decide) ?_
    exact b_iret dX5_ofOne_151 rfl h
theorem pl_X5_ofOne_172 {f : Nat} {Q : Int → MM → Prop} {T : MM → Prop} (hf : 3 ≤ f) : ∀ (x1 : Int) (m : MM), P_X5_ofOne_172 Q x1 m → B f M_X5_ofOne 172 [vU, vI x1, vU, vU, vU] [] m Q T := by
  intro x1 m h
  have h : P_X11_fraction x1 m (fun r1 m1 => Q r1 m1) := h
  refine b_iload_n dX5_ofOne_172 rfl ?_
  refine b_cSi (as := [vI x1]) (st := []) dX5_ofOne_173 mf_X11_fraction lk_X5_264 (p_X11_fraction (f := 2) (Nat.le_refl _) _ _ h) (by omega) rfl rfl (Nat.le_of_ble_eq_true rfl) (by decide) rfl (fun _ => rfl) (fun r1 m1 h => ?_) (fun _ h => h)
  refine b_goto 180 dX5_ofOne_176 (by decide) ?_
  exact b_iret dX5_ofOne_180 rfl h
theorem pl_X5_ofOne_261 {f : Nat} {Q : Int → MM → Prop} {T : MM → Prop} (hf : 3 ≤ f) : ∀ (m : MM), P_X5_ofOne_261 Q m → B f M_X5_ofOne 261 [vU, vU, vU, vU, vU] [] m Q T := by
  intro m h
  have h : P_X11_of 0 0 0 m (fun r1 m1 => Q r1 m1) := h
  refine b_iconst dX5_ofOne_261 ?_
  refine b_iconst dX5_ofOne_262 ?_
  refine b_iconst dX5_ofOne_263 ?_
  refine b_cSi (as := [vI 0, vI 0, vI 0]) (st := []) dX5_ofOne_264 mf_X11_of lk_X5_89 (p_X11_of (f := 1) (Nat.le_refl _) _ _ _ _ h) (by omega) rfl rfl (Nat.le_of_ble_eq_true rfl) (by decide) rfl (fun _ => rfl) (fun r1 m1 h => ?_) (fun _ h => h)
  refine b_goto 271 dX5_ofOne_267 (by decide) ?_
  exact b_iret dX5_ofOne_271 rfl h
theorem pl_X5_ofOne_241 {f : Nat} {Q : Int → MM → Prop} {T : MM → Prop} (hf : 3 ≤ f) : ∀ (x1 : Int) (m : MM), P_X5_ofOne_241 Q x1 m → B f M_X5_ofOne 241 [vU, vI x1, vU, vU, vU] [] m Q T := by
  intro x1 m h
  have h : P_X11_of 0 0 0 m (fun r1 m1 => (RI x1) ∧ (RI r1) ∧ (if x1 = r1 then P_X5_ofOne_261 Q m1 else P_X11_of 1 0 0 m1 (fun r2 m2 => (RI r2) ∧ (if x1 = r2 then P_X5_ofOne_261 Q m2 else Q (-1) m2)))) := h
  refine b_iload_n dX5_ofOne_241 rfl ?_
  refine b_iconst dX5_ofOne_242 ?_
  refine b_iconst dX5_ofOne_243 ?_
  refine b_iconst dX5_ofOne_244 ?_
  refine b_cSi (as := [vI 0, vI 0, vI 0]) (st := [vI x1]) dX5_ofOne_245 mf_X11_of lk_X5_89 (p_X11_of (f := 1) (Nat.le_refl _) _ _ _ _ h) (by omega) rfl rfl (Nat.le_of_ble_eq_true rfl) (by decide) rfl (fun _ => rfl) (fun r1 m1 h => ?_) (fun _ h => h)
  obtain ⟨g1, h⟩ := h
  obtain ⟨g2, h⟩ := h
  refine b_icmp_eq 261 dX5_ofOne_248 g1 g2 (by decide) (fun c1 => ?_) (fun c1 => ?_)
  · have h := ifT c1 h
    refine b_fgt [false, false, false, false, false] (ls' := [vU, vU, vU, vU, vU]) rfl rfl ?_
    exact pl_X5_ofOne_261 hf _ h
  · have h := ifF c1 h
    refine b_iload_n dX5_ofOne_251 rfl ?_
    refine b_iconst dX5_ofOne_252 ?_
    refine b_iconst dX5_ofOne_253 ?_
    refine b_iconst dX5_ofOne_254 ?_
    refine b_cSi (as := [vI 1, vI 0, vI 0]) (st := [vI x1]) dX5_ofOne_255 mf_X11_of lk_X5_89 (p_X11_of (f := 1) (Nat.le_refl _) _ _ _ _ h) (by omega) rfl rfl (Nat.le_of_ble_eq_true rfl) (by decide) rfl (fun _ => rfl) (fun r2 m2 h => ?_) (fun _ h => h)
    obtain ⟨g3, h⟩ := h
    refine b_icmp_ne 270 dX5_ofOne_258 g1 g3 (by decide) (fun c2 => ?_) (fun c2 => ?_)
    · have h := ifF c2 h
      refine b_iconst dX5_ofOne_270 ?_
      exact b_iret dX5_ofOne_271 rfl h
    · have h := ifT (Decidable.of_not_not c2) h
      refine b_fgt [false, false, false, false, false] (ls' := [vU, vU, vU, vU, vU]) rfl rfl ?_
      exact pl_X5_ofOne_261 hf _ h
theorem pl_X5_ofOne_24 {f : Nat} {Q : Int → MM → Prop} {T : MM → Prop} (hf : 3 ≤ f) : ∀ (x0 : Int) (x1 : Int) (m : MM), P_X5_ofOne_24 Q x0 x1 m → B f M_X5_ofOne 24 [vI x0, vI x1, vU, vU, vU] [] m Q T := by
  intro x0 x1 m h
  have h : P_X11_size x1 m (fun r1 m1 => ((RI r1)) ∧ P_X11_base x1 m1 (fun r2 m2 => (RI x0) ∧ (if x0 = 1 then (if (0 : Int) = 0 then Q (-1) m2 else P_X11_of 0 0 0 m2 (fun r3 m3 => Q r3 m3)) else (if x0 = 4 then (if (0 : Int) = 0 then Q (-1) m2 else Q x1 m2) else (if x0 = 5 then P_X5_ofOne_129 Q x1 (if r1 ≤ 0 then 0 else 1 : Int) m2 else (if x0 = 6 then P_X5_ofOne_129 Q x1 (if r1 ≤ 0 then 0 else 1 : Int) m2 else (if x0 = 7 then P_X5_ofOne_142 Q x1 (if r1 ≤ 0 then 0 else 1 : Int) m2 else (if x0 = 8 then P_X5_ofOne_142 Q x1 (if r1 ≤ 0 then 0 else 1 : Int) m2 else (if x0 = 9 then P_X11_depth x1 m2 (fun r4 m4 => (RI r4) ∧ (if r4 = 0 then (RI r2) ∧ (if r2 = 0 then P_X5_ofOne_172 Q x1 m4 else P_X11_isField r2 m4 (fun r5 m5 => (RI r5) ∧ (if r5 = 0 then Q (-1) m5 else P_X5_ofOne_172 Q x1 m5))) else Q (-1) m4)) else (if x0 = 10 then (RI (if r1 ≤ 0 then 0 else 1 : Int)) ∧ (if (if r1 ≤ 0 then 0 else 1 : Int) = 0 then Q (-1) m2 else P_X11_depth x1 m2 (fun r6 m6 => (RI r6) ∧ (if r6 = 0 then P_X11_of r2 1 0 m6 (fun r7 m7 => Q r7 m7) else Q (-1) m6))) else (if x0 = 11 then (if (0 : Int) = 0 then Q (-1) m2 else P_X11_depth x1 m2 (fun r8 m8 => (RI r8) ∧ (if r8 = 1 then (RI r2) ∧ (if r2 ≤ 1 then Q (-1) m8 else P_X11_isPrime r2 m8 (fun r9 m9 => (RI r9) ∧ (if r9 = 0 then Q (-1) m9 else P_X11_of 0 0 0 m9 (fun r10 m10 => Q r10 m10)))) else Q (-1) m8))) else P_X5_ofOne_241 Q x1 m2))))))))))) := h
  refine b_iconst dX5_ofOne_24 ?_
  refine b_istore_n (ls' := [vI x0, vI x1, vI 0, vU, vU]) dX5_ofOne_25 (Nat.le_of_ble_eq_true rfl) rfl ?_
  refine b_iload_n dX5_ofOne_26 rfl ?_
  refine b_cSi (as := [vI x1]) (st := []) dX5_ofOne_27 mf_X11_size lk_X5_185 (p_X11_size (f := 1) (Nat.le_refl _) _ _ h) (by omega) rfl rfl (Nat.le_of_ble_eq_true rfl) (by decide) rfl (fun _ => rfl) (fun r1 m1 h => ?_) (fun _ h => h)
  obtain ⟨hs, h⟩ := h
  have K : B f M_X5_ofOne 38 [vI x0, vI x1, vI 0, vU, vU] [vI (if r1 ≤ 0 then 0 else 1 : Int)] m1 Q T := by
    clear hs
    refine b_istore_n (ls' := [vI x0, vI x1, vI 0, vI (if r1 ≤ 0 then 0 else 1 : Int), vU]) dX5_ofOne_38 (Nat.le_of_ble_eq_true rfl) rfl ?_
    refine b_iload_n dX5_ofOne_39 rfl ?_
    refine b_cSi (as := [vI x1]) (st := []) dX5_ofOne_40 mf_X11_base lk_X5_258 (p_X11_base (f := 1) (Nat.le_refl _) _ _ h) (by omega) rfl rfl (Nat.le_of_ble_eq_true rfl) (by decide) rfl (fun _ => rfl) (fun r2 m2 h => ?_) (fun _ h => h)
    refine b_istore (ls' := [vI x0, vI x1, vI 0, vI (if r1 ≤ 0 then 0 else 1 : Int), vI r2]) dX5_ofOne_43 (Nat.le_of_ble_eq_true rfl) rfl ?_
    refine b_iload_n dX5_ofOne_45 rfl ?_
    obtain ⟨g2, h⟩ := h
    by_cases c1 : x0 = 1
    · have h := ifT c1 h
      refine b_tswIn 104 dX5_ofOne_46 g2 (by omega) (by omega) (by rw [c1]; rfl) (by decide) ?_
      refine b_iload_n dX5_ofOne_104 rfl ?_
      refine b_if_eq 117 dX5_ofOne_105 (by decide) (by decide) (fun c2 => ?_) (fun c2 => ?_)
      · have h := ifT c2 h
        refine b_iconst dX5_ofOne_117 ?_
        exact b_iret dX5_ofOne_118 rfl h
      · have h := ifF c2 h
        refine b_iconst dX5_ofOne_108 ?_
        refine b_iconst dX5_ofOne_109 ?_
        refine b_iconst dX5_ofOne_110 ?_
        refine b_cSi (as := [vI 0, vI 0, vI 0]) (st := []) dX5_ofOne_111 mf_X11_of lk_X5_89 (p_X11_of (f := 1) (Nat.le_refl _) _ _ _ _ h) (by omega) rfl rfl (Nat.le_of_ble_eq_true rfl) (by decide) rfl (fun _ => rfl) (fun r3 m3 h => ?_) (fun _ h => h)
        refine b_goto 118 dX5_ofOne_114 (by decide) ?_
        exact b_iret dX5_ofOne_118 rfl h
    have h := ifF c1 h
    by_cases c3 : x0 = 4
    · have h := ifT c3 h
      refine b_tswIn 119 dX5_ofOne_46 g2 (by omega) (by omega) (by rw [c3]; rfl) (by decide) ?_
      refine b_iload_n dX5_ofOne_119 rfl ?_
      refine b_if_eq 127 dX5_ofOne_120 (by decide) (by decide) (fun c4 => ?_) (fun c4 => ?_)
      · have h := ifT c4 h
        refine b_iconst dX5_ofOne_127 ?_
        exact b_iret dX5_ofOne_128 rfl h
      · have h := ifF c4 h
        refine b_iload_n dX5_ofOne_123 rfl ?_
        refine b_goto 128 dX5_ofOne_124 (by decide) ?_
        exact b_iret dX5_ofOne_128 rfl h
    have h := ifF c3 h
    by_cases c5 : x0 = 5
    · have h := ifT c5 h
      refine b_tswIn 129 dX5_ofOne_46 g2 (by omega) (by omega) (by rw [c5]; rfl) (by decide) ?_
      refine b_fgt [false, true, false, true, false] (ls' := [vU, vI x1, vU, vI (if r1 ≤ 0 then 0 else 1 : Int), vU]) rfl rfl ?_
      exact pl_X5_ofOne_129 hf _ _ _ h
    have h := ifF c5 h
    by_cases c6 : x0 = 6
    · have h := ifT c6 h
      refine b_tswIn 129 dX5_ofOne_46 g2 (by omega) (by omega) (by rw [c6]; rfl) (by decide) ?_
      refine b_fgt [false, true, false, true, false] (ls' := [vU, vI x1, vU, vI (if r1 ≤ 0 then 0 else 1 : Int), vU]) rfl rfl ?_
      exact pl_X5_ofOne_129 hf _ _ _ h
    have h := ifF c6 h
    by_cases c7 : x0 = 7
    · have h := ifT c7 h
      refine b_tswIn 142 dX5_ofOne_46 g2 (by omega) (by omega) (by rw [c7]; rfl) (by decide) ?_
      refine b_fgt [false, true, false, true, false] (ls' := [vU, vI x1, vU, vI (if r1 ≤ 0 then 0 else 1 : Int), vU]) rfl rfl ?_
      exact pl_X5_ofOne_142 hf _ _ _ h
    have h := ifF c7 h
    by_cases c8 : x0 = 8
    · have h := ifT c8 h
      refine b_tswIn 142 dX5_ofOne_46 g2 (by omega) (by omega) (by rw [c8]; rfl) (by decide) ?_
      refine b_fgt [false, true, false, true, false] (ls' := [vU, vI x1, vU, vI (if r1 ≤ 0 then 0 else 1 : Int), vU]) rfl rfl ?_
      exact pl_X5_ofOne_142 hf _ _ _ h
    have h := ifF c8 h
    by_cases c9 : x0 = 9
    · have h := ifT c9 h
      refine b_tswIn 152 dX5_ofOne_46 g2 (by omega) (by omega) (by rw [c9]; rfl) (by decide) ?_
      refine b_iload_n dX5_ofOne_152 rfl ?_
      refine b_cSi (as := [vI x1]) (st := []) dX5_ofOne_153 mf_X11_depth lk_X5_182 (p_X11_depth (f := 1) (Nat.le_refl _) _ _ h) (by omega) rfl rfl (Nat.le_of_ble_eq_true rfl) (by decide) rfl (fun _ => rfl) (fun r4 m4 h => ?_) (fun _ h => h)
      obtain ⟨g3, h⟩ := h
      refine b_if_ne 179 dX5_ofOne_156 g3 (by decide) (fun c10 => ?_) (fun c10 => ?_)
      · have h := ifF c10 h
        refine b_iconst dX5_ofOne_179 ?_
        exact b_iret dX5_ofOne_180 rfl h
      · have h := ifT (Decidable.of_not_not c10) h
        refine b_iload dX5_ofOne_159 rfl ?_
        obtain ⟨g4, h⟩ := h
        refine b_if_eq 172 dX5_ofOne_161 g4 (by decide) (fun c11 => ?_) (fun c11 => ?_)
        · have h := ifT c11 h
          refine b_fgt [false, true, false, false, false] (ls' := [vU, vI x1, vU, vU, vU]) rfl rfl ?_
          exact pl_X5_ofOne_172 hf _ _ h
        · have h := ifF c11 h
          refine b_iload dX5_ofOne_164 rfl ?_
          refine b_cSi (as := [vI r2]) (st := []) dX5_ofOne_166 mf_X11_isField lk_X5_261 (p_X11_isField (f := 2) (Nat.le_refl _) _ _ h) (by omega) rfl rfl (Nat.le_of_ble_eq_true rfl) (by decide) rfl (fun _ => rfl) (fun r5 m5 h => ?_) (fun _ h => h)
          obtain ⟨g5, h⟩ := h
          refine b_if_eq 179 dX5_ofOne_169 g5 (by decide) (fun c12 => ?_) (fun c12 => ?_)
          · have h := ifT c12 h
            refine b_iconst dX5_ofOne_179 ?_
            exact b_iret dX5_ofOne_180 rfl h
          · have h := ifF c12 h
            refine b_fgt [false, true, false, false, false] (ls' := [vU, vI x1, vU, vU, vU]) rfl rfl ?_
            exact pl_X5_ofOne_172 hf _ _ h
    have h := ifF c9 h
    by_cases c13 : x0 = 10
    · have h := ifT c13 h
      refine b_tswIn 181 dX5_ofOne_46 g2 (by omega) (by omega) (by rw [c13]; rfl) (by decide) ?_
      refine b_iload_n dX5_ofOne_181 rfl ?_
      obtain ⟨g6, h⟩ := h
      refine b_if_eq 202 dX5_ofOne_182 g6 (by decide) (fun c14 => ?_) (fun c14 => ?_)
      · have h := ifT c14 h
        refine b_iconst dX5_ofOne_202 ?_
        exact b_iret dX5_ofOne_203 rfl h
      · have h := ifF c14 h
        refine b_iload_n dX5_ofOne_185 rfl ?_
        refine b_cSi (as := [vI x1]) (st := []) dX5_ofOne_186 mf_X11_depth lk_X5_182 (p_X11_depth (f := 1) (Nat.le_refl _) _ _ h) (by omega) rfl rfl (Nat.le_of_ble_eq_true rfl) (by decide) rfl (fun _ => rfl) (fun r6 m6 h => ?_) (fun _ h => h)
        obtain ⟨g7, h⟩ := h
        refine b_if_ne 202 dX5_ofOne_189 g7 (by decide) (fun c15 => ?_) (fun c15 => ?_)
        · have h := ifF c15 h
          refine b_iconst dX5_ofOne_202 ?_
          exact b_iret dX5_ofOne_203 rfl h
        · have h := ifT (Decidable.of_not_not c15) h
          refine b_iload dX5_ofOne_192 rfl ?_
          refine b_iconst dX5_ofOne_194 ?_
          refine b_iconst dX5_ofOne_195 ?_
          refine b_cSi (as := [vI r2, vI 1, vI 0]) (st := []) dX5_ofOne_196 mf_X11_of lk_X5_89 (p_X11_of (f := 1) (Nat.le_refl _) _ _ _ _ h) (by omega) rfl rfl (Nat.le_of_ble_eq_true rfl) (by decide) rfl (fun _ => rfl) (fun r7 m7 h => ?_) (fun _ h => h)
          refine b_goto 203 dX5_ofOne_199 (by decide) ?_
          exact b_iret dX5_ofOne_203 rfl h
    have h := ifF c13 h
    by_cases c16 : x0 = 11
    · have h := ifT c16 h
      refine b_tswIn 204 dX5_ofOne_46 g2 (by omega) (by omega) (by rw [c16]; rfl) (by decide) ?_
      refine b_iload_n dX5_ofOne_204 rfl ?_
      refine b_if_eq 239 dX5_ofOne_205 (by decide) (by decide) (fun c17 => ?_) (fun c17 => ?_)
      · have h := ifT c17 h
        refine b_iconst dX5_ofOne_239 ?_
        exact b_iret dX5_ofOne_240 rfl h
      · have h := ifF c17 h
        refine b_iload_n dX5_ofOne_208 rfl ?_
        refine b_cSi (as := [vI x1]) (st := []) dX5_ofOne_209 mf_X11_depth lk_X5_182 (p_X11_depth (f := 1) (Nat.le_refl _) _ _ h) (by omega) rfl rfl (Nat.le_of_ble_eq_true rfl) (by decide) rfl (fun _ => rfl) (fun r8 m8 h => ?_) (fun _ h => h)
        refine b_iconst dX5_ofOne_212 ?_
        obtain ⟨g8, h⟩ := h
        refine b_icmp_ne 239 dX5_ofOne_213 g8 (by decide) (by decide) (fun c18 => ?_) (fun c18 => ?_)
        · have h := ifF c18 h
          refine b_iconst dX5_ofOne_239 ?_
          exact b_iret dX5_ofOne_240 rfl h
        · have h := ifT (Decidable.of_not_not c18) h
          refine b_iload dX5_ofOne_216 rfl ?_
          refine b_iconst dX5_ofOne_218 ?_
          obtain ⟨g9, h⟩ := h
          refine b_icmp_le 239 dX5_ofOne_219 g9 (by decide) (by decide) (fun c19 => ?_) (fun c19 => ?_)
          · have h := ifT c19 h
            refine b_iconst dX5_ofOne_239 ?_
            exact b_iret dX5_ofOne_240 rfl h
          · have h := ifF c19 h
            refine b_iload dX5_ofOne_222 rfl ?_
            refine b_cSi (as := [vI r2]) (st := []) dX5_ofOne_224 mf_X11_isPrime lk_X5_279 (p_X11_isPrime (f := 1) (Nat.le_refl _) _ _ h) (by omega) rfl rfl (Nat.le_of_ble_eq_true rfl) (by decide) rfl (fun _ => rfl) (fun r9 m9 h => ?_) (fun _ h => h)
            obtain ⟨g10, h⟩ := h
            refine b_if_eq 239 dX5_ofOne_227 g10 (by decide) (fun c20 => ?_) (fun c20 => ?_)
            · have h := ifT c20 h
              refine b_iconst dX5_ofOne_239 ?_
              exact b_iret dX5_ofOne_240 rfl h
            · have h := ifF c20 h
              refine b_iconst dX5_ofOne_230 ?_
              refine b_iconst dX5_ofOne_231 ?_
              refine b_iconst dX5_ofOne_232 ?_
              refine b_cSi (as := [vI 0, vI 0, vI 0]) (st := []) dX5_ofOne_233 mf_X11_of lk_X5_89 (p_X11_of (f := 1) (Nat.le_refl _) _ _ _ _ h) (by omega) rfl rfl (Nat.le_of_ble_eq_true rfl) (by decide) rfl (fun _ => rfl) (fun r10 m10 h => ?_) (fun _ h => h)
              refine b_goto 240 dX5_ofOne_236 (by decide) ?_
              exact b_iret dX5_ofOne_240 rfl h
    have h := ifF c16 h
    by_cases c21 : x0 = 2
    · refine b_tswIn 241 dX5_ofOne_46 g2 (by omega) (by omega) (by rw [c21]; rfl) (by decide) ?_
      refine b_fgt [false, true, false, false, false] (ls' := [vU, vI x1, vU, vU, vU]) rfl rfl ?_
      exact pl_X5_ofOne_241 hf _ _ h
    by_cases c22 : x0 = 3
    · refine b_tswIn 241 dX5_ofOne_46 g2 (by omega) (by omega) (by rw [c22]; rfl) (by decide) ?_
      refine b_fgt [false, true, false, false, false] (ls' := [vU, vI x1, vU, vU, vU]) rfl rfl ?_
      exact pl_X5_ofOne_241 hf _ _ h
    refine b_tswOut 241 dX5_ofOne_46 g2 (by omega) (by decide) ?_
    refine b_fgt [false, true, false, false, false] (ls' := [vU, vI x1, vU, vU, vU]) rfl rfl ?_
    exact pl_X5_ofOne_241 hf _ _ h
  have g1 := hs
  refine b_if_le 37 dX5_ofOne_30 g1 (by decide) (fun c23 => ?_) (fun c23 => ?_)
  ·
    refine b_iconst dX5_ofOne_37 ?_
    rw [if_pos c23] at K
    exact K
  ·
    refine b_iconst dX5_ofOne_33 ?_
    refine b_goto 38 dX5_ofOne_34 (by decide) ?_
    rw [if_neg c23] at K
    exact K
theorem p_X5_ofOne {f : Nat} {Q : Int → MM → Prop} {T : MM → Prop} (hf : 3 ≤ f) (x0 : Int) (x1 : Int) (m : MM) (h : P_X5_ofOne x0 x1 m Q) : CC f M_X5_ofOne [vI x0, vI x1] m Q T := by
  refine CC.of (plainFor_of_name (by decide)) (Nat.le_of_ble_eq_true rfl) (ls := [vI x0, vI x1, vU, vU, vU]) rfl ?_
  have h : (RI x1) ∧ (if 0 ≤ x1 then P_X11_size x1 m (fun r1 m1 => (RI r1) ∧ (if r1 = 0 then P_X11_depth x1 m1 (fun r2 m2 => ((RI r2)) ∧ P_X11_size x1 m2 (fun r3 m3 => ((RI r3)) ∧ P_X11_base x1 m3 (fun r4 m4 => (RI x0) ∧ (if x0 = 1 then (RI (if r2 ≤ 0 then 0 else 1 : Int)) ∧ (if (if r2 ≤ 0 then 0 else 1 : Int) = 0 then Q (-1) m4 else P_X11_of 0 0 0 m4 (fun r5 m5 => Q r5 m5)) else (if x0 = 4 then (RI (if r2 ≤ 0 then 0 else 1 : Int)) ∧ (if (if r2 ≤ 0 then 0 else 1 : Int) = 0 then Q (-1) m4 else Q x1 m4) else (if x0 = 5 then P_X5_ofOne_129 Q x1 (if r3 ≤ 0 then 0 else 1 : Int) m4 else (if x0 = 6 then P_X5_ofOne_129 Q x1 (if r3 ≤ 0 then 0 else 1 : Int) m4 else (if x0 = 7 then P_X5_ofOne_142 Q x1 (if r3 ≤ 0 then 0 else 1 : Int) m4 else (if x0 = 8 then P_X5_ofOne_142 Q x1 (if r3 ≤ 0 then 0 else 1 : Int) m4 else (if x0 = 9 then P_X11_depth x1 m4 (fun r6 m6 => (RI r6) ∧ (if r6 = 0 then (RI r4) ∧ (if r4 = 0 then P_X5_ofOne_172 Q x1 m6 else P_X11_isField r4 m6 (fun r7 m7 => (RI r7) ∧ (if r7 = 0 then Q (-1) m7 else P_X5_ofOne_172 Q x1 m7))) else Q (-1) m6)) else (if x0 = 10 then (RI (if r3 ≤ 0 then 0 else 1 : Int)) ∧ (if (if r3 ≤ 0 then 0 else 1 : Int) = 0 then Q (-1) m4 else P_X11_depth x1 m4 (fun r8 m8 => (RI r8) ∧ (if r8 = 0 then P_X11_of r4 1 0 m8 (fun r9 m9 => Q r9 m9) else Q (-1) m8))) else (if x0 = 11 then (RI (if r2 ≤ 0 then 0 else 1 : Int)) ∧ (if (if r2 ≤ 0 then 0 else 1 : Int) = 0 then Q (-1) m4 else P_X11_depth x1 m4 (fun r10 m10 => (RI r10) ∧ (if r10 = 1 then (RI r4) ∧ (if r4 ≤ 1 then Q (-1) m10 else P_X11_isPrime r4 m10 (fun r11 m11 => (RI r11) ∧ (if r11 = 0 then Q (-1) m11 else P_X11_of 0 0 0 m11 (fun r12 m12 => Q r12 m12)))) else Q (-1) m10))) else P_X5_ofOne_241 Q x1 m4)))))))))))) else P_X5_ofOne_24 Q x0 x1 m1)) else Q (-1) m) := h
  refine b_iload_n dX5_ofOne_0 rfl ?_
  obtain ⟨g1, h⟩ := h
  refine b_if_ge 6 dX5_ofOne_1 g1 (by decide) (fun c1 => ?_) (fun c1 => ?_)
  · have h := ifT c1 h
    refine b_iload_n dX5_ofOne_6 rfl ?_
    refine b_cSi (as := [vI x1]) (st := []) dX5_ofOne_7 mf_X11_size lk_X5_185 (p_X11_size (f := 1) (Nat.le_refl _) _ _ h) (by omega) rfl rfl (Nat.le_of_ble_eq_true rfl) (by decide) rfl (fun _ => rfl) (fun r1 m1 h => ?_) (fun _ h => h)
    obtain ⟨g2, h⟩ := h
    refine b_if_ne 24 dX5_ofOne_10 g2 (by decide) (fun c2 => ?_) (fun c2 => ?_)
    · have h := ifF c2 h
      exact pl_X5_ofOne_24 hf _ _ _ h
    · have h := ifT (Decidable.of_not_not c2) h
      refine b_iload_n dX5_ofOne_13 rfl ?_
      refine b_cSi (as := [vI x1]) (st := []) dX5_ofOne_14 mf_X11_depth lk_X5_182 (p_X11_depth (f := 1) (Nat.le_refl _) _ _ h) (by omega) rfl rfl (Nat.le_of_ble_eq_true rfl) (by decide) rfl (fun _ => rfl) (fun r2 m2 h => ?_) (fun _ h => h)
      obtain ⟨hs, h⟩ := h
      have K : B f M_X5_ofOne 25 [vI x0, vI x1, vU, vU, vU] [vI (if r2 ≤ 0 then 0 else 1 : Int)] m2 Q T := by
        clear hs
        refine b_istore_n (ls' := [vI x0, vI x1, vI (if r2 ≤ 0 then 0 else 1 : Int), vU, vU]) dX5_ofOne_25 (Nat.le_of_ble_eq_true rfl) rfl ?_
        refine b_iload_n dX5_ofOne_26 rfl ?_
        refine b_cSi (as := [vI x1]) (st := []) dX5_ofOne_27 mf_X11_size lk_X5_185 (p_X11_size (f := 1) (Nat.le_refl _) _ _ h) (by omega) rfl rfl (Nat.le_of_ble_eq_true rfl) (by decide) rfl (fun _ => rfl) (fun r3 m3 h => ?_) (fun _ h => h)
        obtain ⟨hs, h⟩ := h
        have K : B f M_X5_ofOne 38 [vI x0, vI x1, vI (if r2 ≤ 0 then 0 else 1 : Int), vU, vU] [vI (if r3 ≤ 0 then 0 else 1 : Int)] m3 Q T := by
          clear hs
          refine b_istore_n (ls' := [vI x0, vI x1, vI (if r2 ≤ 0 then 0 else 1 : Int), vI (if r3 ≤ 0 then 0 else 1 : Int), vU]) dX5_ofOne_38 (Nat.le_of_ble_eq_true rfl) rfl ?_
          refine b_iload_n dX5_ofOne_39 rfl ?_
          refine b_cSi (as := [vI x1]) (st := []) dX5_ofOne_40 mf_X11_base lk_X5_258 (p_X11_base (f := 1) (Nat.le_refl _) _ _ h) (by omega) rfl rfl (Nat.le_of_ble_eq_true rfl) (by decide) rfl (fun _ => rfl) (fun r4 m4 h => ?_) (fun _ h => h)
          refine b_istore (ls' := [vI x0, vI x1, vI (if r2 ≤ 0 then 0 else 1 : Int), vI (if r3 ≤ 0 then 0 else 1 : Int), vI r4]) dX5_ofOne_43 (Nat.le_of_ble_eq_true rfl) rfl ?_
          refine b_iload_n dX5_ofOne_45 rfl ?_
          obtain ⟨g5, h⟩ := h
          by_cases c3 : x0 = 1
          · have h := ifT c3 h
            refine b_tswIn 104 dX5_ofOne_46 g5 (by omega) (by omega) (by rw [c3]; rfl) (by decide) ?_
            refine b_iload_n dX5_ofOne_104 rfl ?_
            obtain ⟨g6, h⟩ := h
            refine b_if_eq 117 dX5_ofOne_105 g6 (by decide) (fun c4 => ?_) (fun c4 => ?_)
            · have h := ifT c4 h
              refine b_iconst dX5_ofOne_117 ?_
              exact b_iret dX5_ofOne_118 rfl h
            · have h := ifF c4 h
              refine b_iconst dX5_ofOne_108 ?_
              refine b_iconst dX5_ofOne_109 ?_
              refine b_iconst dX5_ofOne_110 ?_
              refine b_cSi (as := [vI 0, vI 0, vI 0]) (st := []) dX5_ofOne_111 mf_X11_of lk_X5_89 (p_X11_of (f := 1) (Nat.le_refl _) _ _ _ _ h) (by omega) rfl rfl (Nat.le_of_ble_eq_true rfl) (by decide) rfl (fun _ => rfl) (fun r5 m5 h => ?_) (fun _ h => h)
              refine b_goto 118 dX5_ofOne_114 (by decide) ?_
              exact b_iret dX5_ofOne_118 rfl h
          have h := ifF c3 h
          by_cases c5 : x0 = 4
          · have h := ifT c5 h
            refine b_tswIn 119 dX5_ofOne_46 g5 (by omega) (by omega) (by rw [c5]; rfl) (by decide) ?_
            refine b_iload_n dX5_ofOne_119 rfl ?_
            obtain ⟨g7, h⟩ := h
            refine b_if_eq 127 dX5_ofOne_120 g7 (by decide) (fun c6 => ?_) (fun c6 => ?_)
            · have h := ifT c6 h
              refine b_iconst dX5_ofOne_127 ?_
              exact b_iret dX5_ofOne_128 rfl h
            · have h := ifF c6 h
              refine b_iload_n dX5_ofOne_123 rfl ?_
              refine b_goto 128 dX5_ofOne_124 (by decide) ?_
              exact b_iret dX5_ofOne_128 rfl h
          have h := ifF c5 h
          by_cases c7 : x0 = 5
          · have h := ifT c7 h
            refine b_tswIn 129 dX5_ofOne_46 g5 (by omega) (by omega) (by rw [c7]; rfl) (by decide) ?_
            refine b_fgt [false, true, false, true, false] (ls' := [vU, vI x1, vU, vI (if r3 ≤ 0 then 0 else 1 : Int), vU]) rfl rfl ?_
            exact pl_X5_ofOne_129 hf _ _ _ h
          have h := ifF c7 h
          by_cases c8 : x0 = 6
          · have h := ifT c8 h
            refine b_tswIn 129 dX5_ofOne_46 g5 (by omega) (by omega) (by rw [c8]; rfl) (by decide) ?_
            refine b_fgt [false, true, false, true, false] (ls' := [vU, vI x1, vU, vI (if r3 ≤ 0 then 0 else 1 : Int), vU]) rfl rfl ?_
            exact pl_X5_ofOne_129 hf _ _ _ h
          have h := ifF c8 h
          by_cases c9 : x0 = 7
          · have h := ifT c9 h
            refine b_tswIn 142 dX5_ofOne_46 g5 (by omega) (by omega) (by rw [c9]; rfl) (by decide) ?_
            refine b_fgt [false, true, false, true, false] (ls' := [vU, vI x1, vU, vI (if r3 ≤ 0 then 0 else 1 : Int), vU]) rfl rfl ?_
            exact pl_X5_ofOne_142 hf _ _ _ h
          have h := ifF c9 h
          by_cases c10 : x0 = 8
          · have h := ifT c10 h
            refine b_tswIn 142 dX5_ofOne_46 g5 (by omega) (by omega) (by rw [c10]; rfl) (by decide) ?_
            refine b_fgt [false, true, false, true, false] (ls' := [vU, vI x1, vU, vI (if r3 ≤ 0 then 0 else 1 : Int), vU]) rfl rfl ?_
            exact pl_X5_ofOne_142 hf _ _ _ h
          have h := ifF c10 h
          by_cases c11 : x0 = 9
          · have h := ifT c11 h
            refine b_tswIn 152 dX5_ofOne_46 g5 (by omega) (by omega) (by rw [c11]; rfl) (by decide) ?_
            refine b_iload_n dX5_ofOne_152 rfl ?_
            refine b_cSi (as := [vI x1]) (st := []) dX5_ofOne_153 mf_X11_depth lk_X5_182 (p_X11_depth (f := 1) (Nat.le_refl _) _ _ h) (by omega) rfl rfl (Nat.le_of_ble_eq_true rfl) (by decide) rfl (fun _ => rfl) (fun r6 m6 h => ?_) (fun _ h => h)
            obtain ⟨g8, h⟩ := h
            refine b_if_ne 179 dX5_ofOne_156 g8 (by decide) (fun c12 => ?_) (fun c12 => ?_)
            · have h := ifF c12 h
              refine b_iconst dX5_ofOne_179 ?_
              exact b_iret dX5_ofOne_180 rfl h
            · have h := ifT (Decidable.of_not_not c12) h
              refine b_iload dX5_ofOne_159 rfl ?_
              obtain ⟨g9, h⟩ := h
              refine b_if_eq 172 dX5_ofOne_161 g9 (by decide) (fun c13 => ?_) (fun c13 => ?_)
              · have h := ifT c13 h
                refine b_fgt [false, true, false, false, false] (ls' := [vU, vI x1, vU, vU, vU]) rfl rfl ?_
                exact pl_X5_ofOne_172 hf _ _ h
              · have h := ifF c13 h
                refine b_iload dX5_ofOne_164 rfl ?_
                refine b_cSi (as := [vI r4]) (st := []) dX5_ofOne_166 mf_X11_isField lk_X5_261 (p_X11_isField (f := 2) (Nat.le_refl _) _ _ h) (by omega) rfl rfl (Nat.le_of_ble_eq_true rfl) (by decide) rfl (fun _ => rfl) (fun r7 m7 h => ?_) (fun _ h => h)
                obtain ⟨g10, h⟩ := h
                refine b_if_eq 179 dX5_ofOne_169 g10 (by decide) (fun c14 => ?_) (fun c14 => ?_)
                · have h := ifT c14 h
                  refine b_iconst dX5_ofOne_179 ?_
                  exact b_iret dX5_ofOne_180 rfl h
                · have h := ifF c14 h
                  refine b_fgt [false, true, false, false, false] (ls' := [vU, vI x1, vU, vU, vU]) rfl rfl ?_
                  exact pl_X5_ofOne_172 hf _ _ h
          have h := ifF c11 h
          by_cases c15 : x0 = 10
          · have h := ifT c15 h
            refine b_tswIn 181 dX5_ofOne_46 g5 (by omega) (by omega) (by rw [c15]; rfl) (by decide) ?_
            refine b_iload_n dX5_ofOne_181 rfl ?_
            obtain ⟨g11, h⟩ := h
            refine b_if_eq 202 dX5_ofOne_182 g11 (by decide) (fun c16 => ?_) (fun c16 => ?_)
            · have h := ifT c16 h
              refine b_iconst dX5_ofOne_202 ?_
              exact b_iret dX5_ofOne_203 rfl h
            · have h := ifF c16 h
              refine b_iload_n dX5_ofOne_185 rfl ?_
              refine b_cSi (as := [vI x1]) (st := []) dX5_ofOne_186 mf_X11_depth lk_X5_182 (p_X11_depth (f := 1) (Nat.le_refl _) _ _ h) (by omega) rfl rfl (Nat.le_of_ble_eq_true rfl) (by decide) rfl (fun _ => rfl) (fun r8 m8 h => ?_) (fun _ h => h)
              obtain ⟨g12, h⟩ := h
              refine b_if_ne 202 dX5_ofOne_189 g12 (by decide) (fun c17 => ?_) (fun c17 => ?_)
              · have h := ifF c17 h
                refine b_iconst dX5_ofOne_202 ?_
                exact b_iret dX5_ofOne_203 rfl h
              · have h := ifT (Decidable.of_not_not c17) h
                refine b_iload dX5_ofOne_192 rfl ?_
                refine b_iconst dX5_ofOne_194 ?_
                refine b_iconst dX5_ofOne_195 ?_
                refine b_cSi (as := [vI r4, vI 1, vI 0]) (st := []) dX5_ofOne_196 mf_X11_of lk_X5_89 (p_X11_of (f := 1) (Nat.le_refl _) _ _ _ _ h) (by omega) rfl rfl (Nat.le_of_ble_eq_true rfl) (by decide) rfl (fun _ => rfl) (fun r9 m9 h => ?_) (fun _ h => h)
                refine b_goto 203 dX5_ofOne_199 (by decide) ?_
                exact b_iret dX5_ofOne_203 rfl h
          have h := ifF c15 h
          by_cases c18 : x0 = 11
          · have h := ifT c18 h
            refine b_tswIn 204 dX5_ofOne_46 g5 (by omega) (by omega) (by rw [c18]; rfl) (by decide) ?_
            refine b_iload_n dX5_ofOne_204 rfl ?_
            obtain ⟨g13, h⟩ := h
            refine b_if_eq 239 dX5_ofOne_205 g13 (by decide) (fun c19 => ?_) (fun c19 => ?_)
            · have h := ifT c19 h
              refine b_iconst dX5_ofOne_239 ?_
              exact b_iret dX5_ofOne_240 rfl h
            · have h := ifF c19 h
              refine b_iload_n dX5_ofOne_208 rfl ?_
              refine b_cSi (as := [vI x1]) (st := []) dX5_ofOne_209 mf_X11_depth lk_X5_182 (p_X11_depth (f := 1) (Nat.le_refl _) _ _ h) (by omega) rfl rfl (Nat.le_of_ble_eq_true rfl) (by decide) rfl (fun _ => rfl) (fun r10 m10 h => ?_) (fun _ h => h)
              refine b_iconst dX5_ofOne_212 ?_
              obtain ⟨g14, h⟩ := h
              refine b_icmp_ne 239 dX5_ofOne_213 g14 (by decide) (by decide) (fun c20 => ?_) (fun c20 => ?_)
              · have h := ifF c20 h
                refine b_iconst dX5_ofOne_239 ?_
                exact b_iret dX5_ofOne_240 rfl h
              · have h := ifT (Decidable.of_not_not c20) h
                refine b_iload dX5_ofOne_216 rfl ?_
                refine b_iconst dX5_ofOne_218 ?_
                obtain ⟨g15, h⟩ := h
                refine b_icmp_le 239 dX5_ofOne_219 g15 (by decide) (by decide) (fun c21 => ?_) (fun c21 => ?_)
                · have h := ifT c21 h
                  refine b_iconst dX5_ofOne_239 ?_
                  exact b_iret dX5_ofOne_240 rfl h
                · have h := ifF c21 h
                  refine b_iload dX5_ofOne_222 rfl ?_
                  refine b_cSi (as := [vI r4]) (st := []) dX5_ofOne_224 mf_X11_isPrime lk_X5_279 (p_X11_isPrime (f := 1) (Nat.le_refl _) _ _ h) (by omega) rfl rfl (Nat.le_of_ble_eq_true rfl) (by decide) rfl (fun _ => rfl) (fun r11 m11 h => ?_) (fun _ h => h)
                  obtain ⟨g16, h⟩ := h
                  refine b_if_eq 239 dX5_ofOne_227 g16 (by decide) (fun c22 => ?_) (fun c22 => ?_)
                  · have h := ifT c22 h
                    refine b_iconst dX5_ofOne_239 ?_
                    exact b_iret dX5_ofOne_240 rfl h
                  · have h := ifF c22 h
                    refine b_iconst dX5_ofOne_230 ?_
                    refine b_iconst dX5_ofOne_231 ?_
                    refine b_iconst dX5_ofOne_232 ?_
                    refine b_cSi (as := [vI 0, vI 0, vI 0]) (st := []) dX5_ofOne_233 mf_X11_of lk_X5_89 (p_X11_of (f := 1) (Nat.le_refl _) _ _ _ _ h) (by omega) rfl rfl (Nat.le_of_ble_eq_true rfl) (by decide) rfl (fun _ => rfl) (fun r12 m12 h => ?_) (fun _ h => h)
                    refine b_goto 240 dX5_ofOne_236 (by decide) ?_
                    exact b_iret dX5_ofOne_240 rfl h
          have h := ifF c18 h
          by_cases c23 : x0 = 2
          · refine b_tswIn 241 dX5_ofOne_46 g5 (by omega) (by omega) (by rw [c23]; rfl) (by decide) ?_
            refine b_fgt [false, true, false, false, false] (ls' := [vU, vI x1, vU, vU, vU]) rfl rfl ?_
            exact pl_X5_ofOne_241 hf _ _ h
          by_cases c24 : x0 = 3
          · refine b_tswIn 241 dX5_ofOne_46 g5 (by omega) (by omega) (by rw [c24]; rfl) (by decide) ?_
            refine b_fgt [false, true, false, false, false] (ls' := [vU, vI x1, vU, vU, vU]) rfl rfl ?_
            exact pl_X5_ofOne_241 hf _ _ h
          refine b_tswOut 241 dX5_ofOne_46 g5 (by omega) (by decide) ?_
          refine b_fgt [false, true, false, false, false] (ls' := [vU, vI x1, vU, vU, vU]) rfl rfl ?_
          exact pl_X5_ofOne_241 hf _ _ h
        have g4 := hs
        refine b_if_le 37 dX5_ofOne_30 g4 (by decide) (fun c25 => ?_) (fun c25 => ?_)
        ·
          refine b_iconst dX5_ofOne_37 ?_
          rw [if_pos c25] at K
          exact K
        ·
          refine b_iconst dX5_ofOne_33 ?_
          refine b_goto 38 dX5_ofOne_34 (by decide) ?_
          rw [if_neg c25] at K
          exact K
      have g3 := hs
      refine b_if_le 24 dX5_ofOne_17 g3 (by decide) (fun c26 => ?_) (fun c26 => ?_)
      ·
        refine b_iconst dX5_ofOne_24 ?_
        rw [if_pos c26] at K
        exact K
      ·
        refine b_iconst dX5_ofOne_20 ?_
        refine b_goto 25 dX5_ofOne_21 (by decide) ?_
        rw [if_neg c26] at K
        exact K
  · have h := ifF c1 h
    refine b_iconst dX5_ofOne_4 ?_
    exact b_iret dX5_ofOne_5 rfl h
theorem dX5_ofTwo_0 : decode cX5_ofTwo 0 = .ok (.iload_n 0, 1) := by decide +kernel
theorem dX5_ofTwo_1 : decode cX5_ofTwo 1 = .ok (.ifCond .ne 24, 3) := by decide +kernel
theorem dX5_ofTwo_4 : decode cX5_ofTwo 4 = .ok (.iload_n 1, 1) := by decide +kernel
theorem dX5_ofTwo_5 : decode cX5_ofTwo 5 = .ok (.iload_n 2, 1) := by decide +kernel
theorem dX5_ofTwo_6 : decode cX5_ofTwo 6 = .ok (.invokestatic 255, 3) := by decide +kernel
theorem dX5_ofTwo_9 : decode cX5_ofTwo 9 = .ok (.invokestatic 267, 3) := by decide +kernel
theorem dX5_ofTwo_12 : decode cX5_ofTwo 12 = .ok (.ifCond .eq 11, 3) := by decide +kernel
theorem dX5_ofTwo_15 : decode cX5_ofTwo 15 = .ok (.iload_n 1, 1) := by decide +kernel
theorem dX5_ofTwo_16 : decode cX5_ofTwo 16 = .ok (.iload_n 2, 1) := by decide +kernel
theorem dX5_ofTwo_17 : decode cX5_ofTwo 17 = .ok (.invokestatic 255, 3) := by decide +kernel
theorem dX5_ofTwo_20 : decode cX5_ofTwo 20 = .ok (.goto 4, 3) := by decide +kernel
theorem dX5_ofTwo_23 : decode cX5_ofTwo 23 = .ok (.iconst (-1), 1) := by decide +kernel
theorem dX5_ofTwo_24 : decode cX5_ofTwo 24 = .ok (.ireturn, 1) := by decide +kernel
theorem dX5_ofTwo_25 : decode cX5_ofTwo 25 = .ok (.iload_n 1, 1) := by decide +kernel
theorem dX5_ofTwo_26 : decode cX5_ofTwo 26 = .ok (.ifCond .lt 17, 3) := by decide +kernel
theorem dX5_ofTwo_29 : decode cX5_ofTwo 29 = .ok (.iload_n 1, 1) := by decide +kernel
theorem dX5_ofTwo_30 : decode cX5_ofTwo 30 = .ok (.invokestatic 185, 3) := by decide +kernel
theorem dX5_ofTwo_33 : decode cX5_ofTwo 33 = .ok (.ifCond .ne 10, 3) := by decide +kernel
theorem dX5_ofTwo_36 : decode cX5_ofTwo 36 = .ok (.iload_n 1, 1) := by decide +kernel
theorem dX5_ofTwo_37 : decode cX5_ofTwo 37 = .ok (.invokestatic 182, 3) := by decide +kernel
theorem dX5_ofTwo_40 : decode cX5_ofTwo 40 = .ok (.ifCond .ne 5, 3) := by decide +kernel
theorem dX5_ofTwo_43 : decode cX5_ofTwo 43 = .ok (.iconst (-1), 1) := by decide +kernel
theorem dX5_ofTwo_44 : decode cX5_ofTwo 44 = .ok (.ireturn, 1) := by decide +kernel
theorem dX5_ofTwo_45 : decode cX5_ofTwo 45 = .ok (.iload_n 1, 1) := by decide +kernel
theorem dX5_ofTwo_46 : decode cX5_ofTwo 46 = .ok (.iconst 4, 1) := by decide +kernel
theorem dX5_ofTwo_47 : decode cX5_ofTwo 47 = .ok (.isub, 1) := by decide +kernel
theorem dX5_ofTwo_48 : decode cX5_ofTwo 48 = .ok (.istore_n 3, 1) := by decide +kernel
theorem dX5_ofTwo_49 : decode cX5_ofTwo 49 = .ok (.iload_n 0, 1) := by decide +kernel
theorem dX5_ofTwo_50 : decode cX5_ofTwo 50 = .ok (.iconst 2, 1) := by decide +kernel
theorem dX5_ofTwo_51 : decode cX5_ofTwo 51 = .ok (.if_icmp .ne 21, 3) := by decide +kernel
theorem dX5_ofTwo_54 : decode cX5_ofTwo 54 = .ok (.iload_n 2, 1) := by decide +kernel
theorem dX5_ofTwo_55 : decode cX5_ofTwo 55 = .ok (.iconst 0, 1) := by decide +kernel
theorem dX5_ofTwo_56 : decode cX5_ofTwo 56 = .ok (.iconst 0, 1) := by decide +kernel
theorem dX5_ofTwo_57 : decode cX5_ofTwo 57 = .ok (.iconst 0, 1) := by decide +kernel
theorem dX5_ofTwo_58 : decode cX5_ofTwo 58 = .ok (.invokestatic 89, 3) := by decide +kernel
theorem dX5_ofTwo_61 : decode cX5_ofTwo 61 = .ok (.if_icmp .ne 7, 3) := by decide +kernel
theorem dX5_ofTwo_64 : decode cX5_ofTwo 64 = .ok (.iload_n 3, 1) := by decide +kernel
theorem dX5_ofTwo_65 : decode cX5_ofTwo 65 = .ok (.goto 20, 3) := by decide +kernel
theorem dX5_ofTwo_68 : decode cX5_ofTwo 68 = .ok (.iconst (-1), 1) := by decide +kernel
theorem dX5_ofTwo_69 : decode cX5_ofTwo 69 = .ok (.goto 16, 3) := by decide +kernel
theorem dX5_ofTwo_72 : decode cX5_ofTwo 72 = .ok (.iload_n 2, 1) := by decide +kernel
theorem dX5_ofTwo_73 : decode cX5_ofTwo 73 = .ok (.ifCond .ge 7, 3) := by decide +kernel
theorem dX5_ofTwo_76 : decode cX5_ofTwo 76 = .ok (.iconst (-1), 1) := by decide +kernel
theorem dX5_ofTwo_77 : decode cX5_ofTwo 77 = .ok (.goto 8, 3) := by decide +kernel
theorem dX5_ofTwo_80 : decode cX5_ofTwo 80 = .ok (.iload_n 3, 1) := by decide +kernel
theorem dX5_ofTwo_81 : decode cX5_ofTwo 81 = .ok (.iload_n 2, 1) := by decide +kernel
theorem dX5_ofTwo_82 : decode cX5_ofTwo 82 = .ok (.invokestatic 255, 3) := by decide +kernel
theorem dX5_ofTwo_85 : decode cX5_ofTwo 85 = .ok (.ireturn, 1) := by decide +kernel
/-! AlgebraHouse$Judge.ofTwo(III)I -/
def P_X5_ofTwo (x0 : Int) (x1 : Int) (x2 : Int) (m : MM) (Q : Int → MM → Prop) : Prop := (RI x0) ∧ (if x0 = 0 then P_X11_join x1 x2 m (fun r5 m5 => P_X11_divides r5 m5 (fun r6 m6 => (RI r6) ∧ (if r6 = 0 then Q (-1) m6 else P_X11_join x1 x2 m6 (fun r7 m7 => Q r7 m7)))) else (RI x1) ∧ (if x1 < 0 then Q (-1) m else P_X11_size x1 m (fun r1 m1 => (RI r1) ∧ (if r1 = 0 then P_X11_depth x1 m1 (fun r2 m2 => (RI r2) ∧ (if r2 = 0 then Q (-1) m2 else (if x0 = 2 then P_X11_of 0 0 0 m2 (fun r4 m4 => (RI x2) ∧ (RI r4) ∧ (if x2 = r4 then Q (x1 - 4) m4 else Q (-1) m4)) else (RI x2) ∧ (if 0 ≤ x2 then P_X11_join (x1 - 4) x2 m2 (fun r3 m3 => Q r3 m3) else Q (-1) m2)))) else Q (-1) m1))))
theorem p_X5_ofTwo {f : Nat} {Q : Int → MM → Prop} {T : MM → Prop} (hf : 4 ≤ f) (x0 : Int) (x1 : Int) (x2 : Int) (m : MM) (h : P_X5_ofTwo x0 x1 x2 m Q) : CC f M_X5_ofTwo [vI x0, vI x1, vI x2] m Q T := by
  refine CC.of (plainFor_of_name (by decide)) (Nat.le_of_ble_eq_true rfl) (ls := [vI x0, vI x1, vI x2, vU]) rfl ?_
  have h : (RI x0) ∧ (if x0 = 0 then P_X11_join x1 x2 m (fun r5 m5 => P_X11_divides r5 m5 (fun r6 m6 => (RI r6) ∧ (if r6 = 0 then Q (-1) m6 else P_X11_join x1 x2 m6 (fun r7 m7 => Q r7 m7)))) else (RI x1) ∧ (if x1 < 0 then Q (-1) m else P_X11_size x1 m (fun r1 m1 => (RI r1) ∧ (if r1 = 0 then P_X11_depth x1 m1 (fun r2 m2 => (RI r2) ∧ (if r2 = 0 then Q (-1) m2 else (if x0 = 2 then P_X11_of 0 0 0 m2 (fun r4 m4 => (RI x2) ∧ (RI r4) ∧ (if x2 = r4 then Q (x1 - 4) m4 else Q (-1) m4)) else (RI x2) ∧ (if 0 ≤ x2 then P_X11_join (x1 - 4) x2 m2 (fun r3 m3 => Q r3 m3) else Q (-1) m2)))) else Q (-1) m1)))) := h
  refine b_iload_n dX5_ofTwo_0 rfl ?_
  obtain ⟨g1, h⟩ := h
  refine b_if_ne 25 dX5_ofTwo_1 g1 (by decide) (fun c1 => ?_) (fun c1 => ?_)
  · have h := ifF c1 h
    refine b_iload_n dX5_ofTwo_25 rfl ?_
    obtain ⟨g2, h⟩ := h
    refine b_if_lt 43 dX5_ofTwo_26 g2 (by decide) (fun c2 => ?_) (fun c2 => ?_)
    · have h := ifT c2 h
      refine b_iconst dX5_ofTwo_43 ?_
      exact b_iret dX5_ofTwo_44 rfl h
    · have h := ifF c2 h
      refine b_iload_n dX5_ofTwo_29 rfl ?_
      refine b_cSi (as := [vI x1]) (st := []) dX5_ofTwo_30 mf_X11_size lk_X5_185 (p_X11_size (f := 1) (Nat.le_refl _) _ _ h) (by omega) rfl rfl (Nat.le_of_ble_eq_true rfl) (by decide) rfl (fun _ => rfl) (fun r1 m1 h => ?_) (fun _ h => h)
      obtain ⟨g3, h⟩ := h
      refine b_if_ne 43 dX5_ofTwo_33 g3 (by decide) (fun c3 => ?_) (fun c3 => ?_)
      · have h := ifF c3 h
        refine b_iconst dX5_ofTwo_43 ?_
        exact b_iret dX5_ofTwo_44 rfl h
      · have h := ifT (Decidable.of_not_not c3) h
        refine b_iload_n dX5_ofTwo_36 rfl ?_
        refine b_cSi (as := [vI x1]) (st := []) dX5_ofTwo_37 mf_X11_depth lk_X5_182 (p_X11_depth (f := 1) (Nat.le_refl _) _ _ h) (by omega) rfl rfl (Nat.le_of_ble_eq_true rfl) (by decide) rfl (fun _ => rfl) (fun r2 m2 h => ?_) (fun _ h => h)
        obtain ⟨g4, h⟩ := h
        refine b_if_ne 45 dX5_ofTwo_40 g4 (by decide) (fun c4 => ?_) (fun c4 => ?_)
        · have h := ifF c4 h
          refine b_iload_n dX5_ofTwo_45 rfl ?_
          refine b_iconst dX5_ofTwo_46 ?_
          refine b_isub dX5_ofTwo_47 ?_
          refine b_istore_n (ls' := [vI x0, vI x1, vI x2, vI (x1 - 4)]) dX5_ofTwo_48 (Nat.le_of_ble_eq_true rfl) rfl ?_
          refine b_iload_n dX5_ofTwo_49 rfl ?_
          refine b_iconst dX5_ofTwo_50 ?_
          refine b_icmp_ne 72 dX5_ofTwo_51 g1 (by decide) (by decide) (fun c5 => ?_) (fun c5 => ?_)
          · have h := ifF c5 h
            refine b_iload_n dX5_ofTwo_72 rfl ?_
            obtain ⟨g5, h⟩ := h
            refine b_if_ge 80 dX5_ofTwo_73 g5 (by decide) (fun c6 => ?_) (fun c6 => ?_)
            · have h := ifT c6 h
              refine b_iload_n dX5_ofTwo_80 rfl ?_
              refine b_iload_n dX5_ofTwo_81 rfl ?_
              refine b_cSi (as := [vI (x1 - 4), vI x2]) (st := []) dX5_ofTwo_82 mf_X11_join lk_X5_255 (p_X11_join (f := 2) (Nat.le_refl _) _ _ _ h) (by omega) rfl rfl (Nat.le_of_ble_eq_true rfl) (by decide) rfl (fun _ => rfl) (fun r3 m3 h => ?_) (fun _ h => h)
              exact b_iret dX5_ofTwo_85 rfl h
            · have h := ifF c6 h
              refine b_iconst dX5_ofTwo_76 ?_
              refine b_goto 85 dX5_ofTwo_77 (by decide) ?_
              exact b_iret dX5_ofTwo_85 rfl h
          · have h := ifT (Decidable.of_not_not c5) h
            refine b_iload_n dX5_ofTwo_54 rfl ?_
            refine b_iconst dX5_ofTwo_55 ?_
            refine b_iconst dX5_ofTwo_56 ?_
            refine b_iconst dX5_ofTwo_57 ?_
            refine b_cSi (as := [vI 0, vI 0, vI 0]) (st := [vI x2]) dX5_ofTwo_58 mf_X11_of lk_X5_89 (p_X11_of (f := 1) (Nat.le_refl _) _ _ _ _ h) (by omega) rfl rfl (Nat.le_of_ble_eq_true rfl) (by decide) rfl (fun _ => rfl) (fun r4 m4 h => ?_) (fun _ h => h)
            obtain ⟨g6, h⟩ := h
            obtain ⟨g7, h⟩ := h
            refine b_icmp_ne 68 dX5_ofTwo_61 g6 g7 (by decide) (fun c7 => ?_) (fun c7 => ?_)
            · have h := ifF c7 h
              refine b_iconst dX5_ofTwo_68 ?_
              refine b_goto 85 dX5_ofTwo_69 (by decide) ?_
              exact b_iret dX5_ofTwo_85 rfl h
            · have h := ifT (Decidable.of_not_not c7) h
              refine b_iload_n dX5_ofTwo_64 rfl ?_
              refine b_goto 85 dX5_ofTwo_65 (by decide) ?_
              exact b_iret dX5_ofTwo_85 rfl h
        · have h := ifT (Decidable.of_not_not c4) h
          refine b_iconst dX5_ofTwo_43 ?_
          exact b_iret dX5_ofTwo_44 rfl h
  · have h := ifT (Decidable.of_not_not c1) h
    refine b_iload_n dX5_ofTwo_4 rfl ?_
    refine b_iload_n dX5_ofTwo_5 rfl ?_
    refine b_cSi (as := [vI x1, vI x2]) (st := []) dX5_ofTwo_6 mf_X11_join lk_X5_255 (p_X11_join (f := 2) (Nat.le_refl _) _ _ _ h) (by omega) rfl rfl (Nat.le_of_ble_eq_true rfl) (by decide) rfl (fun _ => rfl) (fun r5 m5 h => ?_) (fun _ h => h)
    refine b_cSi (as := [vI r5]) (st := []) dX5_ofTwo_9 mf_X11_divides lk_X5_267 (p_X11_divides (f := 3) (Nat.le_refl _) _ _ h) (by omega) rfl rfl (Nat.le_of_ble_eq_true rfl) (by decide) rfl (fun _ => rfl) (fun r6 m6 h => ?_) (fun _ h => h)
    obtain ⟨g8, h⟩ := h
    refine b_if_eq 23 dX5_ofTwo_12 g8 (by decide) (fun c8 => ?_) (fun c8 => ?_)
    · have h := ifT c8 h
      refine b_iconst dX5_ofTwo_23 ?_
      exact b_iret dX5_ofTwo_24 rfl h
    · have h := ifF c8 h
      refine b_iload_n dX5_ofTwo_15 rfl ?_
      refine b_iload_n dX5_ofTwo_16 rfl ?_
      refine b_cSi (as := [vI x1, vI x2]) (st := []) dX5_ofTwo_17 mf_X11_join lk_X5_255 (p_X11_join (f := 2) (Nat.le_refl _) _ _ _ h) (by omega) rfl rfl (Nat.le_of_ble_eq_true rfl) (by decide) rfl (fun _ => rfl) (fun r7 m7 h => ?_) (fun _ h => h)
      refine b_goto 24 dX5_ofTwo_20 (by decide) ?_
      exact b_iret dX5_ofTwo_24 rfl h
theorem dX5_mean_0 : decode cX5_mean 0 = .ok (.aload_n 0, 1) := by decide +kernel
theorem dX5_mean_1 : decode cX5_mean 1 = .ok (.getfield 26, 3) := by decide +kernel
theorem dX5_mean_4 : decode cX5_mean 4 = .ok (.getfield 223, 3) := by decide +kernel
theorem dX5_mean_7 : decode cX5_mean 7 = .ok (.iload_n 1, 1) := by decide +kernel
theorem dX5_mean_8 : decode cX5_mean 8 = .ok (.iload_n 2, 1) := by decide +kernel
theorem dX5_mean_9 : decode cX5_mean 9 = .ok (.iastore, 1) := by decide +kernel
theorem dX5_mean_10 : decode cX5_mean 10 = .ok (.iload_n 3, 1) := by decide +kernel
theorem dX5_mean_11 : decode cX5_mean 11 = .ok (.ireturn, 1) := by decide +kernel
/-! AlgebraHouse$Judge.mean(III)I -/
def P_X5_mean (x1 : Int) (x2 : Int) (x3 : Int) (m : MM) (Q : Int → MM → Prop) : Prop := (isTx (m 372 1)) ∧ (0 ≤ x1 ∧ x1 < 160) ∧ ∀ m1 : MM, m1 = up m ((m 372 1) + 7) x1 x2 → Q x3 m1
theorem p_X5_mean {f : Nat} {Q : Int → MM → Prop} {T : MM → Prop} (hf : 1 ≤ f) (x1 : Int) (x2 : Int) (x3 : Int) (m : MM) (h : P_X5_mean x1 x2 x3 m Q) : CC f M_X5_mean [vR 372, vI x1, vI x2, vI x3] m Q T := by
  refine CC.of (plainFor_of_name (by decide)) (Nat.le_of_ble_eq_true rfl) (ls := [vR 372, vI x1, vI x2, vI x3]) rfl ?_
  have h : (isTx (m 372 1)) ∧ (0 ≤ x1 ∧ x1 < 160) ∧ ∀ m1 : MM, m1 = up m ((m 372 1) + 7) x1 x2 → Q x3 m1 := h
  refine b_aload_n dX5_mean_0 rfl ?_
  refine b_getM dX5_mean_1 fk_X5_26 ly_372 ?_
  obtain ⟨g1, h⟩ := h
  refine b_getR dX5_mean_4 fk_X5_223 (tx_ly0 g1) (tx_gg13 g1) ?_
  refine b_iload_n dX5_mean_7 rfl ?_
  refine b_iload_n dX5_mean_8 rfl ?_
  obtain ⟨g2, h⟩ := h
  refine b_iast dX5_mean_9 (tx_ly7 g1) g2 (fun m1 em1 => ?_)
  have h := h m1 em1
  refine b_iload_n dX5_mean_10 rfl ?_
  exact b_iret dX5_mean_11 rfl h
theorem dX5_named_0 : decode cX5_named 0 = .ok (.aload_n 0, 1) := by decide +kernel
theorem dX5_named_1 : decode cX5_named 1 = .ok (.getfield 33, 3) := by decide +kernel
theorem dX5_named_4 : decode cX5_named 4 = .ok (.ifCond .eq 82, 3) := by decide +kernel
theorem dX5_named_7 : decode cX5_named 7 = .ok (.iconst 1, 1) := by decide +kernel
theorem dX5_named_8 : decode cX5_named 8 = .ok (.istore_n 2, 1) := by decide +kernel
theorem dX5_named_9 : decode cX5_named 9 = .ok (.iload_n 2, 1) := by decide +kernel
theorem dX5_named_10 : decode cX5_named 10 = .ok (.aload_n 0, 1) := by decide +kernel
theorem dX5_named_11 : decode cX5_named 11 = .ok (.getfield 26, 3) := by decide +kernel
theorem dX5_named_14 : decode cX5_named 14 = .ok (.getfield 93, 3) := by decide +kernel
theorem dX5_named_17 : decode cX5_named 17 = .ok (.if_icmp .gt 54, 3) := by decide +kernel
theorem dX5_named_20 : decode cX5_named 20 = .ok (.aload_n 0, 1) := by decide +kernel
theorem dX5_named_21 : decode cX5_named 21 = .ok (.getfield 26, 3) := by decide +kernel
theorem dX5_named_24 : decode cX5_named 24 = .ok (.getfield 107, 3) := by decide +kernel
theorem dX5_named_27 : decode cX5_named 27 = .ok (.iload_n 2, 1) := by decide +kernel
theorem dX5_named_28 : decode cX5_named 28 = .ok (.iconst 1, 1) := by decide +kernel
theorem dX5_named_29 : decode cX5_named 29 = .ok (.isub, 1) := by decide +kernel
theorem dX5_named_30 : decode cX5_named 30 = .ok (.laload, 1) := by decide +kernel
theorem dX5_named_31 : decode cX5_named 31 = .ok (.aload_n 0, 1) := by decide +kernel
theorem dX5_named_32 : decode cX5_named 32 = .ok (.getfield 26, 3) := by decide +kernel
theorem dX5_named_35 : decode cX5_named 35 = .ok (.getfield 176, 3) := by decide +kernel
theorem dX5_named_38 : decode cX5_named 38 = .ok (.iload_n 1, 1) := by decide +kernel
theorem dX5_named_39 : decode cX5_named 39 = .ok (.laload, 1) := by decide +kernel
theorem dX5_named_40 : decode cX5_named 40 = .ok (.lcmp, 1) := by decide +kernel
theorem dX5_named_41 : decode cX5_named 41 = .ok (.ifCond .ne 24, 3) := by decide +kernel
theorem dX5_named_44 : decode cX5_named 44 = .ok (.aload_n 0, 1) := by decide +kernel
theorem dX5_named_45 : decode cX5_named 45 = .ok (.iload_n 1, 1) := by decide +kernel
theorem dX5_named_46 : decode cX5_named 46 = .ok (.iload_n 2, 1) := by decide +kernel
theorem dX5_named_47 : decode cX5_named 47 = .ok (.iconst 1, 1) := by decide +kernel
theorem dX5_named_48 : decode cX5_named 48 = .ok (.isub, 1) := by decide +kernel
theorem dX5_named_49 : decode cX5_named 49 = .ok (.aload_n 0, 1) := by decide +kernel
theorem dX5_named_50 : decode cX5_named 50 = .ok (.getfield 26, 3) := by decide +kernel
theorem dX5_named_53 : decode cX5_named 53 = .ok (.iload_n 2, 1) := by decide +kernel
theorem dX5_named_54 : decode cX5_named 54 = .ok (.aload_n 0, 1) := by decide +kernel
theorem dX5_named_55 : decode cX5_named 55 = .ok (.getfield 30, 3) := by decide +kernel
theorem dX5_named_58 : decode cX5_named 58 = .ok (.invokestatic 165, 3) := by decide +kernel
theorem dX5_named_61 : decode cX5_named 61 = .ok (.invokevirtual 217, 3) := by decide +kernel
theorem dX5_named_64 : decode cX5_named 64 = .ok (.ireturn, 1) := by decide +kernel
theorem dX5_named_65 : decode cX5_named 65 = .ok (.iinc 2 1, 3) := by decide +kernel
theorem dX5_named_68 : decode cX5_named 68 = .ok (.goto (-59), 3) := by decide +kernel
theorem dX5_named_71 : decode cX5_named 71 = .ok (.aload_n 0, 1) := by decide +kernel
theorem dX5_named_72 : decode cX5_named 72 = .ok (.iconst 3, 1) := by decide +kernel
theorem dX5_named_73 : decode cX5_named 73 = .ok (.aload_n 0, 1) := by decide +kernel
theorem dX5_named_74 : decode cX5_named 74 = .ok (.getfield 26, 3) := by decide +kernel
theorem dX5_named_77 : decode cX5_named 77 = .ok (.getfield 174, 3) := by decide +kernel
theorem dX5_named_80 : decode cX5_named 80 = .ok (.iload_n 1, 1) := by decide +kernel
theorem dX5_named_81 : decode cX5_named 81 = .ok (.iaload, 1) := by decide +kernel
theorem dX5_named_82 : decode cX5_named 82 = .ok (.invokevirtual 114, 3) := by decide +kernel
theorem dX5_named_85 : decode cX5_named 85 = .ok (.ireturn, 1) := by decide +kernel
theorem dX5_named_86 : decode cX5_named 86 = .ok (.aload_n 0, 1) := by decide +kernel
theorem dX5_named_87 : decode cX5_named 87 = .ok (.getfield 15, 3) := by decide +kernel
theorem dX5_named_90 : decode cX5_named 90 = .ok (.aload_n 0, 1) := by decide +kernel
theorem dX5_named_91 : decode cX5_named 91 = .ok (.getfield 26, 3) := by decide +kernel
theorem dX5_named_94 : decode cX5_named 94 = .ok (.getfield 176, 3) := by decide +kernel
theorem dX5_named_97 : decode cX5_named 97 = .ok (.iload_n 1, 1) := by decide +kernel
theorem dX5_named_98 : decode cX5_named 98 = .ok (.laload, 1) := by decide +kernel
theorem dX5_named_99 : decode cX5_named 99 = .ok (.invokevirtual 77, 3) := by decide +kernel
theorem dX5_named_102 : decode cX5_named 102 = .ok (.istore_n 2, 1) := by decide +kernel
theorem dX5_named_103 : decode cX5_named 103 = .ok (.iload_n 2, 1) := by decide +kernel
theorem dX5_named_104 : decode cX5_named 104 = .ok (.iconst (-1), 1) := by decide +kernel
theorem dX5_named_105 : decode cX5_named 105 = .ok (.if_icmp .ne 20, 3) := by decide +kernel
theorem dX5_named_108 : decode cX5_named 108 = .ok (.aload_n 0, 1) := by decide +kernel
theorem dX5_named_109 : decode cX5_named 109 = .ok (.iconst 3, 1) := by decide +kernel
theorem dX5_named_110 : decode cX5_named 110 = .ok (.aload_n 0, 1) := by decide +kernel
theorem dX5_named_111 : decode cX5_named 111 = .ok (.getfield 26, 3) := by decide +kernel
theorem dX5_named_114 : decode cX5_named 114 = .ok (.getfield 174, 3) := by decide +kernel
theorem dX5_named_117 : decode cX5_named 117 = .ok (.iload_n 1, 1) := by decide +kernel
theorem dX5_named_118 : decode cX5_named 118 = .ok (.iaload, 1) := by decide +kernel
theorem dX5_named_119 : decode cX5_named 119 = .ok (.invokevirtual 114, 3) := by decide +kernel
theorem dX5_named_122 : decode cX5_named 122 = .ok (.goto 18, 3) := by decide +kernel
theorem dX5_named_125 : decode cX5_named 125 = .ok (.aload_n 0, 1) := by decide +kernel
theorem dX5_named_126 : decode cX5_named 126 = .ok (.iload_n 1, 1) := by decide +kernel
theorem dX5_named_127 : decode cX5_named 127 = .ok (.iload_n 2, 1) := by decide +kernel
theorem dX5_named_128 : decode cX5_named 128 = .ok (.aload_n 0, 1) := by decide +kernel
theorem dX5_named_129 : decode cX5_named 129 = .ok (.getfield 15, 3) := by decide +kernel
theorem dX5_named_132 : decode cX5_named 132 = .ok (.getfield 220, 3) := by decide +kernel
theorem dX5_named_135 : decode cX5_named 135 = .ok (.iload_n 2, 1) := by decide +kernel
theorem dX5_named_136 : decode cX5_named 136 = .ok (.iaload, 1) := by decide +kernel
theorem dX5_named_137 : decode cX5_named 137 = .ok (.invokevirtual 217, 3) := by decide +kernel
theorem dX5_named_140 : decode cX5_named 140 = .ok (.ireturn, 1) := by decide +kernel
/-! AlgebraHouse$Judge.named(I)I -/
def P_X5_named_44 (Q : Int → MM → Prop) (x1 : Int) (x2 : Int) (m : MM) : Prop := P_X1_ring (m 372 1) x2 (m 372 3) m (fun r1 m1 => P_X5_mean x1 (x2 - 1) r1 m1 (fun r2 m2 => Q r2 m2))
def P_X5_named_71 (Q : Int → MM → Prop) (x1 : Int) (m : MM) : Prop := (isTx (m 372 1)) ∧ (0 ≤ x1 ∧ x1 < 160) ∧ P_X5_fail 3 (m ((m 372 1) + 5) x1) m (fun r1 m1 => Q r1 m1)
def P_X5_named_9 (Q : Int → MM → Prop) : Nat → Int → Int → MM → Prop
  | 0, _, _, _ => False
  | n + 1, x1, x2, m => (isTx (m 372 1)) ∧ (RI x2) ∧ (RI (m (m 372 1) 5)) ∧ (if (m (m 372 1) 5) < x2 then P_X5_named_71 Q x1 m else (0 ≤ (x2 - 1) ∧ (x2 - 1) < 3) ∧ (0 ≤ x1 ∧ x1 < 160) ∧ (RL (m ((m 372 1) + 10) (x2 - 1))) ∧ (RL (m ((m 372 1) + 9) x1)) ∧ (if (m ((m 372 1) + 10) (x2 - 1)) = (m ((m 372 1) + 9) x1) then P_X5_named_44 Q x1 x2 m else P_X5_named_9 Q n x1 (x2 + 1) m))
def P_X5_named (x1 : Int) (m : MM) (Q : Int → MM → Prop) : Prop := (RI (m 372 4)) ∧ (if (m 372 4) = 0 then (isTx (m 372 1)) ∧ (0 ≤ x1 ∧ x1 < 160) ∧ P_X1_variable (m ((m 372 1) + 9) x1) m (fun r1 m1 => (RI r1) ∧ (if r1 = (-1) then (isTx (m1 372 1)) ∧ P_X5_fail 3 (m1 ((m1 372 1) + 5) x1) m1 (fun r3 m3 => Q r3 m3) else (0 ≤ r1 ∧ r1 < 20) ∧ P_X5_mean x1 r1 (m1 6 r1) m1 (fun r2 m2 => Q r2 m2))) else ∃ nn, P_X5_named_9 Q nn x1 1 m)
theorem pl_X5_named_44 {f : Nat} {Q : Int → MM → Prop} {T : MM → Prop} (hf : 3 ≤ f) : ∀ (x1 : Int) (x2 : Int) (m : MM), P_X5_named_44 Q x1 x2 m → B f M_X5_named 44 [vR 372, vI x1, vI x2] [] m Q T := by
  intro x1 x2 m h
  have h : P_X1_ring (m 372 1) x2 (m 372 3) m (fun r1 m1 => P_X5_mean x1 (x2 - 1) r1 m1 (fun r2 m2 => Q r2 m2)) := h
  refine b_aload_n dX5_named_44 rfl ?_
  refine b_iload_n dX5_named_45 rfl ?_
  refine b_iload_n dX5_named_46 rfl ?_
  refine b_iconst dX5_named_47 ?_
  refine b_isub dX5_named_48 ?_
  refine b_aload_n dX5_named_49 rfl ?_
  refine b_getM dX5_named_50 fk_X5_26 ly_372 ?_
  refine b_iload_n dX5_named_53 rfl ?_
  refine b_aload_n dX5_named_54 rfl ?_
  refine b_getI dX5_named_55 fk_X5_30 ly_372 ?_
  refine b_cSi (as := [vR (m 372 1), vI x2, vI (m 372 3)]) (st := [vI (x2 - 1), vI x1, vR 372]) dX5_named_58 mf_X1_ring lk_X5_165 (p_X1_ring (f := 2) (Nat.le_refl _) _ _ _ _ h) (by omega) rfl rfl (Nat.le_of_ble_eq_true rfl) (by decide) rfl (fun _ => rfl) (fun r1 m1 h => ?_) (fun _ h => h)
  refine b_cVi (as := [vI x1, vI (x2 - 1), vI r1]) (st := []) dX5_named_61 mf_X5_mean qs45 lk_X5_217 ly_372 rfl (p_X5_mean (f := 1) (Nat.le_refl _) _ _ _ _ h) (by omega) rfl rfl (Nat.le_of_ble_eq_true rfl) (by decide) rfl (fun _ => rfl) (fun r2 m2 h => ?_) (fun _ h => h)
  exact b_iret dX5_named_64 rfl h
theorem pl_X5_named_71 {f : Nat} {Q : Int → MM → Prop} {T : MM → Prop} (hf : 3 ≤ f) : ∀ (x1 : Int) (m : MM), P_X5_named_71 Q x1 m → B f M_X5_named 71 [vR 372, vI x1, vU] [] m Q T := by
  intro x1 m h
  have h : (isTx (m 372 1)) ∧ (0 ≤ x1 ∧ x1 < 160) ∧ P_X5_fail 3 (m ((m 372 1) + 5) x1) m (fun r1 m1 => Q r1 m1) := h
  refine b_aload_n dX5_named_71 rfl ?_
  refine b_iconst dX5_named_72 ?_
  refine b_aload_n dX5_named_73 rfl ?_
  refine b_getM dX5_named_74 fk_X5_26 ly_372 ?_
  obtain ⟨g1, h⟩ := h
  refine b_getR dX5_named_77 fk_X5_174 (tx_ly0 g1) (tx_gg11 g1) ?_
  refine b_iload_n dX5_named_80 rfl ?_
  obtain ⟨g2, h⟩ := h
  refine b_iald dX5_named_81 (tx_ly5 g1) g2 ?_
  refine b_cVi (as := [vI 3, vI (m ((m 372 1) + 5) x1)]) (st := []) dX5_named_82 mf_X5_fail qs37 lk_X5_114 ly_372 rfl (p_X5_fail (f := 1) (Nat.le_refl _) _ _ _ h) (by omega) rfl rfl (Nat.le_of_ble_eq_true rfl) (by decide) rfl (fun _ => rfl) (fun r1 m1 h => ?_) (fun _ h => h)
  exact b_iret dX5_named_85 rfl h
theorem pl_X5_named_9 {f : Nat} {Q : Int → MM → Prop} {T : MM → Prop} (hf : 3 ≤ f) : ∀ (n : Nat) (x1 : Int) (x2 : Int) (m : MM), P_X5_named_9 Q n x1 x2 m → B f M_X5_named 9 [vR 372, vI x1, vI x2] [] m Q T := by
  intro n
  induction n with
  | zero => intro x1 x2 m h; exact h.elim
  | succ n ih =>
    intro x1 x2 m h
    have h : (isTx (m 372 1)) ∧ (RI x2) ∧ (RI (m (m 372 1) 5)) ∧ (if (m (m 372 1) 5) < x2 then P_X5_named_71 Q x1 m else (0 ≤ (x2 - 1) ∧ (x2 - 1) < 3) ∧ (0 ≤ x1 ∧ x1 < 160) ∧ (RL (m ((m 372 1) + 10) (x2 - 1))) ∧ (RL (m ((m 372 1) + 9) x1)) ∧ (if (m ((m 372 1) + 10) (x2 - 1)) = (m ((m 372 1) + 9) x1) then P_X5_named_44 Q x1 x2 m else P_X5_named_9 Q n x1 (x2 + 1) m)) := h
    refine b_iload_n dX5_named_9 rfl ?_
    refine b_aload_n dX5_named_10 rfl ?_
    refine b_getM dX5_named_11 fk_X5_26 ly_372 ?_
    obtain ⟨g1, h⟩ := h
    refine b_getI dX5_named_14 fk_X5_93 (tx_ly0 g1) ?_
    obtain ⟨g2, h⟩ := h
    obtain ⟨g3, h⟩ := h
    refine b_icmp_gt 71 dX5_named_17 g2 g3 (by decide) (fun c1 => ?_) (fun c1 => ?_)
    · have h := ifT c1 h
      refine b_fgt [true, true, false] (ls' := [vR 372, vI x1, vU]) rfl rfl ?_
      exact pl_X5_named_71 hf _ _ h
    · have h := ifF c1 h
      refine b_aload_n dX5_named_20 rfl ?_
      refine b_getM dX5_named_21 fk_X5_26 ly_372 ?_
      refine b_getR dX5_named_24 fk_X5_107 (tx_ly0 g1) (tx_gg17 g1) ?_
      refine b_iload_n dX5_named_27 rfl ?_
      refine b_iconst dX5_named_28 ?_
      refine b_isub dX5_named_29 ?_
      obtain ⟨g4, h⟩ := h
      refine b_lald dX5_named_30 (tx_ly10 g1) g4 ?_
      refine b_aload_n dX5_named_31 rfl ?_
      refine b_getM dX5_named_32 fk_X5_26 ly_372 ?_
      refine b_getR dX5_named_35 fk_X5_176 (tx_ly0 g1) (tx_gg15 g1) ?_
      refine b_iload_n dX5_named_38 rfl ?_
      obtain ⟨g5, h⟩ := h
      refine b_lald dX5_named_39 (tx_ly9 g1) g5 ?_
      obtain ⟨g6, h⟩ := h
      obtain ⟨g7, h⟩ := h
      refine b_lc_ne 65 dX5_named_40 dX5_named_41 g6 g7 (by decide) (fun c2 => ?_) (fun c2 => ?_)
      · have h := ifF c2 h
        refine b_iinc (ls' := [vR 372, vI x1, vI (x2 + 1)]) dX5_named_65 rfl rfl ?_
        refine b_goto 9 dX5_named_68 (by decide) ?_
        exact ih _ _ _ h
      · have h := ifT (Decidable.of_not_not c2) h
        exact pl_X5_named_44 hf _ _ _ h
theorem p_X5_named {f : Nat} {Q : Int → MM → Prop} {T : MM → Prop} (hf : 3 ≤ f) (x1 : Int) (m : MM) (h : P_X5_named x1 m Q) : CC f M_X5_named [vR 372, vI x1] m Q T := by
  refine CC.of (plainFor_of_name (by decide)) (Nat.le_of_ble_eq_true rfl) (ls := [vR 372, vI x1, vU]) rfl ?_
  have h : (RI (m 372 4)) ∧ (if (m 372 4) = 0 then (isTx (m 372 1)) ∧ (0 ≤ x1 ∧ x1 < 160) ∧ P_X1_variable (m ((m 372 1) + 9) x1) m (fun r1 m1 => (RI r1) ∧ (if r1 = (-1) then (isTx (m1 372 1)) ∧ P_X5_fail 3 (m1 ((m1 372 1) + 5) x1) m1 (fun r3 m3 => Q r3 m3) else (0 ≤ r1 ∧ r1 < 20) ∧ P_X5_mean x1 r1 (m1 6 r1) m1 (fun r2 m2 => Q r2 m2))) else ∃ nn, P_X5_named_9 Q nn x1 1 m) := h
  refine b_aload_n dX5_named_0 rfl ?_
  refine b_getZ dX5_named_1 fk_X5_33 ly_372 ?_
  obtain ⟨g1, h⟩ := h
  refine b_if_eq 86 dX5_named_4 g1 (by decide) (fun c1 => ?_) (fun c1 => ?_)
  · have h := ifT c1 h
    refine b_aload_n dX5_named_86 rfl ?_
    refine b_getR dX5_named_87 fk_X5_15 ly_372 gg_372_0 ?_
    refine b_aload_n dX5_named_90 rfl ?_
    refine b_getM dX5_named_91 fk_X5_26 ly_372 ?_
    obtain ⟨g2, h⟩ := h
    refine b_getR dX5_named_94 fk_X5_176 (tx_ly0 g2) (tx_gg15 g2) ?_
    refine b_iload_n dX5_named_97 rfl ?_
    obtain ⟨g3, h⟩ := h
    refine b_lald dX5_named_98 (tx_ly9 g2) g3 ?_
    refine b_cVi (as := [vL (m ((m 372 1) + 9) x1)]) (st := []) dX5_named_99 mf_X1_variable q1112 lk_X5_77 ly_3 rfl (p_X1_variable (f := 1) (Nat.le_refl _) _ _ h) (by omega) rfl rfl (Nat.le_of_ble_eq_true rfl) (by decide) rfl (fun _ => rfl) (fun r1 m1 h => ?_) (fun _ h => h)
    refine b_istore_n (ls' := [vR 372, vI x1, vI r1]) dX5_named_102 (Nat.le_of_ble_eq_true rfl) rfl ?_
    refine b_iload_n dX5_named_103 rfl ?_
    refine b_iconst dX5_named_104 ?_
    obtain ⟨g4, h⟩ := h
    refine b_icmp_ne 125 dX5_named_105 g4 (by decide) (by decide) (fun c2 => ?_) (fun c2 => ?_)
    · have h := ifF c2 h
      refine b_aload_n dX5_named_125 rfl ?_
      refine b_iload_n dX5_named_126 rfl ?_
      refine b_iload_n dX5_named_127 rfl ?_
      refine b_aload_n dX5_named_128 rfl ?_
      refine b_getR dX5_named_129 fk_X5_15 ly_372 gg_372_0 ?_
      refine b_getR dX5_named_132 fk_X5_220 ly_3 gg_3_5 ?_
      refine b_iload_n dX5_named_135 rfl ?_
      obtain ⟨g5, h⟩ := h
      refine b_iald dX5_named_136 ly_6 g5 ?_
      refine b_cVi (as := [vI x1, vI r1, vI (m1 6 r1)]) (st := []) dX5_named_137 mf_X5_mean qs45 lk_X5_217 ly_372 rfl (p_X5_mean (f := 1) (Nat.le_refl _) _ _ _ _ h) (by omega) rfl rfl (Nat.le_of_ble_eq_true rfl) (by decide) rfl (fun _ => rfl) (fun r2 m2 h => ?_) (fun _ h => h)
      exact b_iret dX5_named_140 rfl h
    · have h := ifT (Decidable.of_not_not c2) h
      refine b_aload_n dX5_named_108 rfl ?_
      refine b_iconst dX5_named_109 ?_
      refine b_aload_n dX5_named_110 rfl ?_
      refine b_getM dX5_named_111 fk_X5_26 ly_372 ?_
      obtain ⟨g6, h⟩ := h
      refine b_getR dX5_named_114 fk_X5_174 (tx_ly0 g6) (tx_gg11 g6) ?_
      refine b_iload_n dX5_named_117 rfl ?_
      refine b_iald dX5_named_118 (tx_ly5 g6) g3 ?_
      refine b_cVi (as := [vI 3, vI (m1 ((m1 372 1) + 5) x1)]) (st := []) dX5_named_119 mf_X5_fail qs37 lk_X5_114 ly_372 rfl (p_X5_fail (f := 1) (Nat.le_refl _) _ _ _ h) (by omega) rfl rfl (Nat.le_of_ble_eq_true rfl) (by decide) rfl (fun _ => rfl) (fun r3 m3 h => ?_) (fun _ h => h)
      refine b_goto 140 dX5_named_122 (by decide) ?_
      exact b_iret dX5_named_140 rfl h
  · have h := ifF c1 h
    refine b_iconst dX5_named_7 ?_
    refine b_istore_n (ls' := [vR 372, vI x1, vI 1]) dX5_named_8 (Nat.le_of_ble_eq_true rfl) rfl ?_
    obtain ⟨nn, h⟩ := h
    exact pl_X5_named_9 hf nn _ _ _ h
theorem dX5_inner_0 : decode cX5_inner 0 = .ok (.aload_n 0, 1) := by decide +kernel
theorem dX5_inner_1 : decode cX5_inner 1 = .ok (.getfield 26, 3) := by decide +kernel
theorem dX5_inner_4 : decode cX5_inner 4 = .ok (.getfield 149, 3) := by decide +kernel
theorem dX5_inner_7 : decode cX5_inner 7 = .ok (.iload_n 1, 1) := by decide +kernel
theorem dX5_inner_8 : decode cX5_inner 8 = .ok (.iaload, 1) := by decide +kernel
theorem dX5_inner_9 : decode cX5_inner 9 = .ok (.istore_n 2, 1) := by decide +kernel
theorem dX5_inner_10 : decode cX5_inner 10 = .ok (.aload_n 0, 1) := by decide +kernel
theorem dX5_inner_11 : decode cX5_inner 11 = .ok (.iload_n 2, 1) := by decide +kernel
theorem dX5_inner_12 : decode cX5_inner 12 = .ok (.invokevirtual 134, 3) := by decide +kernel
theorem dX5_inner_15 : decode cX5_inner 15 = .ok (.istore_n 3, 1) := by decide +kernel
theorem dX5_inner_16 : decode cX5_inner 16 = .ok (.iload_n 3, 1) := by decide +kernel
theorem dX5_inner_17 : decode cX5_inner 17 = .ok (.bipush (-3), 2) := by decide +kernel
theorem dX5_inner_19 : decode cX5_inner 19 = .ok (.if_icmp .ne 6, 3) := by decide +kernel
theorem dX5_inner_22 : decode cX5_inner 22 = .ok (.bipush (-3), 2) := by decide +kernel
theorem dX5_inner_24 : decode cX5_inner 24 = .ok (.ireturn, 1) := by decide +kernel
theorem dX5_inner_25 : decode cX5_inner 25 = .ok (.iload_n 3, 1) := by decide +kernel
theorem dX5_inner_26 : decode cX5_inner 26 = .ok (.bipush (-2), 2) := by decide +kernel
theorem dX5_inner_28 : decode cX5_inner 28 = .ok (.if_icmp .eq 10, 3) := by decide +kernel
theorem dX5_inner_31 : decode cX5_inner 31 = .ok (.iload_n 3, 1) := by decide +kernel
theorem dX5_inner_32 : decode cX5_inner 32 = .ok (.invokestatic 185, 3) := by decide +kernel
theorem dX5_inner_35 : decode cX5_inner 35 = .ok (.ifCond .eq 20, 3) := by decide +kernel
theorem dX5_inner_38 : decode cX5_inner 38 = .ok (.aload_n 0, 1) := by decide +kernel
theorem dX5_inner_39 : decode cX5_inner 39 = .ok (.iconst 4, 1) := by decide +kernel
theorem dX5_inner_40 : decode cX5_inner 40 = .ok (.aload_n 0, 1) := by decide +kernel
theorem dX5_inner_41 : decode cX5_inner 41 = .ok (.getfield 26, 3) := by decide +kernel
theorem dX5_inner_44 : decode cX5_inner 44 = .ok (.getfield 174, 3) := by decide +kernel
theorem dX5_inner_47 : decode cX5_inner 47 = .ok (.iload_n 2, 1) := by decide +kernel
theorem dX5_inner_48 : decode cX5_inner 48 = .ok (.iaload, 1) := by decide +kernel
theorem dX5_inner_49 : decode cX5_inner 49 = .ok (.invokevirtual 114, 3) := by decide +kernel
theorem dX5_inner_52 : decode cX5_inner 52 = .ok (.goto 4, 3) := by decide +kernel
theorem dX5_inner_55 : decode cX5_inner 55 = .ok (.iload_n 3, 1) := by decide +kernel
theorem dX5_inner_56 : decode cX5_inner 56 = .ok (.ireturn, 1) := by decide +kernel
/-! AlgebraHouse$Judge.inner(I)I -/
def P_X5_inner_38 (rec : Nat → List Int → MM → (Int → MM → Prop) → (MM → Prop) → Prop) (Q : Int → MM → Prop) (T : MM → Prop) (x2 : Int) (m : MM) : Prop := (isTx (m 372 1)) ∧ (0 ≤ x2 ∧ x2 < 160) ∧ P_X5_fail 4 (m ((m 372 1) + 5) x2) m (fun r1 m1 => Q r1 m1)
def W_X5_inner (rec : Nat → List Int → MM → (Int → MM → Prop) → (MM → Prop) → Prop) (x1 : Int) (m : MM) (Q : Int → MM → Prop) (T : MM → Prop) : Prop := (isTx (m 372 1)) ∧ (0 ≤ x1 ∧ x1 < 160) ∧ rec 1 [(m ((m 372 1) + 2) x1)] m (fun r1 m1 => (RI r1) ∧ (if r1 = (-3) then Q (-3) m1 else (if r1 = (-2) then P_X5_inner_38 rec Q T (m ((m 372 1) + 2) x1) m1 else P_X11_size r1 m1 (fun r2 m2 => (RI r2) ∧ (if r2 = 0 then Q r1 m2 else P_X5_inner_38 rec Q T (m ((m 372 1) + 2) x1) m2))))) T
theorem dX5_type_0 : decode cX5_type 0 = .ok (.aload_n 0, 1) := by decide +kernel
theorem dX5_type_1 : decode cX5_type 1 = .ok (.getfield 26, 3) := by decide +kernel
theorem dX5_type_4 : decode cX5_type 4 = .ok (.getfield 143, 3) := by decide +kernel
theorem dX5_type_7 : decode cX5_type 7 = .ok (.iload_n 1, 1) := by decide +kernel
theorem dX5_type_8 : decode cX5_type 8 = .ok (.iaload, 1) := by decide +kernel
theorem dX5_type_9 : decode cX5_type 9 = .ok (.tableswitch 188 30 34 #[35, 50, 53, 83, 144], 35) := by decide +kernel
theorem dX5_type_44 : decode cX5_type 44 = .ok (.aload_n 0, 1) := by decide +kernel
theorem dX5_type_45 : decode cX5_type 45 = .ok (.getfield 26, 3) := by decide +kernel
theorem dX5_type_48 : decode cX5_type 48 = .ok (.getfield 146, 3) := by decide +kernel
theorem dX5_type_51 : decode cX5_type 51 = .ok (.iload_n 1, 1) := by decide +kernel
theorem dX5_type_52 : decode cX5_type 52 = .ok (.iaload, 1) := by decide +kernel
theorem dX5_type_53 : decode cX5_type 53 = .ok (.iconst 0, 1) := by decide +kernel
theorem dX5_type_54 : decode cX5_type 54 = .ok (.iconst 0, 1) := by decide +kernel
theorem dX5_type_55 : decode cX5_type 55 = .ok (.invokestatic 89, 3) := by decide +kernel
theorem dX5_type_58 : decode cX5_type 58 = .ok (.ireturn, 1) := by decide +kernel
theorem dX5_type_59 : decode cX5_type 59 = .ok (.bipush (-2), 2) := by decide +kernel
theorem dX5_type_61 : decode cX5_type 61 = .ok (.ireturn, 1) := by decide +kernel
theorem dX5_type_62 : decode cX5_type 62 = .ok (.aload_n 0, 1) := by decide +kernel
theorem dX5_type_63 : decode cX5_type 63 = .ok (.getfield 30, 3) := by decide +kernel
theorem dX5_type_66 : decode cX5_type 66 = .ok (.iconst (-1), 1) := by decide +kernel
theorem dX5_type_67 : decode cX5_type 67 = .ok (.if_icmp .ne 20, 3) := by decide +kernel
theorem dX5_type_70 : decode cX5_type 70 = .ok (.aload_n 0, 1) := by decide +kernel
theorem dX5_type_71 : decode cX5_type 71 = .ok (.iconst 3, 1) := by decide +kernel
theorem dX5_type_72 : decode cX5_type 72 = .ok (.aload_n 0, 1) := by decide +kernel
theorem dX5_type_73 : decode cX5_type 73 = .ok (.getfield 26, 3) := by decide +kernel
theorem dX5_type_76 : decode cX5_type 76 = .ok (.getfield 174, 3) := by decide +kernel
theorem dX5_type_79 : decode cX5_type 79 = .ok (.iload_n 1, 1) := by decide +kernel
theorem dX5_type_80 : decode cX5_type 80 = .ok (.iaload, 1) := by decide +kernel
theorem dX5_type_81 : decode cX5_type 81 = .ok (.invokevirtual 114, 3) := by decide +kernel
theorem dX5_type_84 : decode cX5_type 84 = .ok (.goto 7, 3) := by decide +kernel
theorem dX5_type_87 : decode cX5_type 87 = .ok (.aload_n 0, 1) := by decide +kernel
theorem dX5_type_88 : decode cX5_type 88 = .ok (.getfield 30, 3) := by decide +kernel
theorem dX5_type_91 : decode cX5_type 91 = .ok (.ireturn, 1) := by decide +kernel
theorem dX5_type_92 : decode cX5_type 92 = .ok (.aload_n 0, 1) := by decide +kernel
theorem dX5_type_93 : decode cX5_type 93 = .ok (.getfield 26, 3) := by decide +kernel
theorem dX5_type_96 : decode cX5_type 96 = .ok (.getfield 146, 3) := by decide +kernel
theorem dX5_type_99 : decode cX5_type 99 = .ok (.iload_n 1, 1) := by decide +kernel
theorem dX5_type_100 : decode cX5_type 100 = .ok (.iaload, 1) := by decide +kernel
theorem dX5_type_101 : decode cX5_type 101 = .ok (.iconst 2, 1) := by decide +kernel
theorem dX5_type_102 : decode cX5_type 102 = .ok (.if_icmp .lt 18, 3) := by decide +kernel
theorem dX5_type_105 : decode cX5_type 105 = .ok (.aload_n 0, 1) := by decide +kernel
theorem dX5_type_106 : decode cX5_type 106 = .ok (.getfield 26, 3) := by decide +kernel
theorem dX5_type_109 : decode cX5_type 109 = .ok (.getfield 146, 3) := by decide +kernel
theorem dX5_type_112 : decode cX5_type 112 = .ok (.iload_n 1, 1) := by decide +kernel
theorem dX5_type_113 : decode cX5_type 113 = .ok (.iaload, 1) := by decide +kernel
theorem dX5_type_114 : decode cX5_type 114 = .ok (.sipush 9973, 3) := by decide +kernel
theorem dX5_type_117 : decode cX5_type 117 = .ok (.if_icmp .le 21, 3) := by decide +kernel
theorem dX5_type_120 : decode cX5_type 120 = .ok (.aload_n 0, 1) := by decide +kernel
theorem dX5_type_121 : decode cX5_type 121 = .ok (.iconst 4, 1) := by decide +kernel
theorem dX5_type_122 : decode cX5_type 122 = .ok (.aload_n 0, 1) := by decide +kernel
theorem dX5_type_123 : decode cX5_type 123 = .ok (.getfield 26, 3) := by decide +kernel
theorem dX5_type_126 : decode cX5_type 126 = .ok (.getfield 176, 3) := by decide +kernel
theorem dX5_type_129 : decode cX5_type 129 = .ok (.iload_n 1, 1) := by decide +kernel
theorem dX5_type_130 : decode cX5_type 130 = .ok (.laload, 1) := by decide +kernel
theorem dX5_type_131 : decode cX5_type 131 = .ok (.l2i, 1) := by decide +kernel
theorem dX5_type_132 : decode cX5_type 132 = .ok (.invokevirtual 114, 3) := by decide +kernel
theorem dX5_type_135 : decode cX5_type 135 = .ok (.goto 17, 3) := by decide +kernel
theorem dX5_type_138 : decode cX5_type 138 = .ok (.aload_n 0, 1) := by decide +kernel
theorem dX5_type_139 : decode cX5_type 139 = .ok (.getfield 26, 3) := by decide +kernel
theorem dX5_type_142 : decode cX5_type 142 = .ok (.getfield 146, 3) := by decide +kernel
theorem dX5_type_145 : decode cX5_type 145 = .ok (.iload_n 1, 1) := by decide +kernel
theorem dX5_type_146 : decode cX5_type 146 = .ok (.iaload, 1) := by decide +kernel
theorem dX5_type_147 : decode cX5_type 147 = .ok (.iconst 0, 1) := by decide +kernel
theorem dX5_type_148 : decode cX5_type 148 = .ok (.iconst 0, 1) := by decide +kernel
theorem dX5_type_149 : decode cX5_type 149 = .ok (.invokestatic 89, 3) := by decide +kernel
theorem dX5_type_152 : decode cX5_type 152 = .ok (.ireturn, 1) := by decide +kernel
theorem dX5_type_153 : decode cX5_type 153 = .ok (.aload_n 0, 1) := by decide +kernel
theorem dX5_type_154 : decode cX5_type 154 = .ok (.iload_n 1, 1) := by decide +kernel
theorem dX5_type_155 : decode cX5_type 155 = .ok (.invokevirtual 179, 3) := by decide +kernel
theorem dX5_type_158 : decode cX5_type 158 = .ok (.istore_n 2, 1) := by decide +kernel
theorem dX5_type_159 : decode cX5_type 159 = .ok (.iload_n 2, 1) := by decide +kernel
theorem dX5_type_160 : decode cX5_type 160 = .ok (.bipush (-3), 2) := by decide +kernel
theorem dX5_type_162 : decode cX5_type 162 = .ok (.if_icmp .ne 6, 3) := by decide +kernel
theorem dX5_type_165 : decode cX5_type 165 = .ok (.bipush (-3), 2) := by decide +kernel
theorem dX5_type_167 : decode cX5_type 167 = .ok (.ireturn, 1) := by decide +kernel
theorem dX5_type_168 : decode cX5_type 168 = .ok (.iload_n 2, 1) := by decide +kernel
theorem dX5_type_169 : decode cX5_type 169 = .ok (.invokestatic 182, 3) := by decide +kernel
theorem dX5_type_172 : decode cX5_type 172 = .ok (.iconst 2, 1) := by decide +kernel
theorem dX5_type_173 : decode cX5_type 173 = .ok (.if_icmp .ne 20, 3) := by decide +kernel
theorem dX5_type_176 : decode cX5_type 176 = .ok (.aload_n 0, 1) := by decide +kernel
theorem dX5_type_177 : decode cX5_type 177 = .ok (.iconst 4, 1) := by decide +kernel
theorem dX5_type_178 : decode cX5_type 178 = .ok (.aload_n 0, 1) := by decide +kernel
theorem dX5_type_179 : decode cX5_type 179 = .ok (.getfield 26, 3) := by decide +kernel
theorem dX5_type_182 : decode cX5_type 182 = .ok (.getfield 174, 3) := by decide +kernel
theorem dX5_type_185 : decode cX5_type 185 = .ok (.iload_n 1, 1) := by decide +kernel
theorem dX5_type_186 : decode cX5_type 186 = .ok (.iaload, 1) := by decide +kernel
theorem dX5_type_187 : decode cX5_type 187 = .ok (.invokevirtual 114, 3) := by decide +kernel
theorem dX5_type_190 : decode cX5_type 190 = .ok (.goto 6, 3) := by decide +kernel
theorem dX5_type_193 : decode cX5_type 193 = .ok (.iload_n 2, 1) := by decide +kernel
theorem dX5_type_194 : decode cX5_type 194 = .ok (.iconst 4, 1) := by decide +kernel
theorem dX5_type_195 : decode cX5_type 195 = .ok (.iadd, 1) := by decide +kernel
theorem dX5_type_196 : decode cX5_type 196 = .ok (.ireturn, 1) := by decide +kernel
theorem dX5_type_197 : decode cX5_type 197 = .ok (.aload_n 0, 1) := by decide +kernel
theorem dX5_type_198 : decode cX5_type 198 = .ok (.getfield 26, 3) := by decide +kernel
theorem dX5_type_201 : decode cX5_type 201 = .ok (.getfield 146, 3) := by decide +kernel
theorem dX5_type_204 : decode cX5_type 204 = .ok (.iload_n 1, 1) := by decide +kernel
theorem dX5_type_205 : decode cX5_type 205 = .ok (.iaload, 1) := by decide +kernel
theorem dX5_type_206 : decode cX5_type 206 = .ok (.istore_n 3, 1) := by decide +kernel
theorem dX5_type_207 : decode cX5_type 207 = .ok (.iload_n 3, 1) := by decide +kernel
theorem dX5_type_208 : decode cX5_type 208 = .ok (.iconst 1, 1) := by decide +kernel
theorem dX5_type_209 : decode cX5_type 209 = .ok (.if_icmp .lt 8, 3) := by decide +kernel
theorem dX5_type_212 : decode cX5_type 212 = .ok (.iload_n 3, 1) := by decide +kernel
theorem dX5_type_213 : decode cX5_type 213 = .ok (.iconst 3, 1) := by decide +kernel
theorem dX5_type_214 : decode cX5_type 214 = .ok (.if_icmp .le 21, 3) := by decide +kernel
theorem dX5_type_217 : decode cX5_type 217 = .ok (.aload_n 0, 1) := by decide +kernel
theorem dX5_type_218 : decode cX5_type 218 = .ok (.iconst 4, 1) := by decide +kernel
theorem dX5_type_219 : decode cX5_type 219 = .ok (.aload_n 0, 1) := by decide +kernel
theorem dX5_type_220 : decode cX5_type 220 = .ok (.getfield 26, 3) := by decide +kernel
theorem dX5_type_223 : decode cX5_type 223 = .ok (.getfield 176, 3) := by decide +kernel
theorem dX5_type_226 : decode cX5_type 226 = .ok (.iload_n 1, 1) := by decide +kernel
theorem dX5_type_227 : decode cX5_type 227 = .ok (.laload, 1) := by decide +kernel
theorem dX5_type_228 : decode cX5_type 228 = .ok (.l2i, 1) := by decide +kernel
theorem dX5_type_229 : decode cX5_type 229 = .ok (.invokevirtual 114, 3) := by decide +kernel
theorem dX5_type_232 : decode cX5_type 232 = .ok (.goto 4, 3) := by decide +kernel
theorem dX5_type_235 : decode cX5_type 235 = .ok (.iconst 0, 1) := by decide +kernel
theorem dX5_type_236 : decode cX5_type 236 = .ok (.istore 4, 2) := by decide +kernel
theorem dX5_type_238 : decode cX5_type 238 = .ok (.aload_n 0, 1) := by decide +kernel
theorem dX5_type_239 : decode cX5_type 239 = .ok (.iload_n 1, 1) := by decide +kernel
theorem dX5_type_240 : decode cX5_type 240 = .ok (.invokevirtual 179, 3) := by decide +kernel
theorem dX5_type_243 : decode cX5_type 243 = .ok (.istore_n 2, 1) := by decide +kernel
theorem dX5_type_244 : decode cX5_type 244 = .ok (.iload 4, 2) := by decide +kernel
theorem dX5_type_246 : decode cX5_type 246 = .ok (.bipush (-3), 2) := by decide +kernel
theorem dX5_type_248 : decode cX5_type 248 = .ok (.if_icmp .eq 9, 3) := by decide +kernel
theorem dX5_type_251 : decode cX5_type 251 = .ok (.iload_n 2, 1) := by decide +kernel
theorem dX5_type_252 : decode cX5_type 252 = .ok (.bipush (-3), 2) := by decide +kernel
theorem dX5_type_254 : decode cX5_type 254 = .ok (.if_icmp .ne 8, 3) := by decide +kernel
theorem dX5_type_257 : decode cX5_type 257 = .ok (.bipush (-3), 2) := by decide +kernel
theorem dX5_type_259 : decode cX5_type 259 = .ok (.goto 6, 3) := by decide +kernel
theorem dX5_type_262 : decode cX5_type 262 = .ok (.iload_n 2, 1) := by decide +kernel
theorem dX5_type_263 : decode cX5_type 263 = .ok (.iload_n 3, 1) := by decide +kernel
theorem dX5_type_264 : decode cX5_type 264 = .ok (.iadd, 1) := by decide +kernel
theorem dX5_type_265 : decode cX5_type 265 = .ok (.ireturn, 1) := by decide +kernel
/-! AlgebraHouse$Judge.type(I)I -/
def P_X5_type_120 (rec : Nat → List Int → MM → (Int → MM → Prop) → (MM → Prop) → Prop) (Q : Int → MM → Prop) (T : MM → Prop) (x1 : Int) (m : MM) : Prop := (isTx (m 372 1)) ∧ (0 ≤ x1 ∧ x1 < 160) ∧ P_X5_fail 4 (m ((m 372 1) + 9) x1) m (fun r1 m1 => Q r1 m1)
def P_X5_type_236 (rec : Nat → List Int → MM → (Int → MM → Prop) → (MM → Prop) → Prop) (Q : Int → MM → Prop) (T : MM → Prop) (x1 : Int) (x3 : Int) (s0 : Int) (m : MM) : Prop := rec 0 [x1] m (fun r1 m1 => (RI s0) ∧ (if s0 = (-3) then Q (-3) m1 else (RI r1) ∧ (if r1 = (-3) then Q (-3) m1 else Q (r1 + x3) m1))) T
def P_X5_type_217 (rec : Nat → List Int → MM → (Int → MM → Prop) → (MM → Prop) → Prop) (Q : Int → MM → Prop) (T : MM → Prop) (x1 : Int) (x3 : Int) (m : MM) : Prop := (isTx (m 372 1)) ∧ (0 ≤ x1 ∧ x1 < 160) ∧ P_X5_fail 4 (m ((m 372 1) + 9) x1) m (fun r1 m1 => P_X5_type_236 rec Q T x1 x3 r1 m1)
def W_X5_type (rec : Nat → List Int → MM → (Int → MM → Prop) → (MM → Prop) → Prop) (x1 : Int) (m : MM) (Q : Int → MM → Prop) (T : MM → Prop) : Prop := (isTx (m 372 1)) ∧ (0 ≤ x1 ∧ x1 < 160) ∧ (RI (m ((m 372 1) + 1) x1)) ∧ (if (m ((m 372 1) + 1) x1) = 30 then P_X11_of (m ((m 372 1) + 4) x1) 0 0 m (fun r1 m1 => Q r1 m1) else (if (m ((m 372 1) + 1) x1) = 31 then Q (-2) m else (if (m ((m 372 1) + 1) x1) = 32 then (RI (m 372 3)) ∧ (if (m 372 3) = (-1) then P_X5_fail 3 (m ((m 372 1) + 5) x1) m (fun r2 m2 => Q r2 m2) else Q (m 372 3) m) else (if (m ((m 372 1) + 1) x1) = 33 then (RI (m ((m 372 1) + 4) x1)) ∧ (if (m ((m 372 1) + 4) x1) < 2 then P_X5_type_120 rec Q T x1 m else (if (m ((m 372 1) + 4) x1) ≤ 9973 then P_X11_of (m ((m 372 1) + 4) x1) 0 0 m (fun r3 m3 => Q r3 m3) else P_X5_type_120 rec Q T x1 m)) else (if (m ((m 372 1) + 1) x1) = 34 then rec 0 [x1] m (fun r4 m4 => (RI r4) ∧ (if r4 = (-3) then Q (-3) m4 else P_X11_depth r4 m4 (fun r5 m5 => (RI r5) ∧ (if r5 = 2 then (isTx (m5 372 1)) ∧ P_X5_fail 4 (m5 ((m5 372 1) + 5) x1) m5 (fun r6 m6 => Q r6 m6) else Q (r4 + 4) m5)))) T else (RI (m ((m 372 1) + 4) x1)) ∧ (if (m ((m 372 1) + 4) x1) < 1 then P_X5_type_217 rec Q T x1 (m ((m 372 1) + 4) x1) m else (if (m ((m 372 1) + 4) x1) ≤ 3 then P_X5_type_236 rec Q T x1 (m ((m 372 1) + 4) x1) 0 m else P_X5_type_217 rec Q T x1 (m ((m 372 1) + 4) x1) m)))))))
def HR_X5_type (rec : Nat → List Int → MM → (Int → MM → Prop) → (MM → Prop) → Prop) (fr : Nat) : Prop := (∀ (x1 : Int) (m : MM) (Q : Int → MM → Prop) (T : MM → Prop), rec 0 [x1] m Q T → CC fr M_X5_inner [vR 372, vI x1] m Q T) ∧ (∀ (x1 : Int) (m : MM) (Q : Int → MM → Prop) (T : MM → Prop), rec 1 [x1] m Q T → CC fr M_X5_type [vR 372, vI x1] m Q T) ∧ True
theorem pl_X5_inner_38 {f : Nat} {Q : Int → MM → Prop} {T : MM → Prop} {rec : Nat → List Int → MM → (Int → MM → Prop) → (MM → Prop) → Prop} {fr : Nat} (hrec : HR_X5_type rec fr) (hf : 2 ≤ f ∧ fr + 1 ≤ f) : ∀ (x2 : Int) (m : MM), P_X5_inner_38 rec Q T x2 m → B f M_X5_inner 38 [vR 372, vU, vI x2, vU] [] m Q T := by
  intro x2 m h
  have h : (isTx (m 372 1)) ∧ (0 ≤ x2 ∧ x2 < 160) ∧ P_X5_fail 4 (m ((m 372 1) + 5) x2) m (fun r1 m1 => Q r1 m1) := h
  refine b_aload_n dX5_inner_38 rfl ?_
  refine b_iconst dX5_inner_39 ?_
  refine b_aload_n dX5_inner_40 rfl ?_
  refine b_getM dX5_inner_41 fk_X5_26 ly_372 ?_
  obtain ⟨g1, h⟩ := h
  refine b_getR dX5_inner_44 fk_X5_174 (tx_ly0 g1) (tx_gg11 g1) ?_
  refine b_iload_n dX5_inner_47 rfl ?_
  obtain ⟨g2, h⟩ := h
  refine b_iald dX5_inner_48 (tx_ly5 g1) g2 ?_
  refine b_cVi (as := [vI 4, vI (m ((m 372 1) + 5) x2)]) (st := []) dX5_inner_49 mf_X5_fail qs37 lk_X5_114 ly_372 rfl (p_X5_fail (f := 1) (Nat.le_refl _) _ _ _ h) (by omega) rfl rfl (Nat.le_of_ble_eq_true rfl) (by decide) rfl (fun _ => rfl) (fun r1 m1 h => ?_) (fun _ h => h)
  refine b_goto 56 dX5_inner_52 (by decide) ?_
  exact b_iret dX5_inner_56 rfl h
theorem w_X5_inner {f : Nat} {Q : Int → MM → Prop} {T : MM → Prop} {rec : Nat → List Int → MM → (Int → MM → Prop) → (MM → Prop) → Prop} {fr : Nat} (hrec : HR_X5_type rec fr) (hf : 2 ≤ f ∧ fr + 1 ≤ f) (x1 : Int) (m : MM) (h : W_X5_inner rec x1 m Q T) : CC f M_X5_inner [vR 372, vI x1] m Q T := by
  refine CC.of (plainFor_of_name (by decide)) (Nat.le_of_ble_eq_true rfl) (ls := [vR 372, vI x1, vU, vU]) rfl ?_
  have h : (isTx (m 372 1)) ∧ (0 ≤ x1 ∧ x1 < 160) ∧ rec 1 [(m ((m 372 1) + 2) x1)] m (fun r1 m1 => (RI r1) ∧ (if r1 = (-3) then Q (-3) m1 else (if r1 = (-2) then P_X5_inner_38 rec Q T (m ((m 372 1) + 2) x1) m1 else P_X11_size r1 m1 (fun r2 m2 => (RI r2) ∧ (if r2 = 0 then Q r1 m2 else P_X5_inner_38 rec Q T (m ((m 372 1) + 2) x1) m2))))) T := h
  refine b_aload_n dX5_inner_0 rfl ?_
  refine b_getM dX5_inner_1 fk_X5_26 ly_372 ?_
  obtain ⟨g1, h⟩ := h
  refine b_getR dX5_inner_4 fk_X5_149 (tx_ly0 g1) (tx_gg8 g1) ?_
  refine b_iload_n dX5_inner_7 rfl ?_
  obtain ⟨g2, h⟩ := h
  refine b_iald dX5_inner_8 (tx_ly2 g1) g2 ?_
  refine b_istore_n (ls' := [vR 372, vI x1, vI (m ((m 372 1) + 2) x1), vU]) dX5_inner_9 (Nat.le_of_ble_eq_true rfl) rfl ?_
  refine b_aload_n dX5_inner_10 rfl ?_
  refine b_iload_n dX5_inner_11 rfl ?_
  refine b_cVi (as := [vI (m ((m 372 1) + 2) x1)]) (st := []) dX5_inner_12 mf_X5_type q1053 lk_X5_134 ly_372 rfl (hrec.2.1 _ _ _ _ h) (by omega) rfl rfl (Nat.le_of_ble_eq_true rfl) (by decide) rfl (fun _ => rfl) (fun r1 m1 h => ?_) (fun _ h => h)
  refine b_istore_n (ls' := [vR 372, vI x1, vI (m ((m 372 1) + 2) x1), vI r1]) dX5_inner_15 (Nat.le_of_ble_eq_true rfl) rfl ?_
  refine b_iload_n dX5_inner_16 rfl ?_
  refine b_bipush dX5_inner_17 (by decide) ?_
  obtain ⟨g3, h⟩ := h
  refine b_icmp_ne 25 dX5_inner_19 g3 (by decide) (by decide) (fun c1 => ?_) (fun c1 => ?_)
  · have h := ifF c1 h
    refine b_iload_n dX5_inner_25 rfl ?_
    refine b_bipush dX5_inner_26 (by decide) ?_
    refine b_icmp_eq 38 dX5_inner_28 g3 (by decide) (by decide) (fun c2 => ?_) (fun c2 => ?_)
    · have h := ifT c2 h
      refine b_fgt [true, false, true, false] (ls' := [vR 372, vU, vI (m ((m 372 1) + 2) x1), vU]) rfl rfl ?_
      exact pl_X5_inner_38 hrec hf _ _ h
    · have h := ifF c2 h
      refine b_iload_n dX5_inner_31 rfl ?_
      refine b_cSi (as := [vI r1]) (st := []) dX5_inner_32 mf_X11_size lk_X5_185 (p_X11_size (f := 1) (Nat.le_refl _) _ _ h) (by omega) rfl rfl (Nat.le_of_ble_eq_true rfl) (by decide) rfl (fun _ => rfl) (fun r2 m2 h => ?_) (fun _ h => h)
      obtain ⟨g4, h⟩ := h
      refine b_if_eq 55 dX5_inner_35 g4 (by decide) (fun c3 => ?_) (fun c3 => ?_)
      · have h := ifT c3 h
        refine b_iload_n dX5_inner_55 rfl ?_
        exact b_iret dX5_inner_56 rfl h
      · have h := ifF c3 h
        refine b_fgt [true, false, true, false] (ls' := [vR 372, vU, vI (m ((m 372 1) + 2) x1), vU]) rfl rfl ?_
        exact pl_X5_inner_38 hrec hf _ _ h
  · have h := ifT (Decidable.of_not_not c1) h
    refine b_bipush dX5_inner_22 (by decide) ?_
    exact b_iret dX5_inner_24 rfl h
theorem pl_X5_type_120 {f : Nat} {Q : Int → MM → Prop} {T : MM → Prop} {rec : Nat → List Int → MM → (Int → MM → Prop) → (MM → Prop) → Prop} {fr : Nat} (hrec : HR_X5_type rec fr) (hf : 2 ≤ f ∧ fr + 1 ≤ f) : ∀ (x1 : Int) (m : MM), P_X5_type_120 rec Q T x1 m → B f M_X5_type 120 [vR 372, vI x1, vU, vU, vU] [] m Q T := by
  intro x1 m h
  have h : (isTx (m 372 1)) ∧ (0 ≤ x1 ∧ x1 < 160) ∧ P_X5_fail 4 (m ((m 372 1) + 9) x1) m (fun r1 m1 => Q r1 m1) := h
  refine b_aload_n dX5_type_120 rfl ?_
  refine b_iconst dX5_type_121 ?_
  refine b_aload_n dX5_type_122 rfl ?_
  refine b_getM dX5_type_123 fk_X5_26 ly_372 ?_
  obtain ⟨g1, h⟩ := h
  refine b_getR dX5_type_126 fk_X5_176 (tx_ly0 g1) (tx_gg15 g1) ?_
  refine b_iload_n dX5_type_129 rfl ?_
  obtain ⟨g2, h⟩ := h
  refine b_lald dX5_type_130 (tx_ly9 g1) g2 ?_
  refine b_l2i dX5_type_131 ?_
  refine b_cVi (as := [vI 4, vI (m ((m 372 1) + 9) x1)]) (st := []) dX5_type_132 mf_X5_fail qs37 lk_X5_114 ly_372 rfl (p_X5_fail (f := 1) (Nat.le_refl _) _ _ _ h) (by omega) rfl rfl (Nat.le_of_ble_eq_true rfl) (by decide) rfl (fun _ => rfl) (fun r1 m1 h => ?_) (fun _ h => h)
  refine b_goto 152 dX5_type_135 (by decide) ?_
  exact b_iret dX5_type_152 rfl h
theorem pl_X5_type_236 {f : Nat} {Q : Int → MM → Prop} {T : MM → Prop} {rec : Nat → List Int → MM → (Int → MM → Prop) → (MM → Prop) → Prop} {fr : Nat} (hrec : HR_X5_type rec fr) (hf : 2 ≤ f ∧ fr + 1 ≤ f) : ∀ (x1 : Int) (x3 : Int) (s0 : Int) (m : MM), P_X5_type_236 rec Q T x1 x3 s0 m → B f M_X5_type 236 [vR 372, vI x1, vU, vI x3, vU] [vI s0] m Q T := by
  intro x1 x3 s0 m h
  have h : rec 0 [x1] m (fun r1 m1 => (RI s0) ∧ (if s0 = (-3) then Q (-3) m1 else (RI r1) ∧ (if r1 = (-3) then Q (-3) m1 else Q (r1 + x3) m1))) T := h
  refine b_istore (ls' := [vR 372, vI x1, vU, vI x3, vI s0]) dX5_type_236 (Nat.le_of_ble_eq_true rfl) rfl ?_
  refine b_aload_n dX5_type_238 rfl ?_
  refine b_iload_n dX5_type_239 rfl ?_
  refine b_cVi (as := [vI x1]) (st := []) dX5_type_240 mf_X5_inner qs38 lk_X5_179 ly_372 rfl (hrec.1 _ _ _ _ h) (by omega) rfl rfl (Nat.le_of_ble_eq_true rfl) (by decide) rfl (fun _ => rfl) (fun r1 m1 h => ?_) (fun _ h => h)
  refine b_istore_n (ls' := [vR 372, vI x1, vI r1, vI x3, vI s0]) dX5_type_243 (Nat.le_of_ble_eq_true rfl) rfl ?_
  refine b_iload dX5_type_244 rfl ?_
  refine b_bipush dX5_type_246 (by decide) ?_
  obtain ⟨g1, h⟩ := h
  refine b_icmp_eq 257 dX5_type_248 g1 (by decide) (by decide) (fun c1 => ?_) (fun c1 => ?_)
  · have h := ifT c1 h
    refine b_bipush dX5_type_257 (by decide) ?_
    refine b_goto 265 dX5_type_259 (by decide) ?_
    exact b_iret dX5_type_265 rfl h
  · have h := ifF c1 h
    refine b_iload_n dX5_type_251 rfl ?_
    refine b_bipush dX5_type_252 (by decide) ?_
    obtain ⟨g2, h⟩ := h
    refine b_icmp_ne 262 dX5_type_254 g2 (by decide) (by decide) (fun c2 => ?_) (fun c2 => ?_)
    · have h := ifF c2 h
      refine b_iload_n dX5_type_262 rfl ?_
      refine b_iload_n dX5_type_263 rfl ?_
      refine b_iadd dX5_type_264 ?_
      exact b_iret dX5_type_265 rfl h
    · have h := ifT (Decidable.of_not_not c2) h
      refine b_bipush dX5_type_257 (by decide) ?_
      refine b_goto 265 dX5_type_259 (by decide) ?_
      exact b_iret dX5_type_265 rfl h
theorem pl_X5_type_217 {f : Nat} {Q : Int → MM → Prop} {T : MM → Prop} {rec : Nat → List Int → MM → (Int → MM → Prop) → (MM → Prop) → Prop} {fr : Nat} (hrec : HR_X5_type rec fr) (hf : 2 ≤ f ∧ fr + 1 ≤ f) : ∀ (x1 : Int) (x3 : Int) (m : MM), P_X5_type_217 rec Q T x1 x3 m → B f M_X5_type 217 [vR 372, vI x1, vU, vI x3, vU] [] m Q T := by
  intro x1 x3 m h
  have h : (isTx (m 372 1)) ∧ (0 ≤ x1 ∧ x1 < 160) ∧ P_X5_fail 4 (m ((m 372 1) + 9) x1) m (fun r1 m1 => P_X5_type_236 rec Q T x1 x3 r1 m1) := h
  refine b_aload_n dX5_type_217 rfl ?_
  refine b_iconst dX5_type_218 ?_
  refine b_aload_n dX5_type_219 rfl ?_
  refine b_getM dX5_type_220 fk_X5_26 ly_372 ?_
  obtain ⟨g1, h⟩ := h
  refine b_getR dX5_type_223 fk_X5_176 (tx_ly0 g1) (tx_gg15 g1) ?_
  refine b_iload_n dX5_type_226 rfl ?_
  obtain ⟨g2, h⟩ := h
  refine b_lald dX5_type_227 (tx_ly9 g1) g2 ?_
  refine b_l2i dX5_type_228 ?_
  refine b_cVi (as := [vI 4, vI (m ((m 372 1) + 9) x1)]) (st := []) dX5_type_229 mf_X5_fail qs37 lk_X5_114 ly_372 rfl (p_X5_fail (f := 1) (Nat.le_refl _) _ _ _ h) (by omega) rfl rfl (Nat.le_of_ble_eq_true rfl) (by decide) rfl (fun _ => rfl) (fun r1 m1 h => ?_) (fun _ h => h)
  refine b_goto 236 dX5_type_232 (by decide) ?_
  exact pl_X5_type_236 hrec hf _ _ _ _ h
theorem w_X5_type {f : Nat} {Q : Int → MM → Prop} {T : MM → Prop} {rec : Nat → List Int → MM → (Int → MM → Prop) → (MM → Prop) → Prop} {fr : Nat} (hrec : HR_X5_type rec fr) (hf : 2 ≤ f ∧ fr + 1 ≤ f) (x1 : Int) (m : MM) (h : W_X5_type rec x1 m Q T) : CC f M_X5_type [vR 372, vI x1] m Q T := by
  refine CC.of (plainFor_of_name (by decide)) (Nat.le_of_ble_eq_true rfl) (ls := [vR 372, vI x1, vU, vU, vU]) rfl ?_
  have h : (isTx (m 372 1)) ∧ (0 ≤ x1 ∧ x1 < 160) ∧ (RI (m ((m 372 1) + 1) x1)) ∧ (if (m ((m 372 1) + 1) x1) = 30 then P_X11_of (m ((m 372 1) + 4) x1) 0 0 m (fun r1 m1 => Q r1 m1) else (if (m ((m 372 1) + 1) x1) = 31 then Q (-2) m else (if (m ((m 372 1) + 1) x1) = 32 then (RI (m 372 3)) ∧ (if (m 372 3) = (-1) then P_X5_fail 3 (m ((m 372 1) + 5) x1) m (fun r2 m2 => Q r2 m2) else Q (m 372 3) m) else (if (m ((m 372 1) + 1) x1) = 33 then (RI (m ((m 372 1) + 4) x1)) ∧ (if (m ((m 372 1) + 4) x1) < 2 then P_X5_type_120 rec Q T x1 m else (if (m ((m 372 1) + 4) x1) ≤ 9973 then P_X11_of (m ((m 372 1) + 4) x1) 0 0 m (fun r3 m3 => Q r3 m3) else P_X5_type_120 rec Q T x1 m)) else (if (m ((m 372 1) + 1) x1) = 34 then rec 0 [x1] m (fun r4 m4 => (RI r4) ∧ (if r4 = (-3) then Q (-3) m4 else P_X11_depth r4 m4 (fun r5 m5 => (RI r5) ∧ (if r5 = 2 then (isTx (m5 372 1)) ∧ P_X5_fail 4 (m5 ((m5 372 1) + 5) x1) m5 (fun r6 m6 => Q r6 m6) else Q (r4 + 4) m5)))) T else (RI (m ((m 372 1) + 4) x1)) ∧ (if (m ((m 372 1) + 4) x1) < 1 then P_X5_type_217 rec Q T x1 (m ((m 372 1) + 4) x1) m else (if (m ((m 372 1) + 4) x1) ≤ 3 then P_X5_type_236 rec Q T x1 (m ((m 372 1) + 4) x1) 0 m else P_X5_type_217 rec Q T x1 (m ((m 372 1) + 4) x1) m))))))) := h
  refine b_aload_n dX5_type_0 rfl ?_
  refine b_getM dX5_type_1 fk_X5_26 ly_372 ?_
  obtain ⟨g1, h⟩ := h
  refine b_getR dX5_type_4 fk_X5_143 (tx_ly0 g1) (tx_gg7 g1) ?_
  refine b_iload_n dX5_type_7 rfl ?_
  obtain ⟨g2, h⟩ := h
  refine b_iald dX5_type_8 (tx_ly1 g1) g2 ?_
  obtain ⟨g3, h⟩ := h
  by_cases c1 : (m ((m 372 1) + 1) x1) = 30
  · have h := ifT c1 h
    refine b_tswIn 44 dX5_type_9 g3 (by omega) (by omega) (by rw [c1]; rfl) (by decide) ?_
    refine b_aload_n dX5_type_44 rfl ?_
    refine b_getM dX5_type_45 fk_X5_26 ly_372 ?_
    refine b_getR dX5_type_48 fk_X5_146 (tx_ly0 g1) (tx_gg10 g1) ?_
    refine b_iload_n dX5_type_51 rfl ?_
    refine b_iald dX5_type_52 (tx_ly4 g1) g2 ?_
    refine b_iconst dX5_type_53 ?_
    refine b_iconst dX5_type_54 ?_
    refine b_cSi (as := [vI (m ((m 372 1) + 4) x1), vI 0, vI 0]) (st := []) dX5_type_55 mf_X11_of lk_X5_89 (p_X11_of (f := 1) (Nat.le_refl _) _ _ _ _ h) (by omega) rfl rfl (Nat.le_of_ble_eq_true rfl) (by decide) rfl (fun _ => rfl) (fun r1 m1 h => ?_) (fun _ h => h)
    exact b_iret dX5_type_58 rfl h
  have h := ifF c1 h
  by_cases c2 : (m ((m 372 1) + 1) x1) = 31
  · have h := ifT c2 h
    refine b_tswIn 59 dX5_type_9 g3 (by omega) (by omega) (by rw [c2]; rfl) (by decide) ?_
    refine b_bipush dX5_type_59 (by decide) ?_
    exact b_iret dX5_type_61 rfl h
  have h := ifF c2 h
  by_cases c3 : (m ((m 372 1) + 1) x1) = 32
  · have h := ifT c3 h
    refine b_tswIn 62 dX5_type_9 g3 (by omega) (by omega) (by rw [c3]; rfl) (by decide) ?_
    refine b_aload_n dX5_type_62 rfl ?_
    refine b_getI dX5_type_63 fk_X5_30 ly_372 ?_
    refine b_iconst dX5_type_66 ?_
    obtain ⟨g4, h⟩ := h
    refine b_icmp_ne 87 dX5_type_67 g4 (by decide) (by decide) (fun c4 => ?_) (fun c4 => ?_)
    · have h := ifF c4 h
      refine b_aload_n dX5_type_87 rfl ?_
      refine b_getI dX5_type_88 fk_X5_30 ly_372 ?_
      exact b_iret dX5_type_91 rfl h
    · have h := ifT (Decidable.of_not_not c4) h
      refine b_aload_n dX5_type_70 rfl ?_
      refine b_iconst dX5_type_71 ?_
      refine b_aload_n dX5_type_72 rfl ?_
      refine b_getM dX5_type_73 fk_X5_26 ly_372 ?_
      refine b_getR dX5_type_76 fk_X5_174 (tx_ly0 g1) (tx_gg11 g1) ?_
      refine b_iload_n dX5_type_79 rfl ?_
      refine b_iald dX5_type_80 (tx_ly5 g1) g2 ?_
      refine b_cVi (as := [vI 3, vI (m ((m 372 1) + 5) x1)]) (st := []) dX5_type_81 mf_X5_fail qs37 lk_X5_114 ly_372 rfl (p_X5_fail (f := 1) (Nat.le_refl _) _ _ _ h) (by omega) rfl rfl (Nat.le_of_ble_eq_true rfl) (by decide) rfl (fun _ => rfl) (fun r2 m2 h => ?_) (fun _ h => h)
      refine b_goto 91 dX5_type_84 (by decide) ?_
      exact b_iret dX5_type_91 rfl h
  have h := ifF c3 h
  by_cases c5 : (m ((m 372 1) + 1) x1) = 33
  · have h := ifT c5 h
    refine b_tswIn 92 dX5_type_9 g3 (by omega) (by omega) (by rw [c5]; rfl) (by decide) ?_
    refine b_aload_n dX5_type_92 rfl ?_
    refine b_getM dX5_type_93 fk_X5_26 ly_372 ?_
    refine b_getR dX5_type_96 fk_X5_146 (tx_ly0 g1) (tx_gg10 g1) ?_
    refine b_iload_n dX5_type_99 rfl ?_
    refine b_iald dX5_type_100 (tx_ly4 g1) g2 ?_
    refine b_iconst dX5_type_101 ?_
    obtain ⟨g5, h⟩ := h
    refine b_icmp_lt 120 dX5_type_102 g5 (by decide) (by decide) (fun c6 => ?_) (fun c6 => ?_)
    · have h := ifT c6 h
      exact pl_X5_type_120 hrec hf _ _ h
    · have h := ifF c6 h
      refine b_aload_n dX5_type_105 rfl ?_
      refine b_getM dX5_type_106 fk_X5_26 ly_372 ?_
      refine b_getR dX5_type_109 fk_X5_146 (tx_ly0 g1) (tx_gg10 g1) ?_
      refine b_iload_n dX5_type_112 rfl ?_
      refine b_iald dX5_type_113 (tx_ly4 g1) g2 ?_
      refine b_sipush dX5_type_114 (by decide) ?_
      refine b_icmp_le 138 dX5_type_117 g5 (by decide) (by decide) (fun c7 => ?_) (fun c7 => ?_)
      · have h := ifT c7 h
        refine b_aload_n dX5_type_138 rfl ?_
        refine b_getM dX5_type_139 fk_X5_26 ly_372 ?_
        refine b_getR dX5_type_142 fk_X5_146 (tx_ly0 g1) (tx_gg10 g1) ?_
        refine b_iload_n dX5_type_145 rfl ?_
        refine b_iald dX5_type_146 (tx_ly4 g1) g2 ?_
        refine b_iconst dX5_type_147 ?_
        refine b_iconst dX5_type_148 ?_
        refine b_cSi (as := [vI (m ((m 372 1) + 4) x1), vI 0, vI 0]) (st := []) dX5_type_149 mf_X11_of lk_X5_89 (p_X11_of (f := 1) (Nat.le_refl _) _ _ _ _ h) (by omega) rfl rfl (Nat.le_of_ble_eq_true rfl) (by decide) rfl (fun _ => rfl) (fun r3 m3 h => ?_) (fun _ h => h)
        exact b_iret dX5_type_152 rfl h
      · have h := ifF c7 h
        exact pl_X5_type_120 hrec hf _ _ h
  have h := ifF c5 h
  by_cases c8 : (m ((m 372 1) + 1) x1) = 34
  · have h := ifT c8 h
    refine b_tswIn 153 dX5_type_9 g3 (by omega) (by omega) (by rw [c8]; rfl) (by decide) ?_
    refine b_aload_n dX5_type_153 rfl ?_
    refine b_iload_n dX5_type_154 rfl ?_
    refine b_cVi (as := [vI x1]) (st := []) dX5_type_155 mf_X5_inner qs38 lk_X5_179 ly_372 rfl (hrec.1 _ _ _ _ h) (by omega) rfl rfl (Nat.le_of_ble_eq_true rfl) (by decide) rfl (fun _ => rfl) (fun r4 m4 h => ?_) (fun _ h => h)
    refine b_istore_n (ls' := [vR 372, vI x1, vI r4, vU, vU]) dX5_type_158 (Nat.le_of_ble_eq_true rfl) rfl ?_
    refine b_iload_n dX5_type_159 rfl ?_
    refine b_bipush dX5_type_160 (by decide) ?_
    obtain ⟨g6, h⟩ := h
    refine b_icmp_ne 168 dX5_type_162 g6 (by decide) (by decide) (fun c9 => ?_) (fun c9 => ?_)
    · have h := ifF c9 h
      refine b_iload_n dX5_type_168 rfl ?_
      refine b_cSi (as := [vI r4]) (st := []) dX5_type_169 mf_X11_depth lk_X5_182 (p_X11_depth (f := 1) (Nat.le_refl _) _ _ h) (by omega) rfl rfl (Nat.le_of_ble_eq_true rfl) (by decide) rfl (fun _ => rfl) (fun r5 m5 h => ?_) (fun _ h => h)
      refine b_iconst dX5_type_172 ?_
      obtain ⟨g7, h⟩ := h
      refine b_icmp_ne 193 dX5_type_173 g7 (by decide) (by decide) (fun c10 => ?_) (fun c10 => ?_)
      · have h := ifF c10 h
        refine b_iload_n dX5_type_193 rfl ?_
        refine b_iconst dX5_type_194 ?_
        refine b_iadd dX5_type_195 ?_
        exact b_iret dX5_type_196 rfl h
      · have h := ifT (Decidable.of_not_not c10) h
        refine b_aload_n dX5_type_176 rfl ?_
        refine b_iconst dX5_type_177 ?_
        refine b_aload_n dX5_type_178 rfl ?_
        refine b_getM dX5_type_179 fk_X5_26 ly_372 ?_
        obtain ⟨g8, h⟩ := h
        refine b_getR dX5_type_182 fk_X5_174 (tx_ly0 g8) (tx_gg11 g8) ?_
        refine b_iload_n dX5_type_185 rfl ?_
        refine b_iald dX5_type_186 (tx_ly5 g8) g2 ?_
        refine b_cVi (as := [vI 4, vI (m5 ((m5 372 1) + 5) x1)]) (st := []) dX5_type_187 mf_X5_fail qs37 lk_X5_114 ly_372 rfl (p_X5_fail (f := 1) (Nat.le_refl _) _ _ _ h) (by omega) rfl rfl (Nat.le_of_ble_eq_true rfl) (by decide) rfl (fun _ => rfl) (fun r6 m6 h => ?_) (fun _ h => h)
        refine b_goto 196 dX5_type_190 (by decide) ?_
        exact b_iret dX5_type_196 rfl h
    · have h := ifT (Decidable.of_not_not c9) h
      refine b_bipush dX5_type_165 (by decide) ?_
      exact b_iret dX5_type_167 rfl h
  have h := ifF c8 h
  refine b_tswOut 197 dX5_type_9 g3 (by omega) (by decide) ?_
  refine b_aload_n dX5_type_197 rfl ?_
  refine b_getM dX5_type_198 fk_X5_26 ly_372 ?_
  refine b_getR dX5_type_201 fk_X5_146 (tx_ly0 g1) (tx_gg10 g1) ?_
  refine b_iload_n dX5_type_204 rfl ?_
  refine b_iald dX5_type_205 (tx_ly4 g1) g2 ?_
  refine b_istore_n (ls' := [vR 372, vI x1, vU, vI (m ((m 372 1) + 4) x1), vU]) dX5_type_206 (Nat.le_of_ble_eq_true rfl) rfl ?_
  refine b_iload_n dX5_type_207 rfl ?_
  refine b_iconst dX5_type_208 ?_
  obtain ⟨g9, h⟩ := h
  refine b_icmp_lt 217 dX5_type_209 g9 (by decide) (by decide) (fun c11 => ?_) (fun c11 => ?_)
  · have h := ifT c11 h
    exact pl_X5_type_217 hrec hf _ _ _ h
  · have h := ifF c11 h
    refine b_iload_n dX5_type_212 rfl ?_
    refine b_iconst dX5_type_213 ?_
    refine b_icmp_le 235 dX5_type_214 g9 (by decide) (by decide) (fun c12 => ?_) (fun c12 => ?_)
    · have h := ifT c12 h
      refine b_iconst dX5_type_235 ?_
      exact pl_X5_type_236 hrec hf _ _ _ _ h
    · have h := ifF c12 h
      exact pl_X5_type_217 hrec hf _ _ _ h
def R_X5_type : Nat → Nat → List Int → MM → (Int → MM → Prop) → (MM → Prop) → Prop
  | 0, _, _, _, _, _ => False
  | d + 1, i, as, m, Q, T => match i, as with
    | 0, [x1] => W_X5_inner (R_X5_type d) x1 m Q T
    | 1, [x1] => W_X5_type (R_X5_type d) x1 m Q T
    | _, _ => False
theorem pr_X5_type : ∀ d f : Nat, 2 + d ≤ f → HR_X5_type (R_X5_type d) f := by
  intro d
  induction d with
  | zero => intro f hf; exact ⟨fun _ _ _ _ h => h.elim, fun _ _ _ _ h => h.elim, trivial⟩
  | succ d ih =>
    intro f hf
    have hr := ih (f - 1) (by omega)
    exact ⟨fun x1 m _ _ h => w_X5_inner hr (show 2 ≤ f ∧ f - 1 + 1 ≤ f by omega) x1 m h, fun x1 m _ _ h => w_X5_type hr (show 2 ≤ f ∧ f - 1 + 1 ≤ f by omega) x1 m h, trivial⟩
theorem dX5_call_0 : decode cX5_call 0 = .ok (.aload_n 0, 1) := by decide +kernel
theorem dX5_call_1 : decode cX5_call 1 = .ok (.getfield 15, 3) := by decide +kernel
theorem dX5_call_4 : decode cX5_call 4 = .ok (.aload_n 0, 1) := by decide +kernel
theorem dX5_call_5 : decode cX5_call 5 = .ok (.getfield 26, 3) := by decide +kernel
theorem dX5_call_8 : decode cX5_call 8 = .ok (.getfield 176, 3) := by decide +kernel
theorem dX5_call_11 : decode cX5_call 11 = .ok (.iload_n 1, 1) := by decide +kernel
theorem dX5_call_12 : decode cX5_call 12 = .ok (.laload, 1) := by decide +kernel
theorem dX5_call_13 : decode cX5_call 13 = .ok (.aload_n 0, 1) := by decide +kernel
theorem dX5_call_14 : decode cX5_call 14 = .ok (.getfield 42, 3) := by decide +kernel
theorem dX5_call_17 : decode cX5_call 17 = .ok (.invokevirtual 229, 3) := by decide +kernel
theorem dX5_call_20 : decode cX5_call 20 = .ok (.istore_n 2, 1) := by decide +kernel
theorem dX5_call_21 : decode cX5_call 21 = .ok (.iload_n 2, 1) := by decide +kernel
theorem dX5_call_22 : decode cX5_call 22 = .ok (.ifCond .ne 18, 3) := by decide +kernel
theorem dX5_call_25 : decode cX5_call 25 = .ok (.aload_n 0, 1) := by decide +kernel
theorem dX5_call_26 : decode cX5_call 26 = .ok (.iconst 3, 1) := by decide +kernel
theorem dX5_call_27 : decode cX5_call 27 = .ok (.aload_n 0, 1) := by decide +kernel
theorem dX5_call_28 : decode cX5_call 28 = .ok (.getfield 26, 3) := by decide +kernel
theorem dX5_call_31 : decode cX5_call 31 = .ok (.getfield 174, 3) := by decide +kernel
theorem dX5_call_34 : decode cX5_call 34 = .ok (.iload_n 1, 1) := by decide +kernel
theorem dX5_call_35 : decode cX5_call 35 = .ok (.iaload, 1) := by decide +kernel
theorem dX5_call_36 : decode cX5_call 36 = .ok (.invokevirtual 114, 3) := by decide +kernel
theorem dX5_call_39 : decode cX5_call 39 = .ok (.ireturn, 1) := by decide +kernel
theorem dX5_call_40 : decode cX5_call 40 = .ok (.aload_n 0, 1) := by decide +kernel
theorem dX5_call_41 : decode cX5_call 41 = .ok (.iload_n 1, 1) := by decide +kernel
theorem dX5_call_42 : decode cX5_call 42 = .ok (.invokevirtual 233, 3) := by decide +kernel
theorem dX5_call_45 : decode cX5_call 45 = .ok (.ifCond .ne 6, 3) := by decide +kernel
theorem dX5_call_48 : decode cX5_call 48 = .ok (.bipush (-3), 2) := by decide +kernel
theorem dX5_call_50 : decode cX5_call 50 = .ok (.ireturn, 1) := by decide +kernel
theorem dX5_call_51 : decode cX5_call 51 = .ok (.aload_n 0, 1) := by decide +kernel
theorem dX5_call_52 : decode cX5_call 52 = .ok (.getfield 26, 3) := by decide +kernel
theorem dX5_call_55 : decode cX5_call 55 = .ok (.iload_n 1, 1) := by decide +kernel
theorem dX5_call_56 : decode cX5_call 56 = .ok (.invokevirtual 237, 3) := by decide +kernel
theorem dX5_call_59 : decode cX5_call 59 = .ok (.istore_n 3, 1) := by decide +kernel
theorem dX5_call_60 : decode cX5_call 60 = .ok (.iconst 0, 1) := by decide +kernel
theorem dX5_call_61 : decode cX5_call 61 = .ok (.istore 4, 2) := by decide +kernel
theorem dX5_call_63 : decode cX5_call 63 = .ok (.aload_n 0, 1) := by decide +kernel
theorem dX5_call_64 : decode cX5_call 64 = .ok (.getfield 26, 3) := by decide +kernel
theorem dX5_call_67 : decode cX5_call 67 = .ok (.getfield 149, 3) := by decide +kernel
theorem dX5_call_70 : decode cX5_call 70 = .ok (.iload_n 1, 1) := by decide +kernel
theorem dX5_call_71 : decode cX5_call 71 = .ok (.iaload, 1) := by decide +kernel
theorem dX5_call_72 : decode cX5_call 72 = .ok (.istore 5, 2) := by decide +kernel
theorem dX5_call_74 : decode cX5_call 74 = .ok (.iload 5, 2) := by decide +kernel
theorem dX5_call_76 : decode cX5_call 76 = .ok (.iconst (-1), 1) := by decide +kernel
theorem dX5_call_77 : decode cX5_call 77 = .ok (.if_icmp .eq 44, 3) := by decide +kernel
theorem dX5_call_80 : decode cX5_call 80 = .ok (.iload 4, 2) := by decide +kernel
theorem dX5_call_82 : decode cX5_call 82 = .ok (.iconst 3, 1) := by decide +kernel
theorem dX5_call_83 : decode cX5_call 83 = .ok (.if_icmp .ge 38, 3) := by decide +kernel
theorem dX5_call_86 : decode cX5_call 86 = .ok (.aload_n 0, 1) := by decide +kernel
theorem dX5_call_87 : decode cX5_call 87 = .ok (.getfield 9, 3) := by decide +kernel
theorem dX5_call_90 : decode cX5_call 90 = .ok (.iload 4, 2) := by decide +kernel
theorem dX5_call_92 : decode cX5_call 92 = .ok (.aload_n 0, 1) := by decide +kernel
theorem dX5_call_93 : decode cX5_call 93 = .ok (.getfield 26, 3) := by decide +kernel
theorem dX5_call_96 : decode cX5_call 96 = .ok (.getfield 191, 3) := by decide +kernel
theorem dX5_call_99 : decode cX5_call 99 = .ok (.iload 5, 2) := by decide +kernel
theorem dX5_call_101 : decode cX5_call 101 = .ok (.iaload, 1) := by decide +kernel
theorem dX5_call_102 : decode cX5_call 102 = .ok (.iastore, 1) := by decide +kernel
theorem dX5_call_103 : decode cX5_call 103 = .ok (.iinc 4 1, 3) := by decide +kernel
theorem dX5_call_106 : decode cX5_call 106 = .ok (.aload_n 0, 1) := by decide +kernel
theorem dX5_call_107 : decode cX5_call 107 = .ok (.getfield 26, 3) := by decide +kernel
theorem dX5_call_110 : decode cX5_call 110 = .ok (.getfield 226, 3) := by decide +kernel
theorem dX5_call_113 : decode cX5_call 113 = .ok (.iload 5, 2) := by decide +kernel
theorem dX5_call_115 : decode cX5_call 115 = .ok (.iaload, 1) := by decide +kernel
theorem dX5_call_116 : decode cX5_call 116 = .ok (.istore 5, 2) := by decide +kernel
theorem dX5_call_118 : decode cX5_call 118 = .ok (.goto (-44), 3) := by decide +kernel
theorem dX5_call_121 : decode cX5_call 121 = .ok (.iload_n 3, 1) := by decide +kernel
theorem dX5_call_122 : decode cX5_call 122 = .ok (.iconst 3, 1) := by decide +kernel
theorem dX5_call_123 : decode cX5_call 123 = .ok (.if_icmp .le 7, 3) := by decide +kernel
theorem dX5_call_126 : decode cX5_call 126 = .ok (.iconst (-1), 1) := by decide +kernel
theorem dX5_call_127 : decode cX5_call 127 = .ok (.goto 28, 3) := by decide +kernel
theorem dX5_call_130 : decode cX5_call 130 = .ok (.aload_n 0, 1) := by decide +kernel
theorem dX5_call_131 : decode cX5_call 131 = .ok (.getfield 15, 3) := by decide +kernel
theorem dX5_call_134 : decode cX5_call 134 = .ok (.aload_n 0, 1) := by decide +kernel
theorem dX5_call_135 : decode cX5_call 135 = .ok (.getfield 26, 3) := by decide +kernel
theorem dX5_call_138 : decode cX5_call 138 = .ok (.getfield 176, 3) := by decide +kernel
theorem dX5_call_141 : decode cX5_call 141 = .ok (.iload_n 1, 1) := by decide +kernel
theorem dX5_call_142 : decode cX5_call 142 = .ok (.laload, 1) := by decide +kernel
theorem dX5_call_143 : decode cX5_call 143 = .ok (.aload_n 0, 1) := by decide +kernel
theorem dX5_call_144 : decode cX5_call 144 = .ok (.getfield 9, 3) := by decide +kernel
theorem dX5_call_147 : decode cX5_call 147 = .ok (.iload_n 3, 1) := by decide +kernel
theorem dX5_call_148 : decode cX5_call 148 = .ok (.aload_n 0, 1) := by decide +kernel
theorem dX5_call_149 : decode cX5_call 149 = .ok (.getfield 42, 3) := by decide +kernel
theorem dX5_call_152 : decode cX5_call 152 = .ok (.invokevirtual 240, 3) := by decide +kernel
theorem dX5_call_155 : decode cX5_call 155 = .ok (.istore 5, 2) := by decide +kernel
theorem dX5_call_157 : decode cX5_call 157 = .ok (.iload 5, 2) := by decide +kernel
theorem dX5_call_159 : decode cX5_call 159 = .ok (.iconst (-1), 1) := by decide +kernel
theorem dX5_call_160 : decode cX5_call 160 = .ok (.if_icmp .ne 18, 3) := by decide +kernel
theorem dX5_call_163 : decode cX5_call 163 = .ok (.aload_n 0, 1) := by decide +kernel
theorem dX5_call_164 : decode cX5_call 164 = .ok (.iconst 4, 1) := by decide +kernel
theorem dX5_call_165 : decode cX5_call 165 = .ok (.aload_n 0, 1) := by decide +kernel
theorem dX5_call_166 : decode cX5_call 166 = .ok (.getfield 26, 3) := by decide +kernel
theorem dX5_call_169 : decode cX5_call 169 = .ok (.getfield 174, 3) := by decide +kernel
theorem dX5_call_172 : decode cX5_call 172 = .ok (.iload_n 1, 1) := by decide +kernel
theorem dX5_call_173 : decode cX5_call 173 = .ok (.iaload, 1) := by decide +kernel
theorem dX5_call_174 : decode cX5_call 174 = .ok (.invokevirtual 114, 3) := by decide +kernel
theorem dX5_call_177 : decode cX5_call 177 = .ok (.ireturn, 1) := by decide +kernel
theorem dX5_call_178 : decode cX5_call 178 = .ok (.aload_n 0, 1) := by decide +kernel
theorem dX5_call_179 : decode cX5_call 179 = .ok (.getfield 26, 3) := by decide +kernel
theorem dX5_call_182 : decode cX5_call 182 = .ok (.getfield 223, 3) := by decide +kernel
theorem dX5_call_185 : decode cX5_call 185 = .ok (.iload_n 1, 1) := by decide +kernel
theorem dX5_call_186 : decode cX5_call 186 = .ok (.iload 5, 2) := by decide +kernel
theorem dX5_call_188 : decode cX5_call 188 = .ok (.iastore, 1) := by decide +kernel
theorem dX5_call_189 : decode cX5_call 189 = .ok (.aload_n 0, 1) := by decide +kernel
theorem dX5_call_190 : decode cX5_call 190 = .ok (.getfield 26, 3) := by decide +kernel
theorem dX5_call_193 : decode cX5_call 193 = .ok (.getfield 244, 3) := by decide +kernel
theorem dX5_call_196 : decode cX5_call 196 = .ok (.iload_n 1, 1) := by decide +kernel
theorem dX5_call_197 : decode cX5_call 197 = .ok (.aload_n 0, 1) := by decide +kernel
theorem dX5_call_198 : decode cX5_call 198 = .ok (.getfield 15, 3) := by decide +kernel
theorem dX5_call_201 : decode cX5_call 201 = .ok (.getfield 247, 3) := by decide +kernel
theorem dX5_call_204 : decode cX5_call 204 = .ok (.iastore, 1) := by decide +kernel
theorem dX5_call_205 : decode cX5_call 205 = .ok (.aload_n 0, 1) := by decide +kernel
theorem dX5_call_206 : decode cX5_call 206 = .ok (.getfield 15, 3) := by decide +kernel
theorem dX5_call_209 : decode cX5_call 209 = .ok (.getfield 151, 3) := by decide +kernel
theorem dX5_call_212 : decode cX5_call 212 = .ok (.iload 5, 2) := by decide +kernel
theorem dX5_call_214 : decode cX5_call 214 = .ok (.aaload, 1) := by decide +kernel
theorem dX5_call_215 : decode cX5_call 215 = .ok (.iconst 0, 1) := by decide +kernel
theorem dX5_call_216 : decode cX5_call 216 = .ok (.aload_n 0, 1) := by decide +kernel
theorem dX5_call_217 : decode cX5_call 217 = .ok (.getfield 15, 3) := by decide +kernel
theorem dX5_call_220 : decode cX5_call 220 = .ok (.getfield 247, 3) := by decide +kernel
theorem dX5_call_223 : decode cX5_call 223 = .ok (.invokestatic 165, 3) := by decide +kernel
theorem dX5_call_226 : decode cX5_call 226 = .ok (.ireturn, 1) := by decide +kernel
/-! AlgebraHouse$Judge.call(I)I -/
def P_X5_call_155 (rec : Nat → List Int → MM → (Int → MM → Prop) → (MM → Prop) → Prop) (Q : Int → MM → Prop) (T : MM → Prop) (x1 : Int) (s0 : Int) (m : MM) : Prop := (RI s0) ∧ (if s0 = (-1) then (isTx (m 372 1)) ∧ (0 ≤ x1 ∧ x1 < 160) ∧ P_X5_fail 4 (m ((m 372 1) + 5) x1) m (fun r2 m4 => Q r2 m4) else (isTx (m 372 1)) ∧ (0 ≤ x1 ∧ x1 < 160) ∧ ∀ m1 : MM, m1 = up m ((m 372 1) + 7) x1 s0 → (isTx (m1 372 1)) ∧ ∀ m2 : MM, m2 = up m1 ((m1 372 1) + 8) x1 (m1 3 7) → (0 ≤ s0 ∧ s0 < 21) ∧ P_X1_ring (8 + 17 * s0) 0 (m2 3 7) m2 (fun r1 m3 => Q r1 m3))
def P_X5_call_121 (rec : Nat → List Int → MM → (Int → MM → Prop) → (MM → Prop) → Prop) (Q : Int → MM → Prop) (T : MM → Prop) (x1 : Int) (x3 : Int) (m : MM) : Prop := (RI x3) ∧ (if x3 ≤ 3 then (isTx (m 372 1)) ∧ (0 ≤ x1 ∧ x1 < 160) ∧ P_X1_meant (m ((m 372 1) + 9) x1) 373 x3 (m 372 2) m (fun r1 m1 => P_X5_call_155 rec Q T x1 r1 m1) else P_X5_call_155 rec Q T x1 (-1) m)
def P_X5_call_74 (rec : Nat → List Int → MM → (Int → MM → Prop) → (MM → Prop) → Prop) (Q : Int → MM → Prop) (T : MM → Prop) : Nat → Int → Int → Int → Int → MM → Prop
  | 0, _, _, _, _, _ => False
  | n + 1, x1, x3, x4, x5, m => (RI x5) ∧ (if x5 = (-1) then P_X5_call_121 rec Q T x1 x3 m else (RI x4) ∧ (if 3 ≤ x4 then P_X5_call_121 rec Q T x1 x3 m else (isTx (m 372 1)) ∧ (0 ≤ x5 ∧ x5 < 160) ∧ (0 ≤ x4 ∧ x4 < 3) ∧ ∀ m1 : MM, m1 = up m 373 x4 (m ((m 372 1) + 6) x5) → (isTx (m1 372 1)) ∧ P_X5_call_74 rec Q T n x1 x3 (x4 + 1) (m1 ((m1 372 1) + 3) x5) m1))
def W_X5_call (rec : Nat → List Int → MM → (Int → MM → Prop) → (MM → Prop) → Prop) (x1 : Int) (m : MM) (Q : Int → MM → Prop) (T : MM → Prop) : Prop := (isTx (m 372 1)) ∧ (0 ≤ x1 ∧ x1 < 160) ∧ P_X1_isCalled (m ((m 372 1) + 9) x1) (m 372 2) m (fun r1 m1 => (RI r1) ∧ (if r1 = 0 then (isTx (m1 372 1)) ∧ P_X5_fail 3 (m1 ((m1 372 1) + 5) x1) m1 (fun r4 m4 => Q r4 m4) else rec 5 [x1] m1 (fun r2 m2 => (RI r2) ∧ (if r2 = 0 then Q (-3) m2 else (isTx (m2 372 1)) ∧ P_X2_many (m2 372 1) x1 m2 (fun r3 m3 => (isTx (m3 372 1)) ∧ ∃ nn, P_X5_call_74 rec Q T nn x1 r3 0 (m3 ((m3 372 1) + 2) x1) m3))) T))
theorem dX5_choice_0 : decode cX5_choice 0 = .ok (.aload_n 0, 1) := by decide +kernel
theorem dX5_choice_1 : decode cX5_choice 1 = .ok (.iload_n 1, 1) := by decide +kernel
theorem dX5_choice_2 : decode cX5_choice 2 = .ok (.invokevirtual 233, 3) := by decide +kernel
theorem dX5_choice_5 : decode cX5_choice 5 = .ok (.ifCond .ne 6, 3) := by decide +kernel
theorem dX5_choice_8 : decode cX5_choice 8 = .ok (.bipush (-3), 2) := by decide +kernel
theorem dX5_choice_10 : decode cX5_choice 10 = .ok (.ireturn, 1) := by decide +kernel
theorem dX5_choice_11 : decode cX5_choice 11 = .ok (.aload_n 0, 1) := by decide +kernel
theorem dX5_choice_12 : decode cX5_choice 12 = .ok (.getfield 26, 3) := by decide +kernel
theorem dX5_choice_15 : decode cX5_choice 15 = .ok (.getfield 191, 3) := by decide +kernel
theorem dX5_choice_18 : decode cX5_choice 18 = .ok (.aload_n 0, 1) := by decide +kernel
theorem dX5_choice_19 : decode cX5_choice 19 = .ok (.getfield 26, 3) := by decide +kernel
theorem dX5_choice_22 : decode cX5_choice 22 = .ok (.iload_n 1, 1) := by decide +kernel
theorem dX5_choice_23 : decode cX5_choice 23 = .ok (.invokevirtual 249, 3) := by decide +kernel
theorem dX5_choice_26 : decode cX5_choice 26 = .ok (.iaload, 1) := by decide +kernel
theorem dX5_choice_27 : decode cX5_choice 27 = .ok (.aload_n 0, 1) := by decide +kernel
theorem dX5_choice_28 : decode cX5_choice 28 = .ok (.getfield 26, 3) := by decide +kernel
theorem dX5_choice_31 : decode cX5_choice 31 = .ok (.getfield 191, 3) := by decide +kernel
theorem dX5_choice_34 : decode cX5_choice 34 = .ok (.aload_n 0, 1) := by decide +kernel
theorem dX5_choice_35 : decode cX5_choice 35 = .ok (.getfield 26, 3) := by decide +kernel
theorem dX5_choice_38 : decode cX5_choice 38 = .ok (.iload_n 1, 1) := by decide +kernel
theorem dX5_choice_39 : decode cX5_choice 39 = .ok (.invokevirtual 252, 3) := by decide +kernel
theorem dX5_choice_42 : decode cX5_choice 42 = .ok (.iaload, 1) := by decide +kernel
theorem dX5_choice_43 : decode cX5_choice 43 = .ok (.invokestatic 255, 3) := by decide +kernel
theorem dX5_choice_46 : decode cX5_choice 46 = .ok (.istore_n 2, 1) := by decide +kernel
theorem dX5_choice_47 : decode cX5_choice 47 = .ok (.aload_n 0, 1) := by decide +kernel
theorem dX5_choice_48 : decode cX5_choice 48 = .ok (.getfield 26, 3) := by decide +kernel
theorem dX5_choice_51 : decode cX5_choice 51 = .ok (.getfield 191, 3) := by decide +kernel
theorem dX5_choice_54 : decode cX5_choice 54 = .ok (.aload_n 0, 1) := by decide +kernel
theorem dX5_choice_55 : decode cX5_choice 55 = .ok (.getfield 26, 3) := by decide +kernel
theorem dX5_choice_58 : decode cX5_choice 58 = .ok (.getfield 149, 3) := by decide +kernel
theorem dX5_choice_61 : decode cX5_choice 61 = .ok (.iload_n 1, 1) := by decide +kernel
theorem dX5_choice_62 : decode cX5_choice 62 = .ok (.iaload, 1) := by decide +kernel
theorem dX5_choice_63 : decode cX5_choice 63 = .ok (.iaload, 1) := by decide +kernel
theorem dX5_choice_64 : decode cX5_choice 64 = .ok (.bipush (-2), 2) := by decide +kernel
theorem dX5_choice_66 : decode cX5_choice 66 = .ok (.if_icmp .ne 8, 3) := by decide +kernel
theorem dX5_choice_69 : decode cX5_choice 69 = .ok (.iload_n 2, 1) := by decide +kernel
theorem dX5_choice_70 : decode cX5_choice 70 = .ok (.iconst (-1), 1) := by decide +kernel
theorem dX5_choice_71 : decode cX5_choice 71 = .ok (.if_icmp .ne 20, 3) := by decide +kernel
theorem dX5_choice_74 : decode cX5_choice 74 = .ok (.aload_n 0, 1) := by decide +kernel
theorem dX5_choice_75 : decode cX5_choice 75 = .ok (.iconst 4, 1) := by decide +kernel
theorem dX5_choice_76 : decode cX5_choice 76 = .ok (.aload_n 0, 1) := by decide +kernel
theorem dX5_choice_77 : decode cX5_choice 77 = .ok (.getfield 26, 3) := by decide +kernel
theorem dX5_choice_80 : decode cX5_choice 80 = .ok (.getfield 174, 3) := by decide +kernel
theorem dX5_choice_83 : decode cX5_choice 83 = .ok (.iload_n 1, 1) := by decide +kernel
theorem dX5_choice_84 : decode cX5_choice 84 = .ok (.iaload, 1) := by decide +kernel
theorem dX5_choice_85 : decode cX5_choice 85 = .ok (.invokevirtual 114, 3) := by decide +kernel
theorem dX5_choice_88 : decode cX5_choice 88 = .ok (.goto 4, 3) := by decide +kernel
theorem dX5_choice_91 : decode cX5_choice 91 = .ok (.iload_n 2, 1) := by decide +kernel
theorem dX5_choice_92 : decode cX5_choice 92 = .ok (.ireturn, 1) := by decide +kernel
/-! AlgebraHouse$Judge.choice(I)I -/
def P_X5_choice_74 (rec : Nat → List Int → MM → (Int → MM → Prop) → (MM → Prop) → Prop) (Q : Int → MM → Prop) (T : MM → Prop) (x1 : Int) (m : MM) : Prop := (isTx (m 372 1)) ∧ (0 ≤ x1 ∧ x1 < 160) ∧ P_X5_fail 4 (m ((m 372 1) + 5) x1) m (fun r1 m1 => Q r1 m1)
def W_X5_choice (rec : Nat → List Int → MM → (Int → MM → Prop) → (MM → Prop) → Prop) (x1 : Int) (m : MM) (Q : Int → MM → Prop) (T : MM → Prop) : Prop := rec 5 [x1] m (fun r1 m1 => (RI r1) ∧ (if r1 = 0 then Q (-3) m1 else (isTx (m1 372 1)) ∧ P_X2_second (m1 372 1) x1 m1 (fun r2 m2 => (0 ≤ r2 ∧ r2 < 160) ∧ (isTx (m2 372 1)) ∧ P_X2_third (m2 372 1) x1 m2 (fun r3 m3 => (0 ≤ r3 ∧ r3 < 160) ∧ P_X11_join (m2 ((m1 372 1) + 6) r2) (m3 ((m2 372 1) + 6) r3) m3 (fun r4 m4 => (isTx (m4 372 1)) ∧ (0 ≤ x1 ∧ x1 < 160) ∧ (0 ≤ (m4 ((m4 372 1) + 2) x1) ∧ (m4 ((m4 372 1) + 2) x1) < 160) ∧ (RI (m4 ((m4 372 1) + 6) (m4 ((m4 372 1) + 2) x1))) ∧ (if (m4 ((m4 372 1) + 6) (m4 ((m4 372 1) + 2) x1)) = (-2) then (RI r4) ∧ (if r4 = (-1) then P_X5_choice_74 rec Q T x1 m4 else Q r4 m4) else P_X5_choice_74 rec Q T x1 m4)))))) T
theorem dX5_function_0 : decode cX5_function 0 = .ok (.aload_n 0, 1) := by decide +kernel
theorem dX5_function_1 : decode cX5_function 1 = .ok (.iload_n 1, 1) := by decide +kernel
theorem dX5_function_2 : decode cX5_function 2 = .ok (.invokevirtual 233, 3) := by decide +kernel
theorem dX5_function_5 : decode cX5_function 5 = .ok (.ifCond .ne 6, 3) := by decide +kernel
theorem dX5_function_8 : decode cX5_function 8 = .ok (.bipush (-3), 2) := by decide +kernel
theorem dX5_function_10 : decode cX5_function 10 = .ok (.ireturn, 1) := by decide +kernel
theorem dX5_function_11 : decode cX5_function 11 = .ok (.aload_n 0, 1) := by decide +kernel
theorem dX5_function_12 : decode cX5_function 12 = .ok (.getfield 26, 3) := by decide +kernel
theorem dX5_function_15 : decode cX5_function 15 = .ok (.iload_n 1, 1) := by decide +kernel
theorem dX5_function_16 : decode cX5_function 16 = .ok (.invokevirtual 237, 3) := by decide +kernel
theorem dX5_function_19 : decode cX5_function 19 = .ok (.istore_n 2, 1) := by decide +kernel
theorem dX5_function_20 : decode cX5_function 20 = .ok (.aload_n 0, 1) := by decide +kernel
theorem dX5_function_21 : decode cX5_function 21 = .ok (.getfield 26, 3) := by decide +kernel
theorem dX5_function_24 : decode cX5_function 24 = .ok (.getfield 191, 3) := by decide +kernel
theorem dX5_function_27 : decode cX5_function 27 = .ok (.aload_n 0, 1) := by decide +kernel
theorem dX5_function_28 : decode cX5_function 28 = .ok (.getfield 26, 3) := by decide +kernel
theorem dX5_function_31 : decode cX5_function 31 = .ok (.getfield 149, 3) := by decide +kernel
theorem dX5_function_34 : decode cX5_function 34 = .ok (.iload_n 1, 1) := by decide +kernel
theorem dX5_function_35 : decode cX5_function 35 = .ok (.iaload, 1) := by decide +kernel
theorem dX5_function_36 : decode cX5_function 36 = .ok (.iaload, 1) := by decide +kernel
theorem dX5_function_37 : decode cX5_function 37 = .ok (.istore_n 3, 1) := by decide +kernel
theorem dX5_function_38 : decode cX5_function 38 = .ok (.iload_n 2, 1) := by decide +kernel
theorem dX5_function_39 : decode cX5_function 39 = .ok (.iconst 1, 1) := by decide +kernel
theorem dX5_function_40 : decode cX5_function 40 = .ok (.if_icmp .le 22, 3) := by decide +kernel
theorem dX5_function_43 : decode cX5_function 43 = .ok (.aload_n 0, 1) := by decide +kernel
theorem dX5_function_44 : decode cX5_function 44 = .ok (.getfield 26, 3) := by decide +kernel
theorem dX5_function_47 : decode cX5_function 47 = .ok (.getfield 191, 3) := by decide +kernel
theorem dX5_function_50 : decode cX5_function 50 = .ok (.aload_n 0, 1) := by decide +kernel
theorem dX5_function_51 : decode cX5_function 51 = .ok (.getfield 26, 3) := by decide +kernel
theorem dX5_function_54 : decode cX5_function 54 = .ok (.iload_n 1, 1) := by decide +kernel
theorem dX5_function_55 : decode cX5_function 55 = .ok (.invokevirtual 249, 3) := by decide +kernel
theorem dX5_function_58 : decode cX5_function 58 = .ok (.iaload, 1) := by decide +kernel
theorem dX5_function_59 : decode cX5_function 59 = .ok (.goto 4, 3) := by decide +kernel
theorem dX5_function_62 : decode cX5_function 62 = .ok (.iconst (-1), 1) := by decide +kernel
theorem dX5_function_63 : decode cX5_function 63 = .ok (.istore 4, 2) := by decide +kernel
theorem dX5_function_65 : decode cX5_function 65 = .ok (.aload_n 0, 1) := by decide +kernel
theorem dX5_function_66 : decode cX5_function 66 = .ok (.getfield 26, 3) := by decide +kernel
theorem dX5_function_69 : decode cX5_function 69 = .ok (.getfield 146, 3) := by decide +kernel
theorem dX5_function_72 : decode cX5_function 72 = .ok (.iload_n 1, 1) := by decide +kernel
theorem dX5_function_73 : decode cX5_function 73 = .ok (.iaload, 1) := by decide +kernel
theorem dX5_function_74 : decode cX5_function 74 = .ok (.ifCond .eq 29, 3) := by decide +kernel
theorem dX5_function_77 : decode cX5_function 77 = .ok (.aload_n 0, 1) := by decide +kernel
theorem dX5_function_78 : decode cX5_function 78 = .ok (.getfield 26, 3) := by decide +kernel
theorem dX5_function_81 : decode cX5_function 81 = .ok (.getfield 146, 3) := by decide +kernel
theorem dX5_function_84 : decode cX5_function 84 = .ok (.iload_n 1, 1) := by decide +kernel
theorem dX5_function_85 : decode cX5_function 85 = .ok (.iaload, 1) := by decide +kernel
theorem dX5_function_86 : decode cX5_function 86 = .ok (.iconst 2, 1) := by decide +kernel
theorem dX5_function_87 : decode cX5_function 87 = .ok (.if_icmp .eq 16, 3) := by decide +kernel
theorem dX5_function_90 : decode cX5_function 90 = .ok (.aload_n 0, 1) := by decide +kernel
theorem dX5_function_91 : decode cX5_function 91 = .ok (.getfield 26, 3) := by decide +kernel
theorem dX5_function_94 : decode cX5_function 94 = .ok (.getfield 146, 3) := by decide +kernel
theorem dX5_function_97 : decode cX5_function 97 = .ok (.iload_n 1, 1) := by decide +kernel
theorem dX5_function_98 : decode cX5_function 98 = .ok (.iaload, 1) := by decide +kernel
theorem dX5_function_99 : decode cX5_function 99 = .ok (.iconst 3, 1) := by decide +kernel
theorem dX5_function_100 : decode cX5_function 100 = .ok (.if_icmp .ne 7, 3) := by decide +kernel
theorem dX5_function_103 : decode cX5_function 103 = .ok (.iconst 2, 1) := by decide +kernel
theorem dX5_function_104 : decode cX5_function 104 = .ok (.goto 4, 3) := by decide +kernel
theorem dX5_function_107 : decode cX5_function 107 = .ok (.iconst 1, 1) := by decide +kernel
theorem dX5_function_108 : decode cX5_function 108 = .ok (.istore 5, 2) := by decide +kernel
theorem dX5_function_110 : decode cX5_function 110 = .ok (.iload_n 2, 1) := by decide +kernel
theorem dX5_function_111 : decode cX5_function 111 = .ok (.iload 5, 2) := by decide +kernel
theorem dX5_function_113 : decode cX5_function 113 = .ok (.if_icmp .eq 7, 3) := by decide +kernel
theorem dX5_function_116 : decode cX5_function 116 = .ok (.iconst (-1), 1) := by decide +kernel
theorem dX5_function_117 : decode cX5_function 117 = .ok (.goto 40, 3) := by decide +kernel
theorem dX5_function_120 : decode cX5_function 120 = .ok (.iload 5, 2) := by decide +kernel
theorem dX5_function_122 : decode cX5_function 122 = .ok (.iconst 2, 1) := by decide +kernel
theorem dX5_function_123 : decode cX5_function 123 = .ok (.if_icmp .ne 21, 3) := by decide +kernel
theorem dX5_function_126 : decode cX5_function 126 = .ok (.aload_n 0, 1) := by decide +kernel
theorem dX5_function_127 : decode cX5_function 127 = .ok (.getfield 26, 3) := by decide +kernel
theorem dX5_function_130 : decode cX5_function 130 = .ok (.getfield 146, 3) := by decide +kernel
theorem dX5_function_133 : decode cX5_function 133 = .ok (.iload_n 1, 1) := by decide +kernel
theorem dX5_function_134 : decode cX5_function 134 = .ok (.iaload, 1) := by decide +kernel
theorem dX5_function_135 : decode cX5_function 135 = .ok (.iload_n 3, 1) := by decide +kernel
theorem dX5_function_136 : decode cX5_function 136 = .ok (.iload 4, 2) := by decide +kernel
theorem dX5_function_138 : decode cX5_function 138 = .ok (.invokestatic 270, 3) := by decide +kernel
theorem dX5_function_141 : decode cX5_function 141 = .ok (.goto 16, 3) := by decide +kernel
theorem dX5_function_144 : decode cX5_function 144 = .ok (.aload_n 0, 1) := by decide +kernel
theorem dX5_function_145 : decode cX5_function 145 = .ok (.getfield 26, 3) := by decide +kernel
theorem dX5_function_148 : decode cX5_function 148 = .ok (.getfield 146, 3) := by decide +kernel
theorem dX5_function_151 : decode cX5_function 151 = .ok (.iload_n 1, 1) := by decide +kernel
theorem dX5_function_152 : decode cX5_function 152 = .ok (.iaload, 1) := by decide +kernel
theorem dX5_function_153 : decode cX5_function 153 = .ok (.iload_n 3, 1) := by decide +kernel
theorem dX5_function_154 : decode cX5_function 154 = .ok (.invokestatic 273, 3) := by decide +kernel
theorem dX5_function_157 : decode cX5_function 157 = .ok (.istore 6, 2) := by decide +kernel
theorem dX5_function_159 : decode cX5_function 159 = .ok (.iload 6, 2) := by decide +kernel
theorem dX5_function_161 : decode cX5_function 161 = .ok (.iconst (-1), 1) := by decide +kernel
theorem dX5_function_162 : decode cX5_function 162 = .ok (.if_icmp .ne 20, 3) := by decide +kernel
theorem dX5_function_165 : decode cX5_function 165 = .ok (.aload_n 0, 1) := by decide +kernel
theorem dX5_function_166 : decode cX5_function 166 = .ok (.iconst 4, 1) := by decide +kernel
theorem dX5_function_167 : decode cX5_function 167 = .ok (.aload_n 0, 1) := by decide +kernel
theorem dX5_function_168 : decode cX5_function 168 = .ok (.getfield 26, 3) := by decide +kernel
theorem dX5_function_171 : decode cX5_function 171 = .ok (.getfield 174, 3) := by decide +kernel
theorem dX5_function_174 : decode cX5_function 174 = .ok (.iload_n 1, 1) := by decide +kernel
theorem dX5_function_175 : decode cX5_function 175 = .ok (.iaload, 1) := by decide +kernel
theorem dX5_function_176 : decode cX5_function 176 = .ok (.invokevirtual 114, 3) := by decide +kernel
theorem dX5_function_179 : decode cX5_function 179 = .ok (.goto 5, 3) := by decide +kernel
theorem dX5_function_182 : decode cX5_function 182 = .ok (.iload 6, 2) := by decide +kernel
theorem dX5_function_184 : decode cX5_function 184 = .ok (.ireturn, 1) := by decide +kernel
/-! AlgebraHouse$Judge.function(I)I -/
def P_X5_function_157 (rec : Nat → List Int → MM → (Int → MM → Prop) → (MM → Prop) → Prop) (Q : Int → MM → Prop) (T : MM → Prop) (x1 : Int) (s0 : Int) (m : MM) : Prop := (RI s0) ∧ (if s0 = (-1) then (isTx (m 372 1)) ∧ (0 ≤ x1 ∧ x1 < 160) ∧ P_X5_fail 4 (m ((m 372 1) + 5) x1) m (fun r1 m1 => Q r1 m1) else Q s0 m)
def P_X5_function_63 (rec : Nat → List Int → MM → (Int → MM → Prop) → (MM → Prop) → Prop) (Q : Int → MM → Prop) (T : MM → Prop) (x1 : Int) (x2 : Int) (x3 : Int) (s0 : Int) (m : MM) : Prop := (isTx (m 372 1)) ∧ (0 ≤ x1 ∧ x1 < 160) ∧ ((RI (m ((m 372 1) + 4) x1))) ∧ (RI x2) ∧ (RI (if (m ((m 372 1) + 4) x1) = 0 then 2 else (if (m ((m 372 1) + 4) x1) = 2 then 2 else (if (m ((m 372 1) + 4) x1) = 3 then 2 else 1 : Int) : Int) : Int)) ∧ (if x2 = (if (m ((m 372 1) + 4) x1) = 0 then 2 else (if (m ((m 372 1) + 4) x1) = 2 then 2 else (if (m ((m 372 1) + 4) x1) = 3 then 2 else 1 : Int) : Int) : Int) then (if (if (m ((m 372 1) + 4) x1) = 0 then 2 else (if (m ((m 372 1) + 4) x1) = 2 then 2 else (if (m ((m 372 1) + 4) x1) = 3 then 2 else 1 : Int) : Int) : Int) = 2 then P_X5_ofTwo (m ((m 372 1) + 4) x1) x3 s0 m (fun r2 m2 => P_X5_function_157 rec Q T x1 r2 m2) else P_X5_ofOne (m ((m 372 1) + 4) x1) x3 m (fun r1 m1 => P_X5_function_157 rec Q T x1 r1 m1)) else P_X5_function_157 rec Q T x1 (-1) m)
def W_X5_function (rec : Nat → List Int → MM → (Int → MM → Prop) → (MM → Prop) → Prop) (x1 : Int) (m : MM) (Q : Int → MM → Prop) (T : MM → Prop) : Prop := rec 5 [x1] m (fun r1 m1 => (RI r1) ∧ (if r1 = 0 then Q (-3) m1 else (isTx (m1 372 1)) ∧ P_X2_many (m1 372 1) x1 m1 (fun r2 m2 => (isTx (m2 372 1)) ∧ (0 ≤ x1 ∧ x1 < 160) ∧ (0 ≤ (m2 ((m2 372 1) + 2) x1) ∧ (m2 ((m2 372 1) + 2) x1) < 160) ∧ (RI r2) ∧ (if r2 ≤ 1 then P_X5_function_63 rec Q T x1 r2 (m2 ((m2 372 1) + 6) (m2 ((m2 372 1) + 2) x1)) (-1) m2 else P_X2_second (m2 372 1) x1 m2 (fun r3 m3 => (0 ≤ r3 ∧ r3 < 160) ∧ P_X5_function_63 rec Q T x1 r2 (m2 ((m2 372 1) + 6) (m2 ((m2 372 1) + 2) x1)) (m3 ((m2 372 1) + 6) r3) m3))))) T
theorem dX5_matrix_0 : decode cX5_matrix 0 = .ok (.aload_n 0, 1) := by decide +kernel
theorem dX5_matrix_1 : decode cX5_matrix 1 = .ok (.iload_n 1, 1) := by decide +kernel
theorem dX5_matrix_2 : decode cX5_matrix 2 = .ok (.invokevirtual 233, 3) := by decide +kernel
theorem dX5_matrix_5 : decode cX5_matrix 5 = .ok (.ifCond .ne 6, 3) := by decide +kernel
theorem dX5_matrix_8 : decode cX5_matrix 8 = .ok (.bipush (-3), 2) := by decide +kernel
theorem dX5_matrix_10 : decode cX5_matrix 10 = .ok (.ireturn, 1) := by decide +kernel
theorem dX5_matrix_11 : decode cX5_matrix 11 = .ok (.aload_n 0, 1) := by decide +kernel
theorem dX5_matrix_12 : decode cX5_matrix 12 = .ok (.getfield 26, 3) := by decide +kernel
theorem dX5_matrix_15 : decode cX5_matrix 15 = .ok (.getfield 191, 3) := by decide +kernel
theorem dX5_matrix_18 : decode cX5_matrix 18 = .ok (.aload_n 0, 1) := by decide +kernel
theorem dX5_matrix_19 : decode cX5_matrix 19 = .ok (.getfield 26, 3) := by decide +kernel
theorem dX5_matrix_22 : decode cX5_matrix 22 = .ok (.getfield 149, 3) := by decide +kernel
theorem dX5_matrix_25 : decode cX5_matrix 25 = .ok (.iload_n 1, 1) := by decide +kernel
theorem dX5_matrix_26 : decode cX5_matrix 26 = .ok (.iaload, 1) := by decide +kernel
theorem dX5_matrix_27 : decode cX5_matrix 27 = .ok (.iaload, 1) := by decide +kernel
theorem dX5_matrix_28 : decode cX5_matrix 28 = .ok (.istore_n 2, 1) := by decide +kernel
theorem dX5_matrix_29 : decode cX5_matrix 29 = .ok (.aload_n 0, 1) := by decide +kernel
theorem dX5_matrix_30 : decode cX5_matrix 30 = .ok (.getfield 26, 3) := by decide +kernel
theorem dX5_matrix_33 : decode cX5_matrix 33 = .ok (.getfield 226, 3) := by decide +kernel
theorem dX5_matrix_36 : decode cX5_matrix 36 = .ok (.aload_n 0, 1) := by decide +kernel
theorem dX5_matrix_37 : decode cX5_matrix 37 = .ok (.getfield 26, 3) := by decide +kernel
theorem dX5_matrix_40 : decode cX5_matrix 40 = .ok (.getfield 149, 3) := by decide +kernel
theorem dX5_matrix_43 : decode cX5_matrix 43 = .ok (.iload_n 1, 1) := by decide +kernel
theorem dX5_matrix_44 : decode cX5_matrix 44 = .ok (.iaload, 1) := by decide +kernel
theorem dX5_matrix_45 : decode cX5_matrix 45 = .ok (.iaload, 1) := by decide +kernel
theorem dX5_matrix_46 : decode cX5_matrix 46 = .ok (.istore_n 3, 1) := by decide +kernel
theorem dX5_matrix_47 : decode cX5_matrix 47 = .ok (.iload_n 3, 1) := by decide +kernel
theorem dX5_matrix_48 : decode cX5_matrix 48 = .ok (.iconst (-1), 1) := by decide +kernel
theorem dX5_matrix_49 : decode cX5_matrix 49 = .ok (.if_icmp .eq 35, 3) := by decide +kernel
theorem dX5_matrix_52 : decode cX5_matrix 52 = .ok (.iload_n 2, 1) := by decide +kernel
theorem dX5_matrix_53 : decode cX5_matrix 53 = .ok (.iconst (-1), 1) := by decide +kernel
theorem dX5_matrix_54 : decode cX5_matrix 54 = .ok (.if_icmp .eq 30, 3) := by decide +kernel
theorem dX5_matrix_57 : decode cX5_matrix 57 = .ok (.iload_n 2, 1) := by decide +kernel
theorem dX5_matrix_58 : decode cX5_matrix 58 = .ok (.aload_n 0, 1) := by decide +kernel
theorem dX5_matrix_59 : decode cX5_matrix 59 = .ok (.getfield 26, 3) := by decide +kernel
theorem dX5_matrix_62 : decode cX5_matrix 62 = .ok (.getfield 191, 3) := by decide +kernel
theorem dX5_matrix_65 : decode cX5_matrix 65 = .ok (.iload_n 3, 1) := by decide +kernel
theorem dX5_matrix_66 : decode cX5_matrix 66 = .ok (.iaload, 1) := by decide +kernel
theorem dX5_matrix_67 : decode cX5_matrix 67 = .ok (.invokestatic 255, 3) := by decide +kernel
theorem dX5_matrix_70 : decode cX5_matrix 70 = .ok (.istore_n 2, 1) := by decide +kernel
theorem dX5_matrix_71 : decode cX5_matrix 71 = .ok (.aload_n 0, 1) := by decide +kernel
theorem dX5_matrix_72 : decode cX5_matrix 72 = .ok (.getfield 26, 3) := by decide +kernel
theorem dX5_matrix_75 : decode cX5_matrix 75 = .ok (.getfield 226, 3) := by decide +kernel
theorem dX5_matrix_78 : decode cX5_matrix 78 = .ok (.iload_n 3, 1) := by decide +kernel
theorem dX5_matrix_79 : decode cX5_matrix 79 = .ok (.iaload, 1) := by decide +kernel
theorem dX5_matrix_80 : decode cX5_matrix 80 = .ok (.istore_n 3, 1) := by decide +kernel
theorem dX5_matrix_81 : decode cX5_matrix 81 = .ok (.goto (-34), 3) := by decide +kernel
theorem dX5_matrix_84 : decode cX5_matrix 84 = .ok (.aload_n 0, 1) := by decide +kernel
theorem dX5_matrix_85 : decode cX5_matrix 85 = .ok (.getfield 26, 3) := by decide +kernel
theorem dX5_matrix_88 : decode cX5_matrix 88 = .ok (.getfield 146, 3) := by decide +kernel
theorem dX5_matrix_91 : decode cX5_matrix 91 = .ok (.iload_n 1, 1) := by decide +kernel
theorem dX5_matrix_92 : decode cX5_matrix 92 = .ok (.iaload, 1) := by decide +kernel
theorem dX5_matrix_93 : decode cX5_matrix 93 = .ok (.ifCond .le 18, 3) := by decide +kernel
theorem dX5_matrix_96 : decode cX5_matrix 96 = .ok (.iload_n 2, 1) := by decide +kernel
theorem dX5_matrix_97 : decode cX5_matrix 97 = .ok (.ifCond .lt 14, 3) := by decide +kernel
theorem dX5_matrix_100 : decode cX5_matrix 100 = .ok (.iload_n 2, 1) := by decide +kernel
theorem dX5_matrix_101 : decode cX5_matrix 101 = .ok (.invokestatic 185, 3) := by decide +kernel
theorem dX5_matrix_104 : decode cX5_matrix 104 = .ok (.ifCond .ne 7, 3) := by decide +kernel
theorem dX5_matrix_107 : decode cX5_matrix 107 = .ok (.iconst 1, 1) := by decide +kernel
theorem dX5_matrix_108 : decode cX5_matrix 108 = .ok (.goto 4, 3) := by decide +kernel
theorem dX5_matrix_111 : decode cX5_matrix 111 = .ok (.iconst 0, 1) := by decide +kernel
theorem dX5_matrix_112 : decode cX5_matrix 112 = .ok (.istore_n 3, 1) := by decide +kernel
theorem dX5_matrix_113 : decode cX5_matrix 113 = .ok (.iload_n 3, 1) := by decide +kernel
theorem dX5_matrix_114 : decode cX5_matrix 114 = .ok (.ifCond .eq 17, 3) := by decide +kernel
theorem dX5_matrix_117 : decode cX5_matrix 117 = .ok (.iload_n 2, 1) := by decide +kernel
theorem dX5_matrix_118 : decode cX5_matrix 118 = .ok (.aload_n 0, 1) := by decide +kernel
theorem dX5_matrix_119 : decode cX5_matrix 119 = .ok (.getfield 26, 3) := by decide +kernel
theorem dX5_matrix_122 : decode cX5_matrix 122 = .ok (.getfield 146, 3) := by decide +kernel
theorem dX5_matrix_125 : decode cX5_matrix 125 = .ok (.iload_n 1, 1) := by decide +kernel
theorem dX5_matrix_126 : decode cX5_matrix 126 = .ok (.iaload, 1) := by decide +kernel
theorem dX5_matrix_127 : decode cX5_matrix 127 = .ok (.iadd, 1) := by decide +kernel
theorem dX5_matrix_128 : decode cX5_matrix 128 = .ok (.goto 17, 3) := by decide +kernel
theorem dX5_matrix_131 : decode cX5_matrix 131 = .ok (.aload_n 0, 1) := by decide +kernel
theorem dX5_matrix_132 : decode cX5_matrix 132 = .ok (.iconst 4, 1) := by decide +kernel
theorem dX5_matrix_133 : decode cX5_matrix 133 = .ok (.aload_n 0, 1) := by decide +kernel
theorem dX5_matrix_134 : decode cX5_matrix 134 = .ok (.getfield 26, 3) := by decide +kernel
theorem dX5_matrix_137 : decode cX5_matrix 137 = .ok (.getfield 174, 3) := by decide +kernel
theorem dX5_matrix_140 : decode cX5_matrix 140 = .ok (.iload_n 1, 1) := by decide +kernel
theorem dX5_matrix_141 : decode cX5_matrix 141 = .ok (.iaload, 1) := by decide +kernel
theorem dX5_matrix_142 : decode cX5_matrix 142 = .ok (.invokevirtual 114, 3) := by decide +kernel
theorem dX5_matrix_145 : decode cX5_matrix 145 = .ok (.ireturn, 1) := by decide +kernel
/-! AlgebraHouse$Judge.matrix(I)I -/
def P_X5_matrix_111 (rec : Nat → List Int → MM → (Int → MM → Prop) → (MM → Prop) → Prop) (Q : Int → MM → Prop) (T : MM → Prop) (x1 : Int) (x2 : Int) (m : MM) : Prop := (if (0 : Int) = 0 then (isTx (m 372 1)) ∧ (0 ≤ x1 ∧ x1 < 160) ∧ P_X5_fail 4 (m ((m 372 1) + 5) x1) m (fun r1 m1 => Q r1 m1) else (isTx (m 372 1)) ∧ (0 ≤ x1 ∧ x1 < 160) ∧ Q (x2 + (m ((m 372 1) + 4) x1)) m)
def P_X5_matrix_84 (rec : Nat → List Int → MM → (Int → MM → Prop) → (MM → Prop) → Prop) (Q : Int → MM → Prop) (T : MM → Prop) (x1 : Int) (x2 : Int) (m : MM) : Prop := (isTx (m 372 1)) ∧ (0 ≤ x1 ∧ x1 < 160) ∧ (RI (m ((m 372 1) + 4) x1)) ∧ (if (m ((m 372 1) + 4) x1) ≤ 0 then P_X5_matrix_111 rec Q T x1 x2 m else (RI x2) ∧ (if x2 < 0 then P_X5_matrix_111 rec Q T x1 x2 m else P_X11_size x2 m (fun r1 m1 => ((RI r1)) ∧ (RI (if r1 = 0 then 1 else 0 : Int)) ∧ (if (if r1 = 0 then 1 else 0 : Int) = 0 then (isTx (m1 372 1)) ∧ P_X5_fail 4 (m1 ((m1 372 1) + 5) x1) m1 (fun r2 m2 => Q r2 m2) else (isTx (m1 372 1)) ∧ Q (x2 + (m1 ((m1 372 1) + 4) x1)) m1))))
def P_X5_matrix_47 (rec : Nat → List Int → MM → (Int → MM → Prop) → (MM → Prop) → Prop) (Q : Int → MM → Prop) (T : MM → Prop) : Nat → Int → Int → Int → MM → Prop
  | 0, _, _, _, _ => False
  | n + 1, x1, x2, x3, m => (RI x3) ∧ (if x3 = (-1) then P_X5_matrix_84 rec Q T x1 x2 m else (RI x2) ∧ (if x2 = (-1) then P_X5_matrix_84 rec Q T x1 x2 m else (isTx (m 372 1)) ∧ (0 ≤ x3 ∧ x3 < 160) ∧ P_X11_join x2 (m ((m 372 1) + 6) x3) m (fun r1 m1 => (isTx (m1 372 1)) ∧ P_X5_matrix_47 rec Q T n x1 r1 (m1 ((m1 372 1) + 3) x3) m1)))
def W_X5_matrix (rec : Nat → List Int → MM → (Int → MM → Prop) → (MM → Prop) → Prop) (x1 : Int) (m : MM) (Q : Int → MM → Prop) (T : MM → Prop) : Prop := rec 5 [x1] m (fun r1 m1 => (RI r1) ∧ (if r1 = 0 then Q (-3) m1 else (isTx (m1 372 1)) ∧ (0 ≤ x1 ∧ x1 < 160) ∧ (0 ≤ (m1 ((m1 372 1) + 2) x1) ∧ (m1 ((m1 372 1) + 2) x1) < 160) ∧ ∃ nn, P_X5_matrix_47 rec Q T nn x1 (m1 ((m1 372 1) + 6) (m1 ((m1 372 1) + 2) x1)) (m1 ((m1 372 1) + 3) (m1 ((m1 372 1) + 2) x1)) m1)) T
theorem dX5_part_0 : decode cX5_part 0 = .ok (.aload_n 0, 1) := by decide +kernel
theorem dX5_part_1 : decode cX5_part 1 = .ok (.iload_n 1, 1) := by decide +kernel
theorem dX5_part_2 : decode cX5_part 2 = .ok (.invokevirtual 188, 3) := by decide +kernel
theorem dX5_part_5 : decode cX5_part 5 = .ok (.istore_n 2, 1) := by decide +kernel
theorem dX5_part_6 : decode cX5_part 6 = .ok (.aload_n 0, 1) := by decide +kernel
theorem dX5_part_7 : decode cX5_part 7 = .ok (.getfield 26, 3) := by decide +kernel
theorem dX5_part_10 : decode cX5_part 10 = .ok (.getfield 191, 3) := by decide +kernel
theorem dX5_part_13 : decode cX5_part 13 = .ok (.iload_n 1, 1) := by decide +kernel
theorem dX5_part_14 : decode cX5_part 14 = .ok (.iload_n 2, 1) := by decide +kernel
theorem dX5_part_15 : decode cX5_part 15 = .ok (.iastore, 1) := by decide +kernel
theorem dX5_part_16 : decode cX5_part 16 = .ok (.iload_n 2, 1) := by decide +kernel
theorem dX5_part_17 : decode cX5_part 17 = .ok (.ireturn, 1) := by decide +kernel
/-! AlgebraHouse$Judge.part(I)I -/
def W_X5_part (rec : Nat → List Int → MM → (Int → MM → Prop) → (MM → Prop) → Prop) (x1 : Int) (m : MM) (Q : Int → MM → Prop) (T : MM → Prop) : Prop := rec 6 [x1] m (fun r1 m1 => (isTx (m1 372 1)) ∧ (0 ≤ x1 ∧ x1 < 160) ∧ ∀ m2 : MM, m2 = up m1 ((m1 372 1) + 6) x1 r1 → Q r1 m2) T
theorem dX5_parts_0 : decode cX5_parts 0 = .ok (.iconst 1, 1) := by decide +kernel
theorem dX5_parts_1 : decode cX5_parts 1 = .ok (.istore_n 2, 1) := by decide +kernel
theorem dX5_parts_2 : decode cX5_parts 2 = .ok (.aload_n 0, 1) := by decide +kernel
theorem dX5_parts_3 : decode cX5_parts 3 = .ok (.getfield 26, 3) := by decide +kernel
theorem dX5_parts_6 : decode cX5_parts 6 = .ok (.getfield 149, 3) := by decide +kernel
theorem dX5_parts_9 : decode cX5_parts 9 = .ok (.iload_n 1, 1) := by decide +kernel
theorem dX5_parts_10 : decode cX5_parts 10 = .ok (.iaload, 1) := by decide +kernel
theorem dX5_parts_11 : decode cX5_parts 11 = .ok (.istore_n 3, 1) := by decide +kernel
theorem dX5_parts_12 : decode cX5_parts 12 = .ok (.iload_n 3, 1) := by decide +kernel
theorem dX5_parts_13 : decode cX5_parts 13 = .ok (.iconst (-1), 1) := by decide +kernel
theorem dX5_parts_14 : decode cX5_parts 14 = .ok (.if_icmp .eq 34, 3) := by decide +kernel
theorem dX5_parts_17 : decode cX5_parts 17 = .ok (.iload_n 2, 1) := by decide +kernel
theorem dX5_parts_18 : decode cX5_parts 18 = .ok (.aload_n 0, 1) := by decide +kernel
theorem dX5_parts_19 : decode cX5_parts 19 = .ok (.iload_n 3, 1) := by decide +kernel
theorem dX5_parts_20 : decode cX5_parts 20 = .ok (.invokevirtual 50, 3) := by decide +kernel
theorem dX5_parts_23 : decode cX5_parts 23 = .ok (.bipush (-3), 2) := by decide +kernel
theorem dX5_parts_25 : decode cX5_parts 25 = .ok (.if_icmp .eq 7, 3) := by decide +kernel
theorem dX5_parts_28 : decode cX5_parts 28 = .ok (.iconst 1, 1) := by decide +kernel
theorem dX5_parts_29 : decode cX5_parts 29 = .ok (.goto 4, 3) := by decide +kernel
theorem dX5_parts_32 : decode cX5_parts 32 = .ok (.iconst 0, 1) := by decide +kernel
theorem dX5_parts_33 : decode cX5_parts 33 = .ok (.iand, 1) := by decide +kernel
theorem dX5_parts_34 : decode cX5_parts 34 = .ok (.istore_n 2, 1) := by decide +kernel
theorem dX5_parts_35 : decode cX5_parts 35 = .ok (.aload_n 0, 1) := by decide +kernel
theorem dX5_parts_36 : decode cX5_parts 36 = .ok (.getfield 26, 3) := by decide +kernel
theorem dX5_parts_39 : decode cX5_parts 39 = .ok (.getfield 226, 3) := by decide +kernel
theorem dX5_parts_42 : decode cX5_parts 42 = .ok (.iload_n 3, 1) := by decide +kernel
theorem dX5_parts_43 : decode cX5_parts 43 = .ok (.iaload, 1) := by decide +kernel
theorem dX5_parts_44 : decode cX5_parts 44 = .ok (.istore_n 3, 1) := by decide +kernel
theorem dX5_parts_45 : decode cX5_parts 45 = .ok (.goto (-33), 3) := by decide +kernel
theorem dX5_parts_48 : decode cX5_parts 48 = .ok (.iload_n 2, 1) := by decide +kernel
theorem dX5_parts_49 : decode cX5_parts 49 = .ok (.ireturn, 1) := by decide +kernel
/-! AlgebraHouse$Judge.parts(I)Z -/
def P_X5_parts_12 (rec : Nat → List Int → MM → (Int → MM → Prop) → (MM → Prop) → Prop) (Q : Int → MM → Prop) (T : MM → Prop) : Nat → Int → Int → MM → Prop
  | 0, _, _, _ => False
  | n + 1, x2, x3, m => (RI x3) ∧ (if x3 = (-1) then (x2 = 0 ∨ x2 = 1) ∧ Q x2 m else rec 4 [x3] m (fun r1 m1 => ((RI r1)) ∧ (isTx (m1 372 1)) ∧ (0 ≤ x3 ∧ x3 < 160) ∧ P_X5_parts_12 rec Q T n (iAnd x2 (if r1 = (-3) then 0 else 1 : Int)) (m1 ((m1 372 1) + 3) x3) m1) T)
def W_X5_parts (rec : Nat → List Int → MM → (Int → MM → Prop) → (MM → Prop) → Prop) (x1 : Int) (m : MM) (Q : Int → MM → Prop) (T : MM → Prop) : Prop := (isTx (m 372 1)) ∧ (0 ≤ x1 ∧ x1 < 160) ∧ ∃ nn, P_X5_parts_12 rec Q T nn 1 (m ((m 372 1) + 2) x1) m
theorem dX5_ringOf_0 : decode cX5_ringOf 0 = .ok (.aload_n 0, 1) := by decide +kernel
theorem dX5_ringOf_1 : decode cX5_ringOf 1 = .ok (.getfield 26, 3) := by decide +kernel
theorem dX5_ringOf_4 : decode cX5_ringOf 4 = .ok (.getfield 143, 3) := by decide +kernel
theorem dX5_ringOf_7 : decode cX5_ringOf 7 = .ok (.iload_n 1, 1) := by decide +kernel
theorem dX5_ringOf_8 : decode cX5_ringOf 8 = .ok (.iaload, 1) := by decide +kernel
theorem dX5_ringOf_9 : decode cX5_ringOf 9 = .ok (.tableswitch 380 0 25 #[119, 126, 133, 140, 201, 207, 213, 219, 225, 380, 380, 231, 380, 380, 380, 380, 380, 380, 380, 380, 380, 380, 276, 315, 374, 374], 119) := by decide +kernel
theorem dX5_ringOf_128 : decode cX5_ringOf 128 = .ok (.iconst 0, 1) := by decide +kernel
theorem dX5_ringOf_129 : decode cX5_ringOf 129 = .ok (.iconst 0, 1) := by decide +kernel
theorem dX5_ringOf_130 : decode cX5_ringOf 130 = .ok (.iconst 0, 1) := by decide +kernel
theorem dX5_ringOf_131 : decode cX5_ringOf 131 = .ok (.invokestatic 89, 3) := by decide +kernel
theorem dX5_ringOf_134 : decode cX5_ringOf 134 = .ok (.ireturn, 1) := by decide +kernel
theorem dX5_ringOf_135 : decode cX5_ringOf 135 = .ok (.iconst 0, 1) := by decide +kernel
theorem dX5_ringOf_136 : decode cX5_ringOf 136 = .ok (.iconst 1, 1) := by decide +kernel
theorem dX5_ringOf_137 : decode cX5_ringOf 137 = .ok (.iconst 0, 1) := by decide +kernel
theorem dX5_ringOf_138 : decode cX5_ringOf 138 = .ok (.invokestatic 89, 3) := by decide +kernel
theorem dX5_ringOf_141 : decode cX5_ringOf 141 = .ok (.ireturn, 1) := by decide +kernel
theorem dX5_ringOf_142 : decode cX5_ringOf 142 = .ok (.iconst 0, 1) := by decide +kernel
theorem dX5_ringOf_143 : decode cX5_ringOf 143 = .ok (.iconst 2, 1) := by decide +kernel
theorem dX5_ringOf_144 : decode cX5_ringOf 144 = .ok (.iconst 0, 1) := by decide +kernel
theorem dX5_ringOf_145 : decode cX5_ringOf 145 = .ok (.invokestatic 89, 3) := by decide +kernel
theorem dX5_ringOf_148 : decode cX5_ringOf 148 = .ok (.ireturn, 1) := by decide +kernel
theorem dX5_ringOf_149 : decode cX5_ringOf 149 = .ok (.aload_n 0, 1) := by decide +kernel
theorem dX5_ringOf_150 : decode cX5_ringOf 150 = .ok (.getfield 33, 3) := by decide +kernel
theorem dX5_ringOf_153 : decode cX5_ringOf 153 = .ok (.ifCond .ne 22, 3) := by decide +kernel
theorem dX5_ringOf_156 : decode cX5_ringOf 156 = .ok (.aload_n 0, 1) := by decide +kernel
theorem dX5_ringOf_157 : decode cX5_ringOf 157 = .ok (.getfield 26, 3) := by decide +kernel
theorem dX5_ringOf_160 : decode cX5_ringOf 160 = .ok (.getfield 146, 3) := by decide +kernel
theorem dX5_ringOf_163 : decode cX5_ringOf 163 = .ok (.iload_n 1, 1) := by decide +kernel
theorem dX5_ringOf_164 : decode cX5_ringOf 164 = .ok (.iaload, 1) := by decide +kernel
theorem dX5_ringOf_165 : decode cX5_ringOf 165 = .ok (.aload_n 0, 1) := by decide +kernel
theorem dX5_ringOf_166 : decode cX5_ringOf 166 = .ok (.getfield 15, 3) := by decide +kernel
theorem dX5_ringOf_169 : decode cX5_ringOf 169 = .ok (.getfield 70, 3) := by decide +kernel
theorem dX5_ringOf_172 : decode cX5_ringOf 172 = .ok (.if_icmp .lt 20, 3) := by decide +kernel
theorem dX5_ringOf_175 : decode cX5_ringOf 175 = .ok (.aload_n 0, 1) := by decide +kernel
theorem dX5_ringOf_176 : decode cX5_ringOf 176 = .ok (.iconst 3, 1) := by decide +kernel
theorem dX5_ringOf_177 : decode cX5_ringOf 177 = .ok (.aload_n 0, 1) := by decide +kernel
theorem dX5_ringOf_178 : decode cX5_ringOf 178 = .ok (.getfield 26, 3) := by decide +kernel
theorem dX5_ringOf_181 : decode cX5_ringOf 181 = .ok (.getfield 174, 3) := by decide +kernel
theorem dX5_ringOf_184 : decode cX5_ringOf 184 = .ok (.iload_n 1, 1) := by decide +kernel
theorem dX5_ringOf_185 : decode cX5_ringOf 185 = .ok (.iaload, 1) := by decide +kernel
theorem dX5_ringOf_186 : decode cX5_ringOf 186 = .ok (.invokevirtual 114, 3) := by decide +kernel
theorem dX5_ringOf_189 : decode cX5_ringOf 189 = .ok (.goto 20, 3) := by decide +kernel
theorem dX5_ringOf_192 : decode cX5_ringOf 192 = .ok (.aload_n 0, 1) := by decide +kernel
theorem dX5_ringOf_193 : decode cX5_ringOf 193 = .ok (.getfield 15, 3) := by decide +kernel
theorem dX5_ringOf_196 : decode cX5_ringOf 196 = .ok (.getfield 193, 3) := by decide +kernel
theorem dX5_ringOf_199 : decode cX5_ringOf 199 = .ok (.aload_n 0, 1) := by decide +kernel
theorem dX5_ringOf_200 : decode cX5_ringOf 200 = .ok (.getfield 26, 3) := by decide +kernel
theorem dX5_ringOf_203 : decode cX5_ringOf 203 = .ok (.getfield 146, 3) := by decide +kernel
theorem dX5_ringOf_206 : decode cX5_ringOf 206 = .ok (.iload_n 1, 1) := by decide +kernel
theorem dX5_ringOf_207 : decode cX5_ringOf 207 = .ok (.iaload, 1) := by decide +kernel
theorem dX5_ringOf_208 : decode cX5_ringOf 208 = .ok (.iaload, 1) := by decide +kernel
theorem dX5_ringOf_209 : decode cX5_ringOf 209 = .ok (.ireturn, 1) := by decide +kernel
theorem dX5_ringOf_210 : decode cX5_ringOf 210 = .ok (.aload_n 0, 1) := by decide +kernel
theorem dX5_ringOf_211 : decode cX5_ringOf 211 = .ok (.iload_n 1, 1) := by decide +kernel
theorem dX5_ringOf_212 : decode cX5_ringOf 212 = .ok (.invokevirtual 196, 3) := by decide +kernel
theorem dX5_ringOf_215 : decode cX5_ringOf 215 = .ok (.ireturn, 1) := by decide +kernel
theorem dX5_ringOf_216 : decode cX5_ringOf 216 = .ok (.aload_n 0, 1) := by decide +kernel
theorem dX5_ringOf_217 : decode cX5_ringOf 217 = .ok (.iload_n 1, 1) := by decide +kernel
theorem dX5_ringOf_218 : decode cX5_ringOf 218 = .ok (.invokevirtual 199, 3) := by decide +kernel
theorem dX5_ringOf_221 : decode cX5_ringOf 221 = .ok (.ireturn, 1) := by decide +kernel
theorem dX5_ringOf_222 : decode cX5_ringOf 222 = .ok (.aload_n 0, 1) := by decide +kernel
theorem dX5_ringOf_223 : decode cX5_ringOf 223 = .ok (.iload_n 1, 1) := by decide +kernel
theorem dX5_ringOf_224 : decode cX5_ringOf 224 = .ok (.invokevirtual 202, 3) := by decide +kernel
theorem dX5_ringOf_227 : decode cX5_ringOf 227 = .ok (.ireturn, 1) := by decide +kernel
theorem dX5_ringOf_228 : decode cX5_ringOf 228 = .ok (.aload_n 0, 1) := by decide +kernel
theorem dX5_ringOf_229 : decode cX5_ringOf 229 = .ok (.iload_n 1, 1) := by decide +kernel
theorem dX5_ringOf_230 : decode cX5_ringOf 230 = .ok (.invokevirtual 205, 3) := by decide +kernel
theorem dX5_ringOf_233 : decode cX5_ringOf 233 = .ok (.ireturn, 1) := by decide +kernel
theorem dX5_ringOf_234 : decode cX5_ringOf 234 = .ok (.aload_n 0, 1) := by decide +kernel
theorem dX5_ringOf_235 : decode cX5_ringOf 235 = .ok (.iload_n 1, 1) := by decide +kernel
theorem dX5_ringOf_236 : decode cX5_ringOf 236 = .ok (.invokevirtual 208, 3) := by decide +kernel
theorem dX5_ringOf_239 : decode cX5_ringOf 239 = .ok (.ireturn, 1) := by decide +kernel
theorem dX5_ringOf_240 : decode cX5_ringOf 240 = .ok (.aload_n 0, 1) := by decide +kernel
theorem dX5_ringOf_241 : decode cX5_ringOf 241 = .ok (.aload_n 0, 1) := by decide +kernel
theorem dX5_ringOf_242 : decode cX5_ringOf 242 = .ok (.getfield 26, 3) := by decide +kernel
theorem dX5_ringOf_245 : decode cX5_ringOf 245 = .ok (.getfield 149, 3) := by decide +kernel
theorem dX5_ringOf_248 : decode cX5_ringOf 248 = .ok (.iload_n 1, 1) := by decide +kernel
theorem dX5_ringOf_249 : decode cX5_ringOf 249 = .ok (.iaload, 1) := by decide +kernel
theorem dX5_ringOf_250 : decode cX5_ringOf 250 = .ok (.invokevirtual 50, 3) := by decide +kernel
theorem dX5_ringOf_253 : decode cX5_ringOf 253 = .ok (.istore_n 2, 1) := by decide +kernel
theorem dX5_ringOf_254 : decode cX5_ringOf 254 = .ok (.iload_n 2, 1) := by decide +kernel
theorem dX5_ringOf_255 : decode cX5_ringOf 255 = .ok (.bipush (-3), 2) := by decide +kernel
theorem dX5_ringOf_257 : decode cX5_ringOf 257 = .ok (.if_icmp .eq 9, 3) := by decide +kernel
theorem dX5_ringOf_260 : decode cX5_ringOf 260 = .ok (.iload_n 2, 1) := by decide +kernel
theorem dX5_ringOf_261 : decode cX5_ringOf 261 = .ok (.bipush (-2), 2) := by decide +kernel
theorem dX5_ringOf_263 : decode cX5_ringOf 263 = .ok (.if_icmp .ne 7, 3) := by decide +kernel
theorem dX5_ringOf_266 : decode cX5_ringOf 266 = .ok (.iload_n 2, 1) := by decide +kernel
theorem dX5_ringOf_267 : decode cX5_ringOf 267 = .ok (.goto 17, 3) := by decide +kernel
theorem dX5_ringOf_270 : decode cX5_ringOf 270 = .ok (.aload_n 0, 1) := by decide +kernel
theorem dX5_ringOf_271 : decode cX5_ringOf 271 = .ok (.iconst 4, 1) := by decide +kernel
theorem dX5_ringOf_272 : decode cX5_ringOf 272 = .ok (.aload_n 0, 1) := by decide +kernel
theorem dX5_ringOf_273 : decode cX5_ringOf 273 = .ok (.getfield 26, 3) := by decide +kernel
theorem dX5_ringOf_276 : decode cX5_ringOf 276 = .ok (.getfield 174, 3) := by decide +kernel
theorem dX5_ringOf_279 : decode cX5_ringOf 279 = .ok (.iload_n 1, 1) := by decide +kernel
theorem dX5_ringOf_280 : decode cX5_ringOf 280 = .ok (.iaload, 1) := by decide +kernel
theorem dX5_ringOf_281 : decode cX5_ringOf 281 = .ok (.invokevirtual 114, 3) := by decide +kernel
theorem dX5_ringOf_284 : decode cX5_ringOf 284 = .ok (.ireturn, 1) := by decide +kernel
theorem dX5_ringOf_285 : decode cX5_ringOf 285 = .ok (.aload_n 0, 1) := by decide +kernel
theorem dX5_ringOf_286 : decode cX5_ringOf 286 = .ok (.aload_n 0, 1) := by decide +kernel
theorem dX5_ringOf_287 : decode cX5_ringOf 287 = .ok (.getfield 26, 3) := by decide +kernel
theorem dX5_ringOf_290 : decode cX5_ringOf 290 = .ok (.getfield 149, 3) := by decide +kernel
theorem dX5_ringOf_293 : decode cX5_ringOf 293 = .ok (.iload_n 1, 1) := by decide +kernel
theorem dX5_ringOf_294 : decode cX5_ringOf 294 = .ok (.iaload, 1) := by decide +kernel
theorem dX5_ringOf_295 : decode cX5_ringOf 295 = .ok (.invokevirtual 50, 3) := by decide +kernel
theorem dX5_ringOf_298 : decode cX5_ringOf 298 = .ok (.istore_n 2, 1) := by decide +kernel
theorem dX5_ringOf_299 : decode cX5_ringOf 299 = .ok (.iload_n 2, 1) := by decide +kernel
theorem dX5_ringOf_300 : decode cX5_ringOf 300 = .ok (.bipush (-2), 2) := by decide +kernel
theorem dX5_ringOf_302 : decode cX5_ringOf 302 = .ok (.if_icmp .ne 20, 3) := by decide +kernel
theorem dX5_ringOf_305 : decode cX5_ringOf 305 = .ok (.aload_n 0, 1) := by decide +kernel
theorem dX5_ringOf_306 : decode cX5_ringOf 306 = .ok (.iconst 4, 1) := by decide +kernel
theorem dX5_ringOf_307 : decode cX5_ringOf 307 = .ok (.aload_n 0, 1) := by decide +kernel
theorem dX5_ringOf_308 : decode cX5_ringOf 308 = .ok (.getfield 26, 3) := by decide +kernel
theorem dX5_ringOf_311 : decode cX5_ringOf 311 = .ok (.getfield 174, 3) := by decide +kernel
theorem dX5_ringOf_314 : decode cX5_ringOf 314 = .ok (.iload_n 1, 1) := by decide +kernel
theorem dX5_ringOf_315 : decode cX5_ringOf 315 = .ok (.iaload, 1) := by decide +kernel
theorem dX5_ringOf_316 : decode cX5_ringOf 316 = .ok (.invokevirtual 114, 3) := by decide +kernel
theorem dX5_ringOf_319 : decode cX5_ringOf 319 = .ok (.goto 4, 3) := by decide +kernel
theorem dX5_ringOf_322 : decode cX5_ringOf 322 = .ok (.iload_n 2, 1) := by decide +kernel
theorem dX5_ringOf_323 : decode cX5_ringOf 323 = .ok (.ireturn, 1) := by decide +kernel
theorem dX5_ringOf_324 : decode cX5_ringOf 324 = .ok (.aload_n 0, 1) := by decide +kernel
theorem dX5_ringOf_325 : decode cX5_ringOf 325 = .ok (.aload_n 0, 1) := by decide +kernel
theorem dX5_ringOf_326 : decode cX5_ringOf 326 = .ok (.getfield 26, 3) := by decide +kernel
theorem dX5_ringOf_329 : decode cX5_ringOf 329 = .ok (.getfield 149, 3) := by decide +kernel
theorem dX5_ringOf_332 : decode cX5_ringOf 332 = .ok (.iload_n 1, 1) := by decide +kernel
theorem dX5_ringOf_333 : decode cX5_ringOf 333 = .ok (.iaload, 1) := by decide +kernel
theorem dX5_ringOf_334 : decode cX5_ringOf 334 = .ok (.invokevirtual 50, 3) := by decide +kernel
theorem dX5_ringOf_337 : decode cX5_ringOf 337 = .ok (.istore_n 2, 1) := by decide +kernel
theorem dX5_ringOf_338 : decode cX5_ringOf 338 = .ok (.iload_n 2, 1) := by decide +kernel
theorem dX5_ringOf_339 : decode cX5_ringOf 339 = .ok (.bipush (-3), 2) := by decide +kernel
theorem dX5_ringOf_341 : decode cX5_ringOf 341 = .ok (.if_icmp .eq 23, 3) := by decide +kernel
theorem dX5_ringOf_344 : decode cX5_ringOf 344 = .ok (.iload_n 2, 1) := by decide +kernel
theorem dX5_ringOf_345 : decode cX5_ringOf 345 = .ok (.bipush (-2), 2) := by decide +kernel
theorem dX5_ringOf_347 : decode cX5_ringOf 347 = .ok (.if_icmp .eq 21, 3) := by decide +kernel
theorem dX5_ringOf_350 : decode cX5_ringOf 350 = .ok (.aload_n 0, 1) := by decide +kernel
theorem dX5_ringOf_351 : decode cX5_ringOf 351 = .ok (.getfield 26, 3) := by decide +kernel
theorem dX5_ringOf_354 : decode cX5_ringOf 354 = .ok (.getfield 146, 3) := by decide +kernel
theorem dX5_ringOf_357 : decode cX5_ringOf 357 = .ok (.iload_n 1, 1) := by decide +kernel
theorem dX5_ringOf_358 : decode cX5_ringOf 358 = .ok (.iaload, 1) := by decide +kernel
theorem dX5_ringOf_359 : decode cX5_ringOf 359 = .ok (.bipush 12, 2) := by decide +kernel
theorem dX5_ringOf_361 : decode cX5_ringOf 361 = .ok (.if_icmp .gt 7, 3) := by decide +kernel
theorem dX5_ringOf_364 : decode cX5_ringOf 364 = .ok (.iload_n 2, 1) := by decide +kernel
theorem dX5_ringOf_365 : decode cX5_ringOf 365 = .ok (.goto 17, 3) := by decide +kernel
theorem dX5_ringOf_368 : decode cX5_ringOf 368 = .ok (.aload_n 0, 1) := by decide +kernel
theorem dX5_ringOf_369 : decode cX5_ringOf 369 = .ok (.iconst 4, 1) := by decide +kernel
theorem dX5_ringOf_370 : decode cX5_ringOf 370 = .ok (.aload_n 0, 1) := by decide +kernel
theorem dX5_ringOf_371 : decode cX5_ringOf 371 = .ok (.getfield 26, 3) := by decide +kernel
theorem dX5_ringOf_374 : decode cX5_ringOf 374 = .ok (.getfield 174, 3) := by decide +kernel
theorem dX5_ringOf_377 : decode cX5_ringOf 377 = .ok (.iload_n 1, 1) := by decide +kernel
theorem dX5_ringOf_378 : decode cX5_ringOf 378 = .ok (.iaload, 1) := by decide +kernel
theorem dX5_ringOf_379 : decode cX5_ringOf 379 = .ok (.invokevirtual 114, 3) := by decide +kernel
theorem dX5_ringOf_382 : decode cX5_ringOf 382 = .ok (.ireturn, 1) := by decide +kernel
theorem dX5_ringOf_383 : decode cX5_ringOf 383 = .ok (.aload_n 0, 1) := by decide +kernel
theorem dX5_ringOf_384 : decode cX5_ringOf 384 = .ok (.iload_n 1, 1) := by decide +kernel
theorem dX5_ringOf_385 : decode cX5_ringOf 385 = .ok (.invokevirtual 211, 3) := by decide +kernel
theorem dX5_ringOf_388 : decode cX5_ringOf 388 = .ok (.ireturn, 1) := by decide +kernel
theorem dX5_ringOf_389 : decode cX5_ringOf 389 = .ok (.aload_n 0, 1) := by decide +kernel
theorem dX5_ringOf_390 : decode cX5_ringOf 390 = .ok (.iload_n 1, 1) := by decide +kernel
theorem dX5_ringOf_391 : decode cX5_ringOf 391 = .ok (.invokevirtual 214, 3) := by decide +kernel
theorem dX5_ringOf_394 : decode cX5_ringOf 394 = .ok (.ireturn, 1) := by decide +kernel
/-! AlgebraHouse$Judge.ringOf(I)I -/
def P_X5_ringOf_175 (rec : Nat → List Int → MM → (Int → MM → Prop) → (MM → Prop) → Prop) (Q : Int → MM → Prop) (T : MM → Prop) (x1 : Int) (m : MM) : Prop := (isTx (m 372 1)) ∧ (0 ≤ x1 ∧ x1 < 160) ∧ P_X5_fail 3 (m ((m 372 1) + 5) x1) m (fun r1 m1 => Q r1 m1)
def P_X5_ringOf_368 (rec : Nat → List Int → MM → (Int → MM → Prop) → (MM → Prop) → Prop) (Q : Int → MM → Prop) (T : MM → Prop) (x1 : Int) (m : MM) : Prop := (isTx (m 372 1)) ∧ (0 ≤ x1 ∧ x1 < 160) ∧ P_X5_fail 4 (m ((m 372 1) + 5) x1) m (fun r1 m1 => Q r1 m1)
def P_X5_ringOf_383 (rec : Nat → List Int → MM → (Int → MM → Prop) → (MM → Prop) → Prop) (Q : Int → MM → Prop) (T : MM → Prop) (x1 : Int) (m : MM) : Prop := rec 7 [x1] m (fun r1 m1 => Q r1 m1) T
def P_X5_ringOf_389 (rec : Nat → List Int → MM → (Int → MM → Prop) → (MM → Prop) → Prop) (Q : Int → MM → Prop) (T : MM → Prop) (x1 : Int) (m : MM) : Prop := rec 8 [x1] m (fun r1 m1 => Q r1 m1) T
def W_X5_ringOf (rec : Nat → List Int → MM → (Int → MM → Prop) → (MM → Prop) → Prop) (x1 : Int) (m : MM) (Q : Int → MM → Prop) (T : MM → Prop) : Prop := (isTx (m 372 1)) ∧ (0 ≤ x1 ∧ x1 < 160) ∧ (RI (m ((m 372 1) + 1) x1)) ∧ (if (m ((m 372 1) + 1) x1) = 0 then P_X11_of 0 0 0 m (fun r1 m1 => Q r1 m1) else (if (m ((m 372 1) + 1) x1) = 1 then P_X11_of 0 1 0 m (fun r2 m2 => Q r2 m2) else (if (m ((m 372 1) + 1) x1) = 2 then P_X11_of 0 2 0 m (fun r3 m3 => Q r3 m3) else (if (m ((m 372 1) + 1) x1) = 3 then (RI (m 372 4)) ∧ (if (m 372 4) = 0 then (RI (m ((m 372 1) + 4) x1)) ∧ (RI (m 3 3)) ∧ (if (m ((m 372 1) + 4) x1) < (m 3 3) then (0 ≤ (m ((m 372 1) + 4) x1) ∧ (m ((m 372 1) + 4) x1) < 200) ∧ Q (m 7 (m ((m 372 1) + 4) x1)) m else P_X5_ringOf_175 rec Q T x1 m) else P_X5_ringOf_175 rec Q T x1 m) else (if (m ((m 372 1) + 1) x1) = 4 then P_X5_named x1 m (fun r4 m4 => Q r4 m4) else (if (m ((m 372 1) + 1) x1) = 5 then rec 0 [x1] m (fun r5 m5 => Q r5 m5) T else (if (m ((m 372 1) + 1) x1) = 6 then rec 2 [x1] m (fun r6 m6 => Q r6 m6) T else (if (m ((m 372 1) + 1) x1) = 7 then rec 3 [x1] m (fun r7 m7 => Q r7 m7) T else (if (m ((m 372 1) + 1) x1) = 8 then rec 1 [x1] m (fun r8 m8 => Q r8 m8) T else (if (m ((m 372 1) + 1) x1) = 11 then rec 4 [(m ((m 372 1) + 2) x1)] m (fun r9 m9 => (RI r9) ∧ (if r9 = (-3) then Q r9 m9 else (if r9 = (-2) then Q r9 m9 else (isTx (m9 372 1)) ∧ P_X5_fail 4 (m9 ((m9 372 1) + 5) x1) m9 (fun r10 m10 => Q r10 m10)))) T else (if (m ((m 372 1) + 1) x1) = 22 then rec 4 [(m ((m 372 1) + 2) x1)] m (fun r11 m11 => (RI r11) ∧ (if r11 = (-2) then (isTx (m11 372 1)) ∧ P_X5_fail 4 (m11 ((m11 372 1) + 5) x1) m11 (fun r12 m12 => Q r12 m12) else Q r11 m11)) T else (if (m ((m 372 1) + 1) x1) = 23 then rec 4 [(m ((m 372 1) + 2) x1)] m (fun r13 m13 => (RI r13) ∧ (if r13 = (-3) then Q r13 m13 else (if r13 = (-2) then P_X5_ringOf_368 rec Q T x1 m13 else (isTx (m13 372 1)) ∧ (RI (m13 ((m13 372 1) + 4) x1)) ∧ (if 12 < (m13 ((m13 372 1) + 4) x1) then P_X5_ringOf_368 rec Q T x1 m13 else Q r13 m13)))) T else (if (m ((m 372 1) + 1) x1) = 24 then P_X5_ringOf_383 rec Q T x1 m else (if (m ((m 372 1) + 1) x1) = 25 then P_X5_ringOf_383 rec Q T x1 m else P_X5_ringOf_389 rec Q T x1 m))))))))))))))
theorem dX5_turned_0 : decode cX5_turned 0 = .ok (.aload_n 0, 1) := by decide +kernel
theorem dX5_turned_1 : decode cX5_turned 1 = .ok (.aload_n 0, 1) := by decide +kernel
theorem dX5_turned_2 : decode cX5_turned 2 = .ok (.getfield 26, 3) := by decide +kernel
theorem dX5_turned_5 : decode cX5_turned 5 = .ok (.getfield 149, 3) := by decide +kernel
theorem dX5_turned_8 : decode cX5_turned 8 = .ok (.iload_n 1, 1) := by decide +kernel
theorem dX5_turned_9 : decode cX5_turned 9 = .ok (.iaload, 1) := by decide +kernel
theorem dX5_turned_10 : decode cX5_turned 10 = .ok (.invokevirtual 50, 3) := by decide +kernel
theorem dX5_turned_13 : decode cX5_turned 13 = .ok (.istore_n 2, 1) := by decide +kernel
theorem dX5_turned_14 : decode cX5_turned 14 = .ok (.aload_n 0, 1) := by decide +kernel
theorem dX5_turned_15 : decode cX5_turned 15 = .ok (.aload_n 0, 1) := by decide +kernel
theorem dX5_turned_16 : decode cX5_turned 16 = .ok (.getfield 26, 3) := by decide +kernel
theorem dX5_turned_19 : decode cX5_turned 19 = .ok (.iload_n 1, 1) := by decide +kernel
theorem dX5_turned_20 : decode cX5_turned 20 = .ok (.invokevirtual 249, 3) := by decide +kernel
theorem dX5_turned_23 : decode cX5_turned 23 = .ok (.invokevirtual 134, 3) := by decide +kernel
theorem dX5_turned_26 : decode cX5_turned 26 = .ok (.istore_n 3, 1) := by decide +kernel
theorem dX5_turned_27 : decode cX5_turned 27 = .ok (.aload_n 0, 1) := by decide +kernel
theorem dX5_turned_28 : decode cX5_turned 28 = .ok (.getfield 26, 3) := by decide +kernel
theorem dX5_turned_31 : decode cX5_turned 31 = .ok (.getfield 191, 3) := by decide +kernel
theorem dX5_turned_34 : decode cX5_turned 34 = .ok (.aload_n 0, 1) := by decide +kernel
theorem dX5_turned_35 : decode cX5_turned 35 = .ok (.getfield 26, 3) := by decide +kernel
theorem dX5_turned_38 : decode cX5_turned 38 = .ok (.iload_n 1, 1) := by decide +kernel
theorem dX5_turned_39 : decode cX5_turned 39 = .ok (.invokevirtual 249, 3) := by decide +kernel
theorem dX5_turned_42 : decode cX5_turned 42 = .ok (.iload_n 3, 1) := by decide +kernel
theorem dX5_turned_43 : decode cX5_turned 43 = .ok (.iastore, 1) := by decide +kernel
theorem dX5_turned_44 : decode cX5_turned 44 = .ok (.iload_n 2, 1) := by decide +kernel
theorem dX5_turned_45 : decode cX5_turned 45 = .ok (.bipush (-3), 2) := by decide +kernel
theorem dX5_turned_47 : decode cX5_turned 47 = .ok (.if_icmp .eq 9, 3) := by decide +kernel
theorem dX5_turned_50 : decode cX5_turned 50 = .ok (.iload_n 3, 1) := by decide +kernel
theorem dX5_turned_51 : decode cX5_turned 51 = .ok (.bipush (-3), 2) := by decide +kernel
theorem dX5_turned_53 : decode cX5_turned 53 = .ok (.if_icmp .ne 6, 3) := by decide +kernel
theorem dX5_turned_56 : decode cX5_turned 56 = .ok (.bipush (-3), 2) := by decide +kernel
theorem dX5_turned_58 : decode cX5_turned 58 = .ok (.ireturn, 1) := by decide +kernel
theorem dX5_turned_59 : decode cX5_turned 59 = .ok (.aload_n 0, 1) := by decide +kernel
theorem dX5_turned_60 : decode cX5_turned 60 = .ok (.getfield 26, 3) := by decide +kernel
theorem dX5_turned_63 : decode cX5_turned 63 = .ok (.getfield 143, 3) := by decide +kernel
theorem dX5_turned_66 : decode cX5_turned 66 = .ok (.iload_n 1, 1) := by decide +kernel
theorem dX5_turned_67 : decode cX5_turned 67 = .ok (.iaload, 1) := by decide +kernel
theorem dX5_turned_68 : decode cX5_turned 68 = .ok (.bipush 24, 2) := by decide +kernel
theorem dX5_turned_70 : decode cX5_turned 70 = .ok (.if_icmp .ne 11, 3) := by decide +kernel
theorem dX5_turned_73 : decode cX5_turned 73 = .ok (.iload_n 2, 1) := by decide +kernel
theorem dX5_turned_74 : decode cX5_turned 74 = .ok (.iload_n 3, 1) := by decide +kernel
theorem dX5_turned_75 : decode cX5_turned 75 = .ok (.invokestatic 168, 3) := by decide +kernel
theorem dX5_turned_78 : decode cX5_turned 78 = .ok (.goto 8, 3) := by decide +kernel
theorem dX5_turned_81 : decode cX5_turned 81 = .ok (.iload_n 3, 1) := by decide +kernel
theorem dX5_turned_82 : decode cX5_turned 82 = .ok (.iload_n 2, 1) := by decide +kernel
theorem dX5_turned_83 : decode cX5_turned 83 = .ok (.invokestatic 168, 3) := by decide +kernel
theorem dX5_turned_86 : decode cX5_turned 86 = .ok (.istore 4, 2) := by decide +kernel
theorem dX5_turned_88 : decode cX5_turned 88 = .ok (.iload 4, 2) := by decide +kernel
theorem dX5_turned_90 : decode cX5_turned 90 = .ok (.ifCond .eq 7, 3) := by decide +kernel
theorem dX5_turned_93 : decode cX5_turned 93 = .ok (.iload_n 3, 1) := by decide +kernel
theorem dX5_turned_94 : decode cX5_turned 94 = .ok (.goto 17, 3) := by decide +kernel
theorem dX5_turned_97 : decode cX5_turned 97 = .ok (.aload_n 0, 1) := by decide +kernel
theorem dX5_turned_98 : decode cX5_turned 98 = .ok (.iconst 4, 1) := by decide +kernel
theorem dX5_turned_99 : decode cX5_turned 99 = .ok (.aload_n 0, 1) := by decide +kernel
theorem dX5_turned_100 : decode cX5_turned 100 = .ok (.getfield 26, 3) := by decide +kernel
theorem dX5_turned_103 : decode cX5_turned 103 = .ok (.getfield 174, 3) := by decide +kernel
theorem dX5_turned_106 : decode cX5_turned 106 = .ok (.iload_n 1, 1) := by decide +kernel
theorem dX5_turned_107 : decode cX5_turned 107 = .ok (.iaload, 1) := by decide +kernel
theorem dX5_turned_108 : decode cX5_turned 108 = .ok (.invokevirtual 114, 3) := by decide +kernel
theorem dX5_turned_111 : decode cX5_turned 111 = .ok (.ireturn, 1) := by decide +kernel
/-! AlgebraHouse$Judge.turned(I)I -/
def P_X5_turned_86 (rec : Nat → List Int → MM → (Int → MM → Prop) → (MM → Prop) → Prop) (Q : Int → MM → Prop) (T : MM → Prop) (x1 : Int) (x3 : Int) (s0 : Int) (m : MM) : Prop := (RI s0) ∧ (if s0 = 0 then (isTx (m 372 1)) ∧ (0 ≤ x1 ∧ x1 < 160) ∧ P_X5_fail 4 (m ((m 372 1) + 5) x1) m (fun r1 m1 => Q r1 m1) else Q x3 m)
def W_X5_turned (rec : Nat → List Int → MM → (Int → MM → Prop) → (MM → Prop) → Prop) (x1 : Int) (m : MM) (Q : Int → MM → Prop) (T : MM → Prop) : Prop := (isTx (m 372 1)) ∧ (0 ≤ x1 ∧ x1 < 160) ∧ rec 4 [(m ((m 372 1) + 2) x1)] m (fun r1 m1 => (isTx (m1 372 1)) ∧ P_X2_second (m1 372 1) x1 m1 (fun r2 m2 => R_X5_type 40 1 [r2] m2 (fun r3 m3 => (isTx (m3 372 1)) ∧ P_X2_second (m3 372 1) x1 m3 (fun r4 m4 => (0 ≤ r4 ∧ r4 < 160) ∧ ∀ m5 : MM, m5 = up m4 ((m3 372 1) + 6) r4 r3 → (RI r1) ∧ (if r1 = (-3) then Q (-3) m5 else (RI r3) ∧ (if r3 = (-3) then Q (-3) m5 else (isTx (m5 372 1)) ∧ (RI (m5 ((m5 372 1) + 1) x1)) ∧ (if (m5 ((m5 372 1) + 1) x1) = 24 then P_X11_goes r1 r3 m5 (fun r6 m7 => P_X5_turned_86 rec Q T x1 r3 r6 m7) else P_X11_goes r3 r1 m5 (fun r5 m6 => P_X5_turned_86 rec Q T x1 r3 r5 m6)))))) T)) T
theorem dX5_two_0 : decode cX5_two 0 = .ok (.aload_n 0, 1) := by decide +kernel
theorem dX5_two_1 : decode cX5_two 1 = .ok (.iload_n 1, 1) := by decide +kernel
theorem dX5_two_2 : decode cX5_two 2 = .ok (.invokevirtual 233, 3) := by decide +kernel
theorem dX5_two_5 : decode cX5_two 5 = .ok (.ifCond .ne 6, 3) := by decide +kernel
theorem dX5_two_8 : decode cX5_two 8 = .ok (.bipush (-3), 2) := by decide +kernel
theorem dX5_two_10 : decode cX5_two 10 = .ok (.ireturn, 1) := by decide +kernel
theorem dX5_two_11 : decode cX5_two 11 = .ok (.aload_n 0, 1) := by decide +kernel
theorem dX5_two_12 : decode cX5_two 12 = .ok (.getfield 26, 3) := by decide +kernel
theorem dX5_two_15 : decode cX5_two 15 = .ok (.getfield 191, 3) := by decide +kernel
theorem dX5_two_18 : decode cX5_two 18 = .ok (.aload_n 0, 1) := by decide +kernel
theorem dX5_two_19 : decode cX5_two 19 = .ok (.getfield 26, 3) := by decide +kernel
theorem dX5_two_22 : decode cX5_two 22 = .ok (.getfield 149, 3) := by decide +kernel
theorem dX5_two_25 : decode cX5_two 25 = .ok (.iload_n 1, 1) := by decide +kernel
theorem dX5_two_26 : decode cX5_two 26 = .ok (.iaload, 1) := by decide +kernel
theorem dX5_two_27 : decode cX5_two 27 = .ok (.iaload, 1) := by decide +kernel
theorem dX5_two_28 : decode cX5_two 28 = .ok (.istore_n 2, 1) := by decide +kernel
theorem dX5_two_29 : decode cX5_two 29 = .ok (.aload_n 0, 1) := by decide +kernel
theorem dX5_two_30 : decode cX5_two 30 = .ok (.getfield 26, 3) := by decide +kernel
theorem dX5_two_33 : decode cX5_two 33 = .ok (.getfield 191, 3) := by decide +kernel
theorem dX5_two_36 : decode cX5_two 36 = .ok (.aload_n 0, 1) := by decide +kernel
theorem dX5_two_37 : decode cX5_two 37 = .ok (.getfield 26, 3) := by decide +kernel
theorem dX5_two_40 : decode cX5_two 40 = .ok (.iload_n 1, 1) := by decide +kernel
theorem dX5_two_41 : decode cX5_two 41 = .ok (.invokevirtual 249, 3) := by decide +kernel
theorem dX5_two_44 : decode cX5_two 44 = .ok (.iaload, 1) := by decide +kernel
theorem dX5_two_45 : decode cX5_two 45 = .ok (.istore_n 3, 1) := by decide +kernel
theorem dX5_two_46 : decode cX5_two 46 = .ok (.iload_n 2, 1) := by decide +kernel
theorem dX5_two_47 : decode cX5_two 47 = .ok (.iload_n 3, 1) := by decide +kernel
theorem dX5_two_48 : decode cX5_two 48 = .ok (.invokestatic 255, 3) := by decide +kernel
theorem dX5_two_51 : decode cX5_two 51 = .ok (.istore 4, 2) := by decide +kernel
theorem dX5_two_53 : decode cX5_two 53 = .ok (.aload_n 0, 1) := by decide +kernel
theorem dX5_two_54 : decode cX5_two 54 = .ok (.getfield 26, 3) := by decide +kernel
theorem dX5_two_57 : decode cX5_two 57 = .ok (.getfield 143, 3) := by decide +kernel
theorem dX5_two_60 : decode cX5_two 60 = .ok (.iload_n 1, 1) := by decide +kernel
theorem dX5_two_61 : decode cX5_two 61 = .ok (.iaload, 1) := by decide +kernel
theorem dX5_two_62 : decode cX5_two 62 = .ok (.istore 5, 2) := by decide +kernel
theorem dX5_two_64 : decode cX5_two 64 = .ok (.iload 4, 2) := by decide +kernel
theorem dX5_two_66 : decode cX5_two 66 = .ok (.iconst (-1), 1) := by decide +kernel
theorem dX5_two_67 : decode cX5_two 67 = .ok (.if_icmp .eq 7, 3) := by decide +kernel
theorem dX5_two_70 : decode cX5_two 70 = .ok (.iconst 1, 1) := by decide +kernel
theorem dX5_two_71 : decode cX5_two 71 = .ok (.goto 4, 3) := by decide +kernel
theorem dX5_two_74 : decode cX5_two 74 = .ok (.iconst 0, 1) := by decide +kernel
theorem dX5_two_75 : decode cX5_two 75 = .ok (.istore 6, 2) := by decide +kernel
theorem dX5_two_77 : decode cX5_two 77 = .ok (.iload 4, 2) := by decide +kernel
theorem dX5_two_79 : decode cX5_two 79 = .ok (.istore 7, 2) := by decide +kernel
theorem dX5_two_81 : decode cX5_two 81 = .ok (.iload 5, 2) := by decide +kernel
theorem dX5_two_83 : decode cX5_two 83 = .ok (.bipush 9, 2) := by decide +kernel
theorem dX5_two_85 : decode cX5_two 85 = .ok (.if_icmp .eq 10, 3) := by decide +kernel
theorem dX5_two_88 : decode cX5_two 88 = .ok (.iload 5, 2) := by decide +kernel
theorem dX5_two_90 : decode cX5_two 90 = .ok (.bipush 10, 2) := by decide +kernel
theorem dX5_two_92 : decode cX5_two 92 = .ok (.if_icmp .ne 25, 3) := by decide +kernel
theorem dX5_two_95 : decode cX5_two 95 = .ok (.iload_n 2, 1) := by decide +kernel
theorem dX5_two_96 : decode cX5_two 96 = .ok (.bipush (-2), 2) := by decide +kernel
theorem dX5_two_98 : decode cX5_two 98 = .ok (.if_icmp .ne 13, 3) := by decide +kernel
theorem dX5_two_101 : decode cX5_two 101 = .ok (.iload_n 3, 1) := by decide +kernel
theorem dX5_two_102 : decode cX5_two 102 = .ok (.bipush (-2), 2) := by decide +kernel
theorem dX5_two_104 : decode cX5_two 104 = .ok (.if_icmp .ne 7, 3) := by decide +kernel
theorem dX5_two_107 : decode cX5_two 107 = .ok (.iconst 1, 1) := by decide +kernel
theorem dX5_two_108 : decode cX5_two 108 = .ok (.goto 4, 3) := by decide +kernel
theorem dX5_two_111 : decode cX5_two 111 = .ok (.iconst 0, 1) := by decide +kernel
theorem dX5_two_112 : decode cX5_two 112 = .ok (.istore 6, 2) := by decide +kernel
theorem dX5_two_114 : decode cX5_two 114 = .ok (.goto 175, 3) := by decide +kernel
theorem dX5_two_117 : decode cX5_two 117 = .ok (.iload 5, 2) := by decide +kernel
theorem dX5_two_119 : decode cX5_two 119 = .ok (.bipush 12, 2) := by decide +kernel
theorem dX5_two_121 : decode cX5_two 121 = .ok (.if_icmp .eq 10, 3) := by decide +kernel
theorem dX5_two_124 : decode cX5_two 124 = .ok (.iload 5, 2) := by decide +kernel
theorem dX5_two_126 : decode cX5_two 126 = .ok (.bipush 13, 2) := by decide +kernel
theorem dX5_two_128 : decode cX5_two 128 = .ok (.if_icmp .ne 10, 3) := by decide +kernel
theorem dX5_two_131 : decode cX5_two 131 = .ok (.bipush (-2), 2) := by decide +kernel
theorem dX5_two_133 : decode cX5_two 133 = .ok (.istore 7, 2) := by decide +kernel
theorem dX5_two_135 : decode cX5_two 135 = .ok (.goto 154, 3) := by decide +kernel
theorem dX5_two_138 : decode cX5_two 138 = .ok (.iload 5, 2) := by decide +kernel
theorem dX5_two_140 : decode cX5_two 140 = .ok (.bipush 14, 2) := by decide +kernel
theorem dX5_two_142 : decode cX5_two 142 = .ok (.if_icmp .eq 10, 3) := by decide +kernel
theorem dX5_two_145 : decode cX5_two 145 = .ok (.iload 5, 2) := by decide +kernel
theorem dX5_two_147 : decode cX5_two 147 = .ok (.bipush 15, 2) := by decide +kernel
theorem dX5_two_149 : decode cX5_two 149 = .ok (.if_icmp .ne 39, 3) := by decide +kernel
theorem dX5_two_152 : decode cX5_two 152 = .ok (.iload 4, 2) := by decide +kernel
theorem dX5_two_154 : decode cX5_two 154 = .ok (.iconst 0, 1) := by decide +kernel
theorem dX5_two_155 : decode cX5_two 155 = .ok (.iconst 0, 1) := by decide +kernel
theorem dX5_two_156 : decode cX5_two 156 = .ok (.iconst 0, 1) := by decide +kernel
theorem dX5_two_157 : decode cX5_two 157 = .ok (.invokestatic 89, 3) := by decide +kernel
theorem dX5_two_160 : decode cX5_two 160 = .ok (.if_icmp .eq 14, 3) := by decide +kernel
theorem dX5_two_163 : decode cX5_two 163 = .ok (.iload 4, 2) := by decide +kernel
theorem dX5_two_165 : decode cX5_two 165 = .ok (.iconst 1, 1) := by decide +kernel
theorem dX5_two_166 : decode cX5_two 166 = .ok (.iconst 0, 1) := by decide +kernel
theorem dX5_two_167 : decode cX5_two 167 = .ok (.iconst 0, 1) := by decide +kernel
theorem dX5_two_168 : decode cX5_two 168 = .ok (.invokestatic 89, 3) := by decide +kernel
theorem dX5_two_171 : decode cX5_two 171 = .ok (.if_icmp .ne 7, 3) := by decide +kernel
theorem dX5_two_174 : decode cX5_two 174 = .ok (.iconst 1, 1) := by decide +kernel
theorem dX5_two_175 : decode cX5_two 175 = .ok (.goto 4, 3) := by decide +kernel
theorem dX5_two_178 : decode cX5_two 178 = .ok (.iconst 0, 1) := by decide +kernel
theorem dX5_two_179 : decode cX5_two 179 = .ok (.istore 6, 2) := by decide +kernel
theorem dX5_two_181 : decode cX5_two 181 = .ok (.bipush (-2), 2) := by decide +kernel
theorem dX5_two_183 : decode cX5_two 183 = .ok (.istore 7, 2) := by decide +kernel
theorem dX5_two_185 : decode cX5_two 185 = .ok (.goto 104, 3) := by decide +kernel
theorem dX5_two_188 : decode cX5_two 188 = .ok (.iload 5, 2) := by decide +kernel
theorem dX5_two_190 : decode cX5_two 190 = .ok (.bipush 19, 2) := by decide +kernel
theorem dX5_two_192 : decode cX5_two 192 = .ok (.if_icmp .ne 61, 3) := by decide +kernel
theorem dX5_two_195 : decode cX5_two 195 = .ok (.iload 4, 2) := by decide +kernel
theorem dX5_two_197 : decode cX5_two 197 = .ok (.ifCond .lt 33, 3) := by decide +kernel
theorem dX5_two_200 : decode cX5_two 200 = .ok (.iload_n 3, 1) := by decide +kernel
theorem dX5_two_201 : decode cX5_two 201 = .ok (.bipush 15, 2) := by decide +kernel
theorem dX5_two_203 : decode cX5_two 203 = .ok (.iand, 1) := by decide +kernel
theorem dX5_two_204 : decode cX5_two 204 = .ok (.ifCond .ne 26, 3) := by decide +kernel
theorem dX5_two_207 : decode cX5_two 207 = .ok (.iload 4, 2) := by decide +kernel
theorem dX5_two_209 : decode cX5_two 209 = .ok (.invokestatic 258, 3) := by decide +kernel
theorem dX5_two_212 : decode cX5_two 212 = .ok (.ifCond .eq 14, 3) := by decide +kernel
theorem dX5_two_215 : decode cX5_two 215 = .ok (.iload 4, 2) := by decide +kernel
theorem dX5_two_217 : decode cX5_two 217 = .ok (.invokestatic 258, 3) := by decide +kernel
theorem dX5_two_220 : decode cX5_two 220 = .ok (.invokestatic 261, 3) := by decide +kernel
theorem dX5_two_223 : decode cX5_two 223 = .ok (.ifCond .eq 7, 3) := by decide +kernel
theorem dX5_two_226 : decode cX5_two 226 = .ok (.iconst 1, 1) := by decide +kernel
theorem dX5_two_227 : decode cX5_two 227 = .ok (.goto 4, 3) := by decide +kernel
theorem dX5_two_230 : decode cX5_two 230 = .ok (.iconst 0, 1) := by decide +kernel
theorem dX5_two_231 : decode cX5_two 231 = .ok (.istore 6, 2) := by decide +kernel
theorem dX5_two_233 : decode cX5_two 233 = .ok (.iload 6, 2) := by decide +kernel
theorem dX5_two_235 : decode cX5_two 235 = .ok (.ifCond .eq 11, 3) := by decide +kernel
theorem dX5_two_238 : decode cX5_two 238 = .ok (.iload 4, 2) := by decide +kernel
theorem dX5_two_240 : decode cX5_two 240 = .ok (.invokestatic 264, 3) := by decide +kernel
theorem dX5_two_243 : decode cX5_two 243 = .ok (.goto 5, 3) := by decide +kernel
theorem dX5_two_246 : decode cX5_two 246 = .ok (.iload 4, 2) := by decide +kernel
theorem dX5_two_248 : decode cX5_two 248 = .ok (.istore 7, 2) := by decide +kernel
theorem dX5_two_250 : decode cX5_two 250 = .ok (.goto 39, 3) := by decide +kernel
theorem dX5_two_253 : decode cX5_two 253 = .ok (.iload 5, 2) := by decide +kernel
theorem dX5_two_255 : decode cX5_two 255 = .ok (.bipush 20, 2) := by decide +kernel
theorem dX5_two_257 : decode cX5_two 257 = .ok (.if_icmp .eq 10, 3) := by decide +kernel
theorem dX5_two_260 : decode cX5_two 260 = .ok (.iload 5, 2) := by decide +kernel
theorem dX5_two_262 : decode cX5_two 262 = .ok (.bipush 21, 2) := by decide +kernel
theorem dX5_two_264 : decode cX5_two 264 = .ok (.if_icmp .ne 13, 3) := by decide +kernel
theorem dX5_two_267 : decode cX5_two 267 = .ok (.iload 4, 2) := by decide +kernel
theorem dX5_two_269 : decode cX5_two 269 = .ok (.invokestatic 267, 3) := by decide +kernel
theorem dX5_two_272 : decode cX5_two 272 = .ok (.istore 6, 2) := by decide +kernel
theorem dX5_two_274 : decode cX5_two 274 = .ok (.goto 15, 3) := by decide +kernel
theorem dX5_two_277 : decode cX5_two 277 = .ok (.iload 4, 2) := by decide +kernel
theorem dX5_two_279 : decode cX5_two 279 = .ok (.ifCond .lt 7, 3) := by decide +kernel
theorem dX5_two_282 : decode cX5_two 282 = .ok (.iconst 1, 1) := by decide +kernel
theorem dX5_two_283 : decode cX5_two 283 = .ok (.goto 4, 3) := by decide +kernel
theorem dX5_two_286 : decode cX5_two 286 = .ok (.iconst 0, 1) := by decide +kernel
theorem dX5_two_287 : decode cX5_two 287 = .ok (.istore 6, 2) := by decide +kernel
theorem dX5_two_289 : decode cX5_two 289 = .ok (.iload 6, 2) := by decide +kernel
theorem dX5_two_291 : decode cX5_two 291 = .ok (.ifCond .eq 8, 3) := by decide +kernel
theorem dX5_two_294 : decode cX5_two 294 = .ok (.iload 7, 2) := by decide +kernel
theorem dX5_two_296 : decode cX5_two 296 = .ok (.goto 17, 3) := by decide +kernel
theorem dX5_two_299 : decode cX5_two 299 = .ok (.aload_n 0, 1) := by decide +kernel
theorem dX5_two_300 : decode cX5_two 300 = .ok (.iconst 4, 1) := by decide +kernel
theorem dX5_two_301 : decode cX5_two 301 = .ok (.aload_n 0, 1) := by decide +kernel
theorem dX5_two_302 : decode cX5_two 302 = .ok (.getfield 26, 3) := by decide +kernel
theorem dX5_two_305 : decode cX5_two 305 = .ok (.getfield 174, 3) := by decide +kernel
theorem dX5_two_308 : decode cX5_two 308 = .ok (.iload_n 1, 1) := by decide +kernel
theorem dX5_two_309 : decode cX5_two 309 = .ok (.iaload, 1) := by decide +kernel
theorem dX5_two_310 : decode cX5_two 310 = .ok (.invokevirtual 114, 3) := by decide +kernel
theorem dX5_two_313 : decode cX5_two 313 = .ok (.ireturn, 1) := by decide +kernel
/-! AlgebraHouse$Judge.two(I)I -/
def P_X5_two_289 (rec : Nat → List Int → MM → (Int → MM → Prop) → (MM → Prop) → Prop) (Q : Int → MM → Prop) (T : MM → Prop) (x1 : Int) (x6 : Int) (x7 : Int) (m : MM) : Prop := (RI x6) ∧ (if x6 = 0 then (isTx (m 372 1)) ∧ (0 ≤ x1 ∧ x1 < 160) ∧ P_X5_fail 4 (m ((m 372 1) + 5) x1) m (fun r1 m1 => Q r1 m1) else Q x7 m)
def P_X5_two_95 (rec : Nat → List Int → MM → (Int → MM → Prop) → (MM → Prop) → Prop) (Q : Int → MM → Prop) (T : MM → Prop) (x1 : Int) (x2 : Int) (x3 : Int) (x7 : Int) (m : MM) : Prop := ((RI x2) ∧ (if x2 = (-2) then ((RI x3)) else True)) ∧ P_X5_two_289 rec Q T x1 (if x2 = (-2) then (if x3 = (-2) then 1 else 0 : Int) else 0 : Int) x7 m
def P_X5_two_131 (rec : Nat → List Int → MM → (Int → MM → Prop) → (MM → Prop) → Prop) (Q : Int → MM → Prop) (T : MM → Prop) (x1 : Int) (x6 : Int) (m : MM) : Prop := P_X5_two_289 rec Q T x1 x6 (-2) m
def P_X5_two_174 (rec : Nat → List Int → MM → (Int → MM → Prop) → (MM → Prop) → Prop) (Q : Int → MM → Prop) (T : MM → Prop) (x1 : Int) (m : MM) : Prop := P_X5_two_289 rec Q T x1 1 (-2) m
def P_X5_two_152 (rec : Nat → List Int → MM → (Int → MM → Prop) → (MM → Prop) → Prop) (Q : Int → MM → Prop) (T : MM → Prop) (x1 : Int) (x4 : Int) (m : MM) : Prop := P_X11_of 0 0 0 m (fun r1 m1 => (RI x4) ∧ (RI r1) ∧ (if x4 = r1 then P_X5_two_174 rec Q T x1 m1 else P_X11_of 1 0 0 m1 (fun r2 m2 => ((RI r2)) ∧ P_X5_two_289 rec Q T x1 (if x4 = r2 then 1 else 0 : Int) (-2) m2)))
def P_X5_two_248 (rec : Nat → List Int → MM → (Int → MM → Prop) → (MM → Prop) → Prop) (Q : Int → MM → Prop) (T : MM → Prop) (x1 : Int) (x6 : Int) (s0 : Int) (m : MM) : Prop := P_X5_two_289 rec Q T x1 x6 s0 m
def P_X5_two_226 (rec : Nat → List Int → MM → (Int → MM → Prop) → (MM → Prop) → Prop) (Q : Int → MM → Prop) (T : MM → Prop) (x1 : Int) (x4 : Int) (m : MM) : Prop := (if (1 : Int) = 0 then P_X5_two_248 rec Q T x1 1 x4 m else P_X11_fraction x4 m (fun r1 m1 => P_X5_two_248 rec Q T x1 1 r1 m1))
def P_X5_two_230 (rec : Nat → List Int → MM → (Int → MM → Prop) → (MM → Prop) → Prop) (Q : Int → MM → Prop) (T : MM → Prop) (x1 : Int) (x4 : Int) (m : MM) : Prop := (if (0 : Int) = 0 then P_X5_two_248 rec Q T x1 0 x4 m else P_X11_fraction x4 m (fun r1 m1 => P_X5_two_248 rec Q T x1 0 r1 m1))
def P_X5_two_267 (rec : Nat → List Int → MM → (Int → MM → Prop) → (MM → Prop) → Prop) (Q : Int → MM → Prop) (T : MM → Prop) (x1 : Int) (x4 : Int) (x7 : Int) (m : MM) : Prop := P_X11_divides x4 m (fun r1 m1 => P_X5_two_289 rec Q T x1 r1 x7 m1)
def W_X5_two (rec : Nat → List Int → MM → (Int → MM → Prop) → (MM → Prop) → Prop) (x1 : Int) (m : MM) (Q : Int → MM → Prop) (T : MM → Prop) : Prop := rec 5 [x1] m (fun r1 m1 => (RI r1) ∧ (if r1 = 0 then Q (-3) m1 else (isTx (m1 372 1)) ∧ (0 ≤ x1 ∧ x1 < 160) ∧ (0 ≤ (m1 ((m1 372 1) + 2) x1) ∧ (m1 ((m1 372 1) + 2) x1) < 160) ∧ P_X2_second (m1 372 1) x1 m1 (fun r2 m2 => (0 ≤ r2 ∧ r2 < 160) ∧ P_X11_join (m1 ((m1 372 1) + 6) (m1 ((m1 372 1) + 2) x1)) (m2 ((m1 372 1) + 6) r2) m2 (fun r3 m3 => (isTx (m3 372 1)) ∧ ((RI r3)) ∧ (RI (m3 ((m3 372 1) + 1) x1)) ∧ (if (m3 ((m3 372 1) + 1) x1) = 9 then P_X5_two_95 rec Q T x1 (m1 ((m1 372 1) + 6) (m1 ((m1 372 1) + 2) x1)) (m2 ((m1 372 1) + 6) r2) r3 m3 else (if (m3 ((m3 372 1) + 1) x1) = 10 then P_X5_two_95 rec Q T x1 (m1 ((m1 372 1) + 6) (m1 ((m1 372 1) + 2) x1)) (m2 ((m1 372 1) + 6) r2) r3 m3 else (if (m3 ((m3 372 1) + 1) x1) = 12 then P_X5_two_131 rec Q T x1 (if r3 = (-1) then 0 else 1 : Int) m3 else (if (m3 ((m3 372 1) + 1) x1) = 13 then P_X5_two_131 rec Q T x1 (if r3 = (-1) then 0 else 1 : Int) m3 else (if (m3 ((m3 372 1) + 1) x1) = 14 then P_X5_two_152 rec Q T x1 r3 m3 else (if (m3 ((m3 372 1) + 1) x1) = 15 then P_X5_two_152 rec Q T x1 r3 m3 else (if (m3 ((m3 372 1) + 1) x1) = 19 then (RI r3) ∧ (if r3 < 0 then P_X5_two_230 rec Q T x1 r3 m3 else (RI (iAnd (m2 ((m1 372 1) + 6) r2) 15)) ∧ (if (iAnd (m2 ((m1 372 1) + 6) r2) 15) = 0 then P_X11_base r3 m3 (fun r4 m4 => (RI r4) ∧ (if r4 = 0 then P_X5_two_226 rec Q T x1 r3 m4 else P_X11_base r3 m4 (fun r5 m5 => P_X11_isField r5 m5 (fun r6 m6 => ((RI r6)) ∧ (RI (if r6 = 0 then 0 else 1 : Int)) ∧ (if (if r6 = 0 then 0 else 1 : Int) = 0 then P_X5_two_248 rec Q T x1 (if r6 = 0 then 0 else 1 : Int) r3 m6 else P_X11_fraction r3 m6 (fun r7 m7 => P_X5_two_248 rec Q T x1 (if r6 = 0 then 0 else 1 : Int) r7 m7)))))) else P_X5_two_230 rec Q T x1 r3 m3)) else (if (m3 ((m3 372 1) + 1) x1) = 20 then P_X5_two_267 rec Q T x1 r3 r3 m3 else (if (m3 ((m3 372 1) + 1) x1) = 21 then P_X5_two_267 rec Q T x1 r3 r3 m3 else ((RI r3)) ∧ P_X5_two_289 rec Q T x1 (if r3 < 0 then 0 else 1 : Int) r3 m3))))))))))))) T
def HR_X5_part (rec : Nat → List Int → MM → (Int → MM → Prop) → (MM → Prop) → Prop) (fr : Nat) : Prop := (∀ (x1 : Int) (m : MM) (Q : Int → MM → Prop) (T : MM → Prop), rec 0 [x1] m Q T → CC fr M_X5_call [vR 372, vI x1] m Q T) ∧ (∀ (x1 : Int) (m : MM) (Q : Int → MM → Prop) (T : MM → Prop), rec 1 [x1] m Q T → CC fr M_X5_choice [vR 372, vI x1] m Q T) ∧ (∀ (x1 : Int) (m : MM) (Q : Int → MM → Prop) (T : MM → Prop), rec 2 [x1] m Q T → CC fr M_X5_function [vR 372, vI x1] m Q T) ∧ (∀ (x1 : Int) (m : MM) (Q : Int → MM → Prop) (T : MM → Prop), rec 3 [x1] m Q T → CC fr M_X5_matrix [vR 372, vI x1] m Q T) ∧ (∀ (x1 : Int) (m : MM) (Q : Int → MM → Prop) (T : MM → Prop), rec 4 [x1] m Q T → CC fr M_X5_part [vR 372, vI x1] m Q T) ∧ (∀ (x1 : Int) (m : MM) (Q : Int → MM → Prop) (T : MM → Prop), rec 5 [x1] m Q T → CC fr M_X5_parts [vR 372, vI x1] m Q T) ∧ (∀ (x1 : Int) (m : MM) (Q : Int → MM → Prop) (T : MM → Prop), rec 6 [x1] m Q T → CC fr M_X5_ringOf [vR 372, vI x1] m Q T) ∧ (∀ (x1 : Int) (m : MM) (Q : Int → MM → Prop) (T : MM → Prop), rec 7 [x1] m Q T → CC fr M_X5_turned [vR 372, vI x1] m Q T) ∧ (∀ (x1 : Int) (m : MM) (Q : Int → MM → Prop) (T : MM → Prop), rec 8 [x1] m Q T → CC fr M_X5_two [vR 372, vI x1] m Q T) ∧ True
theorem pl_X5_call_155 {f : Nat} {Q : Int → MM → Prop} {T : MM → Prop} {rec : Nat → List Int → MM → (Int → MM → Prop) → (MM → Prop) → Prop} {fr : Nat} (hrec : HR_X5_part rec fr) (hf : 43 ≤ f ∧ fr + 1 ≤ f) : ∀ (x1 : Int) (s0 : Int) (m : MM), P_X5_call_155 rec Q T x1 s0 m → B f M_X5_call 155 [vR 372, vI x1, vU, vU, vU, vU] [vI s0] m Q T := by
  intro x1 s0 m h
  have h : (RI s0) ∧ (if s0 = (-1) then (isTx (m 372 1)) ∧ (0 ≤ x1 ∧ x1 < 160) ∧ P_X5_fail 4 (m ((m 372 1) + 5) x1) m (fun r2 m4 => Q r2 m4) else (isTx (m 372 1)) ∧ (0 ≤ x1 ∧ x1 < 160) ∧ ∀ m1 : MM, m1 = up m ((m 372 1) + 7) x1 s0 → (isTx (m1 372 1)) ∧ ∀ m2 : MM, m2 = up m1 ((m1 372 1) + 8) x1 (m1 3 7) → (0 ≤ s0 ∧ s0 < 21) ∧ P_X1_ring (8 + 17 * s0) 0 (m2 3 7) m2 (fun r1 m3 => Q r1 m3)) := h
  refine b_istore (ls' := [vR 372, vI x1, vU, vU, vU, vI s0]) dX5_call_155 (Nat.le_of_ble_eq_true rfl) rfl ?_
  refine b_iload dX5_call_157 rfl ?_
  refine b_iconst dX5_call_159 ?_
  obtain ⟨g1, h⟩ := h
  refine b_icmp_ne 178 dX5_call_160 g1 (by decide) (by decide) (fun c1 => ?_) (fun c1 => ?_)
  · have h := ifF c1 h
    refine b_aload_n dX5_call_178 rfl ?_
    refine b_getM dX5_call_179 fk_X5_26 ly_372 ?_
    obtain ⟨g2, h⟩ := h
    refine b_getR dX5_call_182 fk_X5_223 (tx_ly0 g2) (tx_gg13 g2) ?_
    refine b_iload_n dX5_call_185 rfl ?_
    refine b_iload dX5_call_186 rfl ?_
    obtain ⟨g3, h⟩ := h
    refine b_iast dX5_call_188 (tx_ly7 g2) g3 (fun m1 em1 => ?_)
    have h := h m1 em1
    refine b_aload_n dX5_call_189 rfl ?_
    refine b_getM dX5_call_190 fk_X5_26 ly_372 ?_
    obtain ⟨g4, h⟩ := h
    refine b_getR dX5_call_193 fk_X5_244 (tx_ly0 g4) (tx_gg14 g4) ?_
    refine b_iload_n dX5_call_196 rfl ?_
    refine b_aload_n dX5_call_197 rfl ?_
    refine b_getR dX5_call_198 fk_X5_15 ly_372 gg_372_0 ?_
    refine b_getI dX5_call_201 fk_X5_247 ly_3 ?_
    refine b_iast dX5_call_204 (tx_ly8 g4) g3 (fun m2 em2 => ?_)
    have h := h m2 em2
    refine b_aload_n dX5_call_205 rfl ?_
    refine b_getR dX5_call_206 fk_X5_15 ly_372 gg_372_0 ?_
    refine b_getR dX5_call_209 fk_X5_151 ly_3 gg_3_0 ?_
    refine b_iload dX5_call_212 rfl ?_
    obtain ⟨g5, h⟩ := h
    refine b_aald dX5_call_214 ly_4 (Or.inl rfl) g5 (gg_told _) ?_
    refine b_iconst dX5_call_215 ?_
    refine b_aload_n dX5_call_216 rfl ?_
    refine b_getR dX5_call_217 fk_X5_15 ly_372 gg_372_0 ?_
    refine b_getI dX5_call_220 fk_X5_247 ly_3 ?_
    refine b_cSi (as := [vR (8 + 17 * s0), vI 0, vI (m2 3 7)]) (st := []) dX5_call_223 mf_X1_ring lk_X5_165 (p_X1_ring (f := 2) (Nat.le_refl _) _ _ _ _ h) (by omega) rfl rfl (Nat.le_of_ble_eq_true rfl) (by decide) rfl (fun _ => rfl) (fun r1 m3 h => ?_) (fun _ h => h)
    exact b_iret dX5_call_226 rfl h
  · have h := ifT (Decidable.of_not_not c1) h
    refine b_aload_n dX5_call_163 rfl ?_
    refine b_iconst dX5_call_164 ?_
    refine b_aload_n dX5_call_165 rfl ?_
    refine b_getM dX5_call_166 fk_X5_26 ly_372 ?_
    obtain ⟨g6, h⟩ := h
    refine b_getR dX5_call_169 fk_X5_174 (tx_ly0 g6) (tx_gg11 g6) ?_
    refine b_iload_n dX5_call_172 rfl ?_
    obtain ⟨g7, h⟩ := h
    refine b_iald dX5_call_173 (tx_ly5 g6) g7 ?_
    refine b_cVi (as := [vI 4, vI (m ((m 372 1) + 5) x1)]) (st := []) dX5_call_174 mf_X5_fail qs37 lk_X5_114 ly_372 rfl (p_X5_fail (f := 1) (Nat.le_refl _) _ _ _ h) (by omega) rfl rfl (Nat.le_of_ble_eq_true rfl) (by decide) rfl (fun _ => rfl) (fun r2 m4 h => ?_) (fun _ h => h)
    exact b_iret dX5_call_177 rfl h
theorem pl_X5_call_121 {f : Nat} {Q : Int → MM → Prop} {T : MM → Prop} {rec : Nat → List Int → MM → (Int → MM → Prop) → (MM → Prop) → Prop} {fr : Nat} (hrec : HR_X5_part rec fr) (hf : 43 ≤ f ∧ fr + 1 ≤ f) : ∀ (x1 : Int) (x3 : Int) (m : MM), P_X5_call_121 rec Q T x1 x3 m → B f M_X5_call 121 [vR 372, vI x1, vU, vI x3, vU, vU] [] m Q T := by
  intro x1 x3 m h
  have h : (RI x3) ∧ (if x3 ≤ 3 then (isTx (m 372 1)) ∧ (0 ≤ x1 ∧ x1 < 160) ∧ P_X1_meant (m ((m 372 1) + 9) x1) 373 x3 (m 372 2) m (fun r1 m1 => P_X5_call_155 rec Q T x1 r1 m1) else P_X5_call_155 rec Q T x1 (-1) m) := h
  refine b_iload_n dX5_call_121 rfl ?_
  refine b_iconst dX5_call_122 ?_
  obtain ⟨g1, h⟩ := h
  refine b_icmp_le 130 dX5_call_123 g1 (by decide) (by decide) (fun c1 => ?_) (fun c1 => ?_)
  · have h := ifT c1 h
    refine b_aload_n dX5_call_130 rfl ?_
    refine b_getR dX5_call_131 fk_X5_15 ly_372 gg_372_0 ?_
    refine b_aload_n dX5_call_134 rfl ?_
    refine b_getM dX5_call_135 fk_X5_26 ly_372 ?_
    obtain ⟨g2, h⟩ := h
    refine b_getR dX5_call_138 fk_X5_176 (tx_ly0 g2) (tx_gg15 g2) ?_
    refine b_iload_n dX5_call_141 rfl ?_
    obtain ⟨g3, h⟩ := h
    refine b_lald dX5_call_142 (tx_ly9 g2) g3 ?_
    refine b_aload_n dX5_call_143 rfl ?_
    refine b_getR dX5_call_144 fk_X5_9 ly_372 gg_372_7 ?_
    refine b_iload_n dX5_call_147 rfl ?_
    refine b_aload_n dX5_call_148 rfl ?_
    refine b_getI dX5_call_149 fk_X5_42 ly_372 ?_
    refine b_cVi (as := [vL (m ((m 372 1) + 9) x1), vR 373, vI x3, vI (m 372 2)]) (st := []) dX5_call_152 mf_X1_meant q1132 lk_X5_240 ly_3 rfl (p_X1_meant (f := 5) (Nat.le_refl _) _ _ _ _ _ h) (by omega) rfl rfl (Nat.le_of_ble_eq_true rfl) (by decide) rfl (fun _ => rfl) (fun r1 m1 h => ?_) (fun _ h => h)
    refine b_fgt [true, true, false, false, false, false] (ls' := [vR 372, vI x1, vU, vU, vU, vU]) rfl rfl ?_
    exact pl_X5_call_155 hrec hf _ _ _ h
  · have h := ifF c1 h
    refine b_iconst dX5_call_126 ?_
    refine b_goto 155 dX5_call_127 (by decide) ?_
    refine b_fgt [true, true, false, false, false, false] (ls' := [vR 372, vI x1, vU, vU, vU, vU]) rfl rfl ?_
    exact pl_X5_call_155 hrec hf _ _ _ h
theorem pl_X5_call_74 {f : Nat} {Q : Int → MM → Prop} {T : MM → Prop} {rec : Nat → List Int → MM → (Int → MM → Prop) → (MM → Prop) → Prop} {fr : Nat} (hrec : HR_X5_part rec fr) (hf : 43 ≤ f ∧ fr + 1 ≤ f) : ∀ (n : Nat) (x1 : Int) (x3 : Int) (x4 : Int) (x5 : Int) (m : MM), P_X5_call_74 rec Q T n x1 x3 x4 x5 m → B f M_X5_call 74 [vR 372, vI x1, vU, vI x3, vI x4, vI x5] [] m Q T := by
  intro n
  induction n with
  | zero => intro x1 x3 x4 x5 m h; exact h.elim
  | succ n ih =>
    intro x1 x3 x4 x5 m h
    have h : (RI x5) ∧ (if x5 = (-1) then P_X5_call_121 rec Q T x1 x3 m else (RI x4) ∧ (if 3 ≤ x4 then P_X5_call_121 rec Q T x1 x3 m else (isTx (m 372 1)) ∧ (0 ≤ x5 ∧ x5 < 160) ∧ (0 ≤ x4 ∧ x4 < 3) ∧ ∀ m1 : MM, m1 = up m 373 x4 (m ((m 372 1) + 6) x5) → (isTx (m1 372 1)) ∧ P_X5_call_74 rec Q T n x1 x3 (x4 + 1) (m1 ((m1 372 1) + 3) x5) m1)) := h
    refine b_iload dX5_call_74 rfl ?_
    refine b_iconst dX5_call_76 ?_
    obtain ⟨g1, h⟩ := h
    refine b_icmp_eq 121 dX5_call_77 g1 (by decide) (by decide) (fun c1 => ?_) (fun c1 => ?_)
    · have h := ifT c1 h
      refine b_fgt [true, true, false, true, false, false] (ls' := [vR 372, vI x1, vU, vI x3, vU, vU]) rfl rfl ?_
      exact pl_X5_call_121 hrec hf _ _ _ h
    · have h := ifF c1 h
      refine b_iload dX5_call_80 rfl ?_
      refine b_iconst dX5_call_82 ?_
      obtain ⟨g2, h⟩ := h
      refine b_icmp_ge 121 dX5_call_83 g2 (by decide) (by decide) (fun c2 => ?_) (fun c2 => ?_)
      · have h := ifT c2 h
        refine b_fgt [true, true, false, true, false, false] (ls' := [vR 372, vI x1, vU, vI x3, vU, vU]) rfl rfl ?_
        exact pl_X5_call_121 hrec hf _ _ _ h
      · have h := ifF c2 h
        refine b_aload_n dX5_call_86 rfl ?_
        refine b_getR dX5_call_87 fk_X5_9 ly_372 gg_372_7 ?_
        refine b_iload dX5_call_90 rfl ?_
        refine b_aload_n dX5_call_92 rfl ?_
        refine b_getM dX5_call_93 fk_X5_26 ly_372 ?_
        obtain ⟨g3, h⟩ := h
        refine b_getR dX5_call_96 fk_X5_191 (tx_ly0 g3) (tx_gg12 g3) ?_
        refine b_iload dX5_call_99 rfl ?_
        obtain ⟨g4, h⟩ := h
        refine b_iald dX5_call_101 (tx_ly6 g3) g4 ?_
        obtain ⟨g5, h⟩ := h
        refine b_iast dX5_call_102 ly_373 g5 (fun m1 em1 => ?_)
        have h := h m1 em1
        refine b_iinc (ls' := [vR 372, vI x1, vU, vI x3, vI (x4 + 1), vI x5]) dX5_call_103 rfl rfl ?_
        refine b_aload_n dX5_call_106 rfl ?_
        refine b_getM dX5_call_107 fk_X5_26 ly_372 ?_
        obtain ⟨g6, h⟩ := h
        refine b_getR dX5_call_110 fk_X5_226 (tx_ly0 g6) (tx_gg9 g6) ?_
        refine b_iload dX5_call_113 rfl ?_
        refine b_iald dX5_call_115 (tx_ly3 g6) g4 ?_
        refine b_istore (ls' := [vR 372, vI x1, vU, vI x3, vI (x4 + 1), vI (m1 ((m1 372 1) + 3) x5)]) dX5_call_116 (Nat.le_of_ble_eq_true rfl) rfl ?_
        refine b_goto 74 dX5_call_118 (by decide) ?_
        exact ih _ _ _ _ _ h
theorem w_X5_call {f : Nat} {Q : Int → MM → Prop} {T : MM → Prop} {rec : Nat → List Int → MM → (Int → MM → Prop) → (MM → Prop) → Prop} {fr : Nat} (hrec : HR_X5_part rec fr) (hf : 43 ≤ f ∧ fr + 1 ≤ f) (x1 : Int) (m : MM) (h : W_X5_call rec x1 m Q T) : CC f M_X5_call [vR 372, vI x1] m Q T := by
  refine CC.of (plainFor_of_name (by decide)) (Nat.le_of_ble_eq_true rfl) (ls := [vR 372, vI x1, vU, vU, vU, vU]) rfl ?_
  have h : (isTx (m 372 1)) ∧ (0 ≤ x1 ∧ x1 < 160) ∧ P_X1_isCalled (m ((m 372 1) + 9) x1) (m 372 2) m (fun r1 m1 => (RI r1) ∧ (if r1 = 0 then (isTx (m1 372 1)) ∧ P_X5_fail 3 (m1 ((m1 372 1) + 5) x1) m1 (fun r4 m4 => Q r4 m4) else rec 5 [x1] m1 (fun r2 m2 => (RI r2) ∧ (if r2 = 0 then Q (-3) m2 else (isTx (m2 372 1)) ∧ P_X2_many (m2 372 1) x1 m2 (fun r3 m3 => (isTx (m3 372 1)) ∧ ∃ nn, P_X5_call_74 rec Q T nn x1 r3 0 (m3 ((m3 372 1) + 2) x1) m3))) T)) := h
  refine b_aload_n dX5_call_0 rfl ?_
  refine b_getR dX5_call_1 fk_X5_15 ly_372 gg_372_0 ?_
  refine b_aload_n dX5_call_4 rfl ?_
  refine b_getM dX5_call_5 fk_X5_26 ly_372 ?_
  obtain ⟨g1, h⟩ := h
  refine b_getR dX5_call_8 fk_X5_176 (tx_ly0 g1) (tx_gg15 g1) ?_
  refine b_iload_n dX5_call_11 rfl ?_
  obtain ⟨g2, h⟩ := h
  refine b_lald dX5_call_12 (tx_ly9 g1) g2 ?_
  refine b_aload_n dX5_call_13 rfl ?_
  refine b_getI dX5_call_14 fk_X5_42 ly_372 ?_
  refine b_cVi (as := [vL (m ((m 372 1) + 9) x1), vI (m 372 2)]) (st := []) dX5_call_17 mf_X1_isCalled q1120 lk_X5_229 ly_3 rfl (p_X1_isCalled (f := 1) (Nat.le_refl _) _ _ _ h) (by omega) rfl rfl (Nat.le_of_ble_eq_true rfl) (by decide) rfl (fun _ => rfl) (fun r1 m1 h => ?_) (fun _ h => h)
  refine b_istore_n (ls' := [vR 372, vI x1, vI r1, vU, vU, vU]) dX5_call_20 (Nat.le_of_ble_eq_true rfl) rfl ?_
  refine b_iload_n dX5_call_21 rfl ?_
  obtain ⟨g3, h⟩ := h
  refine b_if_ne 40 dX5_call_22 g3 (by decide) (fun c1 => ?_) (fun c1 => ?_)
  · have h := ifF c1 h
    refine b_aload_n dX5_call_40 rfl ?_
    refine b_iload_n dX5_call_41 rfl ?_
    refine b_cVi (as := [vI x1]) (st := []) dX5_call_42 mf_X5_parts qs47 lk_X5_233 ly_372 rfl (hrec.2.2.2.2.2.1 _ _ _ _ h) (by omega) rfl rfl (Nat.le_of_ble_eq_true rfl) (by decide) rfl (fun _ => rfl) (fun r2 m2 h => ?_) (fun _ h => h)
    obtain ⟨g4, h⟩ := h
    refine b_if_ne 51 dX5_call_45 g4 (by decide) (fun c2 => ?_) (fun c2 => ?_)
    · have h := ifF c2 h
      refine b_aload_n dX5_call_51 rfl ?_
      refine b_getM dX5_call_52 fk_X5_26 ly_372 ?_
      refine b_iload_n dX5_call_55 rfl ?_
      obtain ⟨g5, h⟩ := h
      refine b_cVi (as := [vI x1]) (st := []) dX5_call_56 mf_X2_many q1128 lk_X5_237 (tx_ly0 g5) rfl (p_X2_many (f := 1) (Nat.le_refl _) _ _ _ h) (by omega) rfl rfl (Nat.le_of_ble_eq_true rfl) (by decide) rfl (fun _ => rfl) (fun r3 m3 h => ?_) (fun _ h => h)
      refine b_istore_n (ls' := [vR 372, vI x1, vI r1, vI r3, vU, vU]) dX5_call_59 (Nat.le_of_ble_eq_true rfl) rfl ?_
      refine b_iconst dX5_call_60 ?_
      refine b_istore (ls' := [vR 372, vI x1, vI r1, vI r3, vI 0, vU]) dX5_call_61 (Nat.le_of_ble_eq_true rfl) rfl ?_
      refine b_aload_n dX5_call_63 rfl ?_
      refine b_getM dX5_call_64 fk_X5_26 ly_372 ?_
      obtain ⟨g6, h⟩ := h
      refine b_getR dX5_call_67 fk_X5_149 (tx_ly0 g6) (tx_gg8 g6) ?_
      refine b_iload_n dX5_call_70 rfl ?_
      refine b_iald dX5_call_71 (tx_ly2 g6) g2 ?_
      refine b_istore (ls' := [vR 372, vI x1, vI r1, vI r3, vI 0, vI (m3 ((m3 372 1) + 2) x1)]) dX5_call_72 (Nat.le_of_ble_eq_true rfl) rfl ?_
      refine b_fgt [true, true, false, true, true, true] (ls' := [vR 372, vI x1, vU, vI r3, vI 0, vI (m3 ((m3 372 1) + 2) x1)]) rfl rfl ?_
      obtain ⟨nn, h⟩ := h
      exact pl_X5_call_74 hrec hf nn _ _ _ _ _ h
    · have h := ifT (Decidable.of_not_not c2) h
      refine b_bipush dX5_call_48 (by decide) ?_
      exact b_iret dX5_call_50 rfl h
  · have h := ifT (Decidable.of_not_not c1) h
    refine b_aload_n dX5_call_25 rfl ?_
    refine b_iconst dX5_call_26 ?_
    refine b_aload_n dX5_call_27 rfl ?_
    refine b_getM dX5_call_28 fk_X5_26 ly_372 ?_
    obtain ⟨g7, h⟩ := h
    refine b_getR dX5_call_31 fk_X5_174 (tx_ly0 g7) (tx_gg11 g7) ?_
    refine b_iload_n dX5_call_34 rfl ?_
    refine b_iald dX5_call_35 (tx_ly5 g7) g2 ?_
    refine b_cVi (as := [vI 3, vI (m1 ((m1 372 1) + 5) x1)]) (st := []) dX5_call_36 mf_X5_fail qs37 lk_X5_114 ly_372 rfl (p_X5_fail (f := 1) (Nat.le_refl _) _ _ _ h) (by omega) rfl rfl (Nat.le_of_ble_eq_true rfl) (by decide) rfl (fun _ => rfl) (fun r4 m4 h => ?_) (fun _ h => h)
    exact b_iret dX5_call_39 rfl h
theorem pl_X5_choice_74 {f : Nat} {Q : Int → MM → Prop} {T : MM → Prop} {rec : Nat → List Int → MM → (Int → MM → Prop) → (MM → Prop) → Prop} {fr : Nat} (hrec : HR_X5_part rec fr) (hf : 43 ≤ f ∧ fr + 1 ≤ f) : ∀ (x1 : Int) (m : MM), P_X5_choice_74 rec Q T x1 m → B f M_X5_choice 74 [vR 372, vI x1, vU] [] m Q T := by
  intro x1 m h
  have h : (isTx (m 372 1)) ∧ (0 ≤ x1 ∧ x1 < 160) ∧ P_X5_fail 4 (m ((m 372 1) + 5) x1) m (fun r1 m1 => Q r1 m1) := h
  refine b_aload_n dX5_choice_74 rfl ?_
  refine b_iconst dX5_choice_75 ?_
  refine b_aload_n dX5_choice_76 rfl ?_
  refine b_getM dX5_choice_77 fk_X5_26 ly_372 ?_
  obtain ⟨g1, h⟩ := h
  refine b_getR dX5_choice_80 fk_X5_174 (tx_ly0 g1) (tx_gg11 g1) ?_
  refine b_iload_n dX5_choice_83 rfl ?_
  obtain ⟨g2, h⟩ := h
  refine b_iald dX5_choice_84 (tx_ly5 g1) g2 ?_
  refine b_cVi (as := [vI 4, vI (m ((m 372 1) + 5) x1)]) (st := []) dX5_choice_85 mf_X5_fail qs37 lk_X5_114 ly_372 rfl (p_X5_fail (f := 1) (Nat.le_refl _) _ _ _ h) (by omega) rfl rfl (Nat.le_of_ble_eq_true rfl) (by decide) rfl (fun _ => rfl) (fun r1 m1 h => ?_) (fun _ h => h)
  refine b_goto 92 dX5_choice_88 (by decide) ?_
  exact b_iret dX5_choice_92 rfl h
theorem w_X5_choice {f : Nat} {Q : Int → MM → Prop} {T : MM → Prop} {rec : Nat → List Int → MM → (Int → MM → Prop) → (MM → Prop) → Prop} {fr : Nat} (hrec : HR_X5_part rec fr) (hf : 43 ≤ f ∧ fr + 1 ≤ f) (x1 : Int) (m : MM) (h : W_X5_choice rec x1 m Q T) : CC f M_X5_choice [vR 372, vI x1] m Q T := by
  refine CC.of (plainFor_of_name (by decide)) (Nat.le_of_ble_eq_true rfl) (ls := [vR 372, vI x1, vU]) rfl ?_
  have h : rec 5 [x1] m (fun r1 m1 => (RI r1) ∧ (if r1 = 0 then Q (-3) m1 else (isTx (m1 372 1)) ∧ P_X2_second (m1 372 1) x1 m1 (fun r2 m2 => (0 ≤ r2 ∧ r2 < 160) ∧ (isTx (m2 372 1)) ∧ P_X2_third (m2 372 1) x1 m2 (fun r3 m3 => (0 ≤ r3 ∧ r3 < 160) ∧ P_X11_join (m2 ((m1 372 1) + 6) r2) (m3 ((m2 372 1) + 6) r3) m3 (fun r4 m4 => (isTx (m4 372 1)) ∧ (0 ≤ x1 ∧ x1 < 160) ∧ (0 ≤ (m4 ((m4 372 1) + 2) x1) ∧ (m4 ((m4 372 1) + 2) x1) < 160) ∧ (RI (m4 ((m4 372 1) + 6) (m4 ((m4 372 1) + 2) x1))) ∧ (if (m4 ((m4 372 1) + 6) (m4 ((m4 372 1) + 2) x1)) = (-2) then (RI r4) ∧ (if r4 = (-1) then P_X5_choice_74 rec Q T x1 m4 else Q r4 m4) else P_X5_choice_74 rec Q T x1 m4)))))) T := h
  refine b_aload_n dX5_choice_0 rfl ?_
  refine b_iload_n dX5_choice_1 rfl ?_
  refine b_cVi (as := [vI x1]) (st := []) dX5_choice_2 mf_X5_parts qs47 lk_X5_233 ly_372 rfl (hrec.2.2.2.2.2.1 _ _ _ _ h) (by omega) rfl rfl (Nat.le_of_ble_eq_true rfl) (by decide) rfl (fun _ => rfl) (fun r1 m1 h => ?_) (fun _ h => h)
  obtain ⟨g1, h⟩ := h
  refine b_if_ne 11 dX5_choice_5 g1 (by decide) (fun c1 => ?_) (fun c1 => ?_)
  · have h := ifF c1 h
    refine b_aload_n dX5_choice_11 rfl ?_
    refine b_getM dX5_choice_12 fk_X5_26 ly_372 ?_
    obtain ⟨g2, h⟩ := h
    refine b_getR dX5_choice_15 fk_X5_191 (tx_ly0 g2) (tx_gg12 g2) ?_
    refine b_aload_n dX5_choice_18 rfl ?_
    refine b_getM dX5_choice_19 fk_X5_26 ly_372 ?_
    refine b_iload_n dX5_choice_22 rfl ?_
    refine b_cVi (as := [vI x1]) (st := [vR ((m1 372 1) + 6)]) dX5_choice_23 mf_X2_second q1172 lk_X5_249 (tx_ly0 g2) rfl (p_X2_second (f := 1) (Nat.le_refl _) _ _ _ h) (by omega) rfl rfl (Nat.le_of_ble_eq_true rfl) (by decide) rfl (fun _ => rfl) (fun r2 m2 h => ?_) (fun _ h => h)
    obtain ⟨g3, h⟩ := h
    refine b_iald dX5_choice_26 (tx_ly6 g2) g3 ?_
    refine b_aload_n dX5_choice_27 rfl ?_
    refine b_getM dX5_choice_28 fk_X5_26 ly_372 ?_
    obtain ⟨g4, h⟩ := h
    refine b_getR dX5_choice_31 fk_X5_191 (tx_ly0 g4) (tx_gg12 g4) ?_
    refine b_aload_n dX5_choice_34 rfl ?_
    refine b_getM dX5_choice_35 fk_X5_26 ly_372 ?_
    refine b_iload_n dX5_choice_38 rfl ?_
    refine b_cVi (as := [vI x1]) (st := [vR ((m2 372 1) + 6), vI (m2 ((m1 372 1) + 6) r2)]) dX5_choice_39 mf_X2_third q1207 lk_X5_252 (tx_ly0 g4) rfl (p_X2_third (f := 1) (Nat.le_refl _) _ _ _ h) (by omega) rfl rfl (Nat.le_of_ble_eq_true rfl) (by decide) rfl (fun _ => rfl) (fun r3 m3 h => ?_) (fun _ h => h)
    obtain ⟨g5, h⟩ := h
    refine b_iald dX5_choice_42 (tx_ly6 g4) g5 ?_
    refine b_cSi (as := [vI (m2 ((m1 372 1) + 6) r2), vI (m3 ((m2 372 1) + 6) r3)]) (st := []) dX5_choice_43 mf_X11_join lk_X5_255 (p_X11_join (f := 2) (Nat.le_refl _) _ _ _ h) (by omega) rfl rfl (Nat.le_of_ble_eq_true rfl) (by decide) rfl (fun _ => rfl) (fun r4 m4 h => ?_) (fun _ h => h)
    refine b_istore_n (ls' := [vR 372, vI x1, vI r4]) dX5_choice_46 (Nat.le_of_ble_eq_true rfl) rfl ?_
    refine b_aload_n dX5_choice_47 rfl ?_
    refine b_getM dX5_choice_48 fk_X5_26 ly_372 ?_
    obtain ⟨g6, h⟩ := h
    refine b_getR dX5_choice_51 fk_X5_191 (tx_ly0 g6) (tx_gg12 g6) ?_
    refine b_aload_n dX5_choice_54 rfl ?_
    refine b_getM dX5_choice_55 fk_X5_26 ly_372 ?_
    refine b_getR dX5_choice_58 fk_X5_149 (tx_ly0 g6) (tx_gg8 g6) ?_
    refine b_iload_n dX5_choice_61 rfl ?_
    obtain ⟨g7, h⟩ := h
    refine b_iald dX5_choice_62 (tx_ly2 g6) g7 ?_
    obtain ⟨g8, h⟩ := h
    refine b_iald dX5_choice_63 (tx_ly6 g6) g8 ?_
    refine b_bipush dX5_choice_64 (by decide) ?_
    obtain ⟨g9, h⟩ := h
    refine b_icmp_ne 74 dX5_choice_66 g9 (by decide) (by decide) (fun c2 => ?_) (fun c2 => ?_)
    · have h := ifF c2 h
      refine b_fgt [true, true, false] (ls' := [vR 372, vI x1, vU]) rfl rfl ?_
      exact pl_X5_choice_74 hrec hf _ _ h
    · have h := ifT (Decidable.of_not_not c2) h
      refine b_iload_n dX5_choice_69 rfl ?_
      refine b_iconst dX5_choice_70 ?_
      obtain ⟨g10, h⟩ := h
      refine b_icmp_ne 91 dX5_choice_71 g10 (by decide) (by decide) (fun c3 => ?_) (fun c3 => ?_)
      · have h := ifF c3 h
        refine b_iload_n dX5_choice_91 rfl ?_
        exact b_iret dX5_choice_92 rfl h
      · have h := ifT (Decidable.of_not_not c3) h
        refine b_fgt [true, true, false] (ls' := [vR 372, vI x1, vU]) rfl rfl ?_
        exact pl_X5_choice_74 hrec hf _ _ h
  · have h := ifT (Decidable.of_not_not c1) h
    refine b_bipush dX5_choice_8 (by decide) ?_
    exact b_iret dX5_choice_10 rfl h
theorem pl_X5_function_157 {f : Nat} {Q : Int → MM → Prop} {T : MM → Prop} {rec : Nat → List Int → MM → (Int → MM → Prop) → (MM → Prop) → Prop} {fr : Nat} (hrec : HR_X5_part rec fr) (hf : 43 ≤ f ∧ fr + 1 ≤ f) : ∀ (x1 : Int) (s0 : Int) (m : MM), P_X5_function_157 rec Q T x1 s0 m → B f M_X5_function 157 [vR 372, vI x1, vU, vU, vU, vU, vU] [vI s0] m Q T := by
  intro x1 s0 m h
  have h : (RI s0) ∧ (if s0 = (-1) then (isTx (m 372 1)) ∧ (0 ≤ x1 ∧ x1 < 160) ∧ P_X5_fail 4 (m ((m 372 1) + 5) x1) m (fun r1 m1 => Q r1 m1) else Q s0 m) := h
  refine b_istore (ls' := [vR 372, vI x1, vU, vU, vU, vU, vI s0]) dX5_function_157 (Nat.le_of_ble_eq_true rfl) rfl ?_
  refine b_iload dX5_function_159 rfl ?_
  refine b_iconst dX5_function_161 ?_
  obtain ⟨g1, h⟩ := h
  refine b_icmp_ne 182 dX5_function_162 g1 (by decide) (by decide) (fun c1 => ?_) (fun c1 => ?_)
  · have h := ifF c1 h
    refine b_iload dX5_function_182 rfl ?_
    exact b_iret dX5_function_184 rfl h
  · have h := ifT (Decidable.of_not_not c1) h
    refine b_aload_n dX5_function_165 rfl ?_
    refine b_iconst dX5_function_166 ?_
    refine b_aload_n dX5_function_167 rfl ?_
    refine b_getM dX5_function_168 fk_X5_26 ly_372 ?_
    obtain ⟨g2, h⟩ := h
    refine b_getR dX5_function_171 fk_X5_174 (tx_ly0 g2) (tx_gg11 g2) ?_
    refine b_iload_n dX5_function_174 rfl ?_
    obtain ⟨g3, h⟩ := h
    refine b_iald dX5_function_175 (tx_ly5 g2) g3 ?_
    refine b_cVi (as := [vI 4, vI (m ((m 372 1) + 5) x1)]) (st := []) dX5_function_176 mf_X5_fail qs37 lk_X5_114 ly_372 rfl (p_X5_fail (f := 1) (Nat.le_refl _) _ _ _ h) (by omega) rfl rfl (Nat.le_of_ble_eq_true rfl) (by decide) rfl (fun _ => rfl) (fun r1 m1 h => ?_) (fun _ h => h)
    refine b_goto 184 dX5_function_179 (by decide) ?_
    exact b_iret dX5_function_184 rfl h
theorem pl_X5_function_63 {f : Nat} {Q : Int → MM → Prop} {T : MM → Prop} {rec : Nat → List Int → MM → (Int → MM → Prop) → (MM → Prop) → Prop} {fr : Nat} (hrec : HR_X5_part rec fr) (hf : 43 ≤ f ∧ fr + 1 ≤ f) : ∀ (x1 : Int) (x2 : Int) (x3 : Int) (s0 : Int) (m : MM), P_X5_function_63 rec Q T x1 x2 x3 s0 m → B f M_X5_function 63 [vR 372, vI x1, vI x2, vI x3, vU, vU, vU] [vI s0] m Q T := by
  intro x1 x2 x3 s0 m h
  have h : (isTx (m 372 1)) ∧ (0 ≤ x1 ∧ x1 < 160) ∧ ((RI (m ((m 372 1) + 4) x1))) ∧ (RI x2) ∧ (RI (if (m ((m 372 1) + 4) x1) = 0 then 2 else (if (m ((m 372 1) + 4) x1) = 2 then 2 else (if (m ((m 372 1) + 4) x1) = 3 then 2 else 1 : Int) : Int) : Int)) ∧ (if x2 = (if (m ((m 372 1) + 4) x1) = 0 then 2 else (if (m ((m 372 1) + 4) x1) = 2 then 2 else (if (m ((m 372 1) + 4) x1) = 3 then 2 else 1 : Int) : Int) : Int) then (if (if (m ((m 372 1) + 4) x1) = 0 then 2 else (if (m ((m 372 1) + 4) x1) = 2 then 2 else (if (m ((m 372 1) + 4) x1) = 3 then 2 else 1 : Int) : Int) : Int) = 2 then P_X5_ofTwo (m ((m 372 1) + 4) x1) x3 s0 m (fun r2 m2 => P_X5_function_157 rec Q T x1 r2 m2) else P_X5_ofOne (m ((m 372 1) + 4) x1) x3 m (fun r1 m1 => P_X5_function_157 rec Q T x1 r1 m1)) else P_X5_function_157 rec Q T x1 (-1) m) := h
  refine b_istore (ls' := [vR 372, vI x1, vI x2, vI x3, vI s0, vU, vU]) dX5_function_63 (Nat.le_of_ble_eq_true rfl) rfl ?_
  refine b_aload_n dX5_function_65 rfl ?_
  refine b_getM dX5_function_66 fk_X5_26 ly_372 ?_
  obtain ⟨g1, h⟩ := h
  refine b_getR dX5_function_69 fk_X5_146 (tx_ly0 g1) (tx_gg10 g1) ?_
  refine b_iload_n dX5_function_72 rfl ?_
  obtain ⟨g2, h⟩ := h
  refine b_iald dX5_function_73 (tx_ly4 g1) g2 ?_
  obtain ⟨hs, h⟩ := h
  have K : B f M_X5_function 108 [vR 372, vI x1, vI x2, vI x3, vI s0, vU, vU] [vI (if (m ((m 372 1) + 4) x1) = 0 then 2 else (if (m ((m 372 1) + 4) x1) = 2 then 2 else (if (m ((m 372 1) + 4) x1) = 3 then 2 else 1 : Int) : Int) : Int)] m Q T := by
    clear hs
    refine b_istore (ls' := [vR 372, vI x1, vI x2, vI x3, vI s0, vI (if (m ((m 372 1) + 4) x1) = 0 then 2 else (if (m ((m 372 1) + 4) x1) = 2 then 2 else (if (m ((m 372 1) + 4) x1) = 3 then 2 else 1 : Int) : Int) : Int), vU]) dX5_function_108 (Nat.le_of_ble_eq_true rfl) rfl ?_
    refine b_iload_n dX5_function_110 rfl ?_
    refine b_iload dX5_function_111 rfl ?_
    obtain ⟨g4, h⟩ := h
    obtain ⟨g5, h⟩ := h
    refine b_icmp_eq 120 dX5_function_113 g4 g5 (by decide) (fun c1 => ?_) (fun c1 => ?_)
    · have h := ifT c1 h
      refine b_iload dX5_function_120 rfl ?_
      refine b_iconst dX5_function_122 ?_
      refine b_icmp_ne 144 dX5_function_123 g5 (by decide) (by decide) (fun c2 => ?_) (fun c2 => ?_)
      · have h := ifF c2 h
        refine b_aload_n dX5_function_144 rfl ?_
        refine b_getM dX5_function_145 fk_X5_26 ly_372 ?_
        refine b_getR dX5_function_148 fk_X5_146 (tx_ly0 g1) (tx_gg10 g1) ?_
        refine b_iload_n dX5_function_151 rfl ?_
        refine b_iald dX5_function_152 (tx_ly4 g1) g2 ?_
        refine b_iload_n dX5_function_153 rfl ?_
        refine b_cSi (as := [vI (m ((m 372 1) + 4) x1), vI x3]) (st := []) dX5_function_154 mf_X5_ofOne lk_X5_273 (p_X5_ofOne (f := 3) (Nat.le_refl _) _ _ _ h) (by omega) rfl rfl (Nat.le_of_ble_eq_true rfl) (by decide) rfl (fun _ => rfl) (fun r1 m1 h => ?_) (fun _ h => h)
        refine b_fgt [true, true, false, false, false, false, false] (ls' := [vR 372, vI x1, vU, vU, vU, vU, vU]) rfl rfl ?_
        exact pl_X5_function_157 hrec hf _ _ _ h
      · have h := ifT (Decidable.of_not_not c2) h
        refine b_aload_n dX5_function_126 rfl ?_
        refine b_getM dX5_function_127 fk_X5_26 ly_372 ?_
        refine b_getR dX5_function_130 fk_X5_146 (tx_ly0 g1) (tx_gg10 g1) ?_
        refine b_iload_n dX5_function_133 rfl ?_
        refine b_iald dX5_function_134 (tx_ly4 g1) g2 ?_
        refine b_iload_n dX5_function_135 rfl ?_
        refine b_iload dX5_function_136 rfl ?_
        refine b_cSi (as := [vI (m ((m 372 1) + 4) x1), vI x3, vI s0]) (st := []) dX5_function_138 mf_X5_ofTwo lk_X5_270 (p_X5_ofTwo (f := 4) (Nat.le_refl _) _ _ _ _ h) (by omega) rfl rfl (Nat.le_of_ble_eq_true rfl) (by decide) rfl (fun _ => rfl) (fun r2 m2 h => ?_) (fun _ h => h)
        refine b_goto 157 dX5_function_141 (by decide) ?_
        refine b_fgt [true, true, false, false, false, false, false] (ls' := [vR 372, vI x1, vU, vU, vU, vU, vU]) rfl rfl ?_
        exact pl_X5_function_157 hrec hf _ _ _ h
    · have h := ifF c1 h
      refine b_iconst dX5_function_116 ?_
      refine b_goto 157 dX5_function_117 (by decide) ?_
      refine b_fgt [true, true, false, false, false, false, false] (ls' := [vR 372, vI x1, vU, vU, vU, vU, vU]) rfl rfl ?_
      exact pl_X5_function_157 hrec hf _ _ _ h
  have g3 := hs
  refine b_if_eq 103 dX5_function_74 g3 (by decide) (fun c3 => ?_) (fun c3 => ?_)
  ·
    refine b_iconst dX5_function_103 ?_
    refine b_goto 108 dX5_function_104 (by decide) ?_
    rw [if_pos c3] at K
    exact K
  ·
    refine b_aload_n dX5_function_77 rfl ?_
    refine b_getM dX5_function_78 fk_X5_26 ly_372 ?_
    refine b_getR dX5_function_81 fk_X5_146 (tx_ly0 g1) (tx_gg10 g1) ?_
    refine b_iload_n dX5_function_84 rfl ?_
    refine b_iald dX5_function_85 (tx_ly4 g1) g2 ?_
    refine b_iconst dX5_function_86 ?_
    refine b_icmp_eq 103 dX5_function_87 g3 (by decide) (by decide) (fun c4 => ?_) (fun c4 => ?_)
    ·
      refine b_iconst dX5_function_103 ?_
      refine b_goto 108 dX5_function_104 (by decide) ?_
      rw [if_neg c3, if_pos c4] at K
      exact K
    ·
      refine b_aload_n dX5_function_90 rfl ?_
      refine b_getM dX5_function_91 fk_X5_26 ly_372 ?_
      refine b_getR dX5_function_94 fk_X5_146 (tx_ly0 g1) (tx_gg10 g1) ?_
      refine b_iload_n dX5_function_97 rfl ?_
      refine b_iald dX5_function_98 (tx_ly4 g1) g2 ?_
      refine b_iconst dX5_function_99 ?_
      refine b_icmp_ne 107 dX5_function_100 g3 (by decide) (by decide) (fun c5 => ?_) (fun c5 => ?_)
      ·
        refine b_iconst dX5_function_107 ?_
        rw [if_neg c3, if_neg c4, if_neg c5] at K
        exact K
      ·
        have c5 := Decidable.of_not_not c5
        refine b_iconst dX5_function_103 ?_
        refine b_goto 108 dX5_function_104 (by decide) ?_
        rw [if_neg c3, if_neg c4, if_pos c5] at K
        exact K
theorem w_X5_function {f : Nat} {Q : Int → MM → Prop} {T : MM → Prop} {rec : Nat → List Int → MM → (Int → MM → Prop) → (MM → Prop) → Prop} {fr : Nat} (hrec : HR_X5_part rec fr) (hf : 43 ≤ f ∧ fr + 1 ≤ f) (x1 : Int) (m : MM) (h : W_X5_function rec x1 m Q T) : CC f M_X5_function [vR 372, vI x1] m Q T := by
  refine CC.of (plainFor_of_name (by decide)) (Nat.le_of_ble_eq_true rfl) (ls := [vR 372, vI x1, vU, vU, vU, vU, vU]) rfl ?_
  have h : rec 5 [x1] m (fun r1 m1 => (RI r1) ∧ (if r1 = 0 then Q (-3) m1 else (isTx (m1 372 1)) ∧ P_X2_many (m1 372 1) x1 m1 (fun r2 m2 => (isTx (m2 372 1)) ∧ (0 ≤ x1 ∧ x1 < 160) ∧ (0 ≤ (m2 ((m2 372 1) + 2) x1) ∧ (m2 ((m2 372 1) + 2) x1) < 160) ∧ (RI r2) ∧ (if r2 ≤ 1 then P_X5_function_63 rec Q T x1 r2 (m2 ((m2 372 1) + 6) (m2 ((m2 372 1) + 2) x1)) (-1) m2 else P_X2_second (m2 372 1) x1 m2 (fun r3 m3 => (0 ≤ r3 ∧ r3 < 160) ∧ P_X5_function_63 rec Q T x1 r2 (m2 ((m2 372 1) + 6) (m2 ((m2 372 1) + 2) x1)) (m3 ((m2 372 1) + 6) r3) m3))))) T := h
  refine b_aload_n dX5_function_0 rfl ?_
  refine b_iload_n dX5_function_1 rfl ?_
  refine b_cVi (as := [vI x1]) (st := []) dX5_function_2 mf_X5_parts qs47 lk_X5_233 ly_372 rfl (hrec.2.2.2.2.2.1 _ _ _ _ h) (by omega) rfl rfl (Nat.le_of_ble_eq_true rfl) (by decide) rfl (fun _ => rfl) (fun r1 m1 h => ?_) (fun _ h => h)
  obtain ⟨g1, h⟩ := h
  refine b_if_ne 11 dX5_function_5 g1 (by decide) (fun c1 => ?_) (fun c1 => ?_)
  · have h := ifF c1 h
    refine b_aload_n dX5_function_11 rfl ?_
    refine b_getM dX5_function_12 fk_X5_26 ly_372 ?_
    refine b_iload_n dX5_function_15 rfl ?_
    obtain ⟨g2, h⟩ := h
    refine b_cVi (as := [vI x1]) (st := []) dX5_function_16 mf_X2_many q1128 lk_X5_237 (tx_ly0 g2) rfl (p_X2_many (f := 1) (Nat.le_refl _) _ _ _ h) (by omega) rfl rfl (Nat.le_of_ble_eq_true rfl) (by decide) rfl (fun _ => rfl) (fun r2 m2 h => ?_) (fun _ h => h)
    refine b_istore_n (ls' := [vR 372, vI x1, vI r2, vU, vU, vU, vU]) dX5_function_19 (Nat.le_of_ble_eq_true rfl) rfl ?_
    refine b_aload_n dX5_function_20 rfl ?_
    refine b_getM dX5_function_21 fk_X5_26 ly_372 ?_
    obtain ⟨g3, h⟩ := h
    refine b_getR dX5_function_24 fk_X5_191 (tx_ly0 g3) (tx_gg12 g3) ?_
    refine b_aload_n dX5_function_27 rfl ?_
    refine b_getM dX5_function_28 fk_X5_26 ly_372 ?_
    refine b_getR dX5_function_31 fk_X5_149 (tx_ly0 g3) (tx_gg8 g3) ?_
    refine b_iload_n dX5_function_34 rfl ?_
    obtain ⟨g4, h⟩ := h
    refine b_iald dX5_function_35 (tx_ly2 g3) g4 ?_
    obtain ⟨g5, h⟩ := h
    refine b_iald dX5_function_36 (tx_ly6 g3) g5 ?_
    refine b_istore_n (ls' := [vR 372, vI x1, vI r2, vI (m2 ((m2 372 1) + 6) (m2 ((m2 372 1) + 2) x1)), vU, vU, vU]) dX5_function_37 (Nat.le_of_ble_eq_true rfl) rfl ?_
    refine b_iload_n dX5_function_38 rfl ?_
    refine b_iconst dX5_function_39 ?_
    obtain ⟨g6, h⟩ := h
    refine b_icmp_le 62 dX5_function_40 g6 (by decide) (by decide) (fun c2 => ?_) (fun c2 => ?_)
    · have h := ifT c2 h
      refine b_iconst dX5_function_62 ?_
      exact pl_X5_function_63 hrec hf _ _ _ _ _ h
    · have h := ifF c2 h
      refine b_aload_n dX5_function_43 rfl ?_
      refine b_getM dX5_function_44 fk_X5_26 ly_372 ?_
      refine b_getR dX5_function_47 fk_X5_191 (tx_ly0 g3) (tx_gg12 g3) ?_
      refine b_aload_n dX5_function_50 rfl ?_
      refine b_getM dX5_function_51 fk_X5_26 ly_372 ?_
      refine b_iload_n dX5_function_54 rfl ?_
      refine b_cVi (as := [vI x1]) (st := [vR ((m2 372 1) + 6)]) dX5_function_55 mf_X2_second q1172 lk_X5_249 (tx_ly0 g3) rfl (p_X2_second (f := 1) (Nat.le_refl _) _ _ _ h) (by omega) rfl rfl (Nat.le_of_ble_eq_true rfl) (by decide) rfl (fun _ => rfl) (fun r3 m3 h => ?_) (fun _ h => h)
      obtain ⟨g7, h⟩ := h
      refine b_iald dX5_function_58 (tx_ly6 g3) g7 ?_
      refine b_goto 63 dX5_function_59 (by decide) ?_
      exact pl_X5_function_63 hrec hf _ _ _ _ _ h
  · have h := ifT (Decidable.of_not_not c1) h
    refine b_bipush dX5_function_8 (by decide) ?_
    exact b_iret dX5_function_10 rfl h
theorem pl_X5_matrix_111 {f : Nat} {Q : Int → MM → Prop} {T : MM → Prop} {rec : Nat → List Int → MM → (Int → MM → Prop) → (MM → Prop) → Prop} {fr : Nat} (hrec : HR_X5_part rec fr) (hf : 43 ≤ f ∧ fr + 1 ≤ f) : ∀ (x1 : Int) (x2 : Int) (m : MM), P_X5_matrix_111 rec Q T x1 x2 m → B f M_X5_matrix 111 [vR 372, vI x1, vI x2, vU] [] m Q T := by
  intro x1 x2 m h
  have h : (if (0 : Int) = 0 then (isTx (m 372 1)) ∧ (0 ≤ x1 ∧ x1 < 160) ∧ P_X5_fail 4 (m ((m 372 1) + 5) x1) m (fun r1 m1 => Q r1 m1) else (isTx (m 372 1)) ∧ (0 ≤ x1 ∧ x1 < 160) ∧ Q (x2 + (m ((m 372 1) + 4) x1)) m) := h
  refine b_iconst dX5_matrix_111 ?_
  refine b_istore_n (ls' := [vR 372, vI x1, vI x2, vI 0]) dX5_matrix_112 (Nat.le_of_ble_eq_true rfl) rfl ?_
  refine b_iload_n dX5_matrix_113 rfl ?_
  refine b_if_eq 131 dX5_matrix_114 (by decide) (by decide) (fun c1 => ?_) (fun c1 => ?_)
  · have h := ifT c1 h
    refine b_aload_n dX5_matrix_131 rfl ?_
    refine b_iconst dX5_matrix_132 ?_
    refine b_aload_n dX5_matrix_133 rfl ?_
    refine b_getM dX5_matrix_134 fk_X5_26 ly_372 ?_
    obtain ⟨g1, h⟩ := h
    refine b_getR dX5_matrix_137 fk_X5_174 (tx_ly0 g1) (tx_gg11 g1) ?_
    refine b_iload_n dX5_matrix_140 rfl ?_
    obtain ⟨g2, h⟩ := h
    refine b_iald dX5_matrix_141 (tx_ly5 g1) g2 ?_
    refine b_cVi (as := [vI 4, vI (m ((m 372 1) + 5) x1)]) (st := []) dX5_matrix_142 mf_X5_fail qs37 lk_X5_114 ly_372 rfl (p_X5_fail (f := 1) (Nat.le_refl _) _ _ _ h) (by omega) rfl rfl (Nat.le_of_ble_eq_true rfl) (by decide) rfl (fun _ => rfl) (fun r1 m1 h => ?_) (fun _ h => h)
    exact b_iret dX5_matrix_145 rfl h
  · have h := ifF c1 h
    refine b_iload_n dX5_matrix_117 rfl ?_
    refine b_aload_n dX5_matrix_118 rfl ?_
    refine b_getM dX5_matrix_119 fk_X5_26 ly_372 ?_
    obtain ⟨g3, h⟩ := h
    refine b_getR dX5_matrix_122 fk_X5_146 (tx_ly0 g3) (tx_gg10 g3) ?_
    refine b_iload_n dX5_matrix_125 rfl ?_
    obtain ⟨g4, h⟩ := h
    refine b_iald dX5_matrix_126 (tx_ly4 g3) g4 ?_
    refine b_iadd dX5_matrix_127 ?_
    refine b_goto 145 dX5_matrix_128 (by decide) ?_
    exact b_iret dX5_matrix_145 rfl h
theorem pl_X5_matrix_84 {f : Nat} {Q : Int → MM → Prop} {T : MM → Prop} {rec : Nat → List Int → MM → (Int → MM → Prop) → (MM → Prop) → Prop} {fr : Nat} (hrec : HR_X5_part rec fr) (hf : 43 ≤ f ∧ fr + 1 ≤ f) : ∀ (x1 : Int) (x2 : Int) (m : MM), P_X5_matrix_84 rec Q T x1 x2 m → B f M_X5_matrix 84 [vR 372, vI x1, vI x2, vU] [] m Q T := by
  intro x1 x2 m h
  have h : (isTx (m 372 1)) ∧ (0 ≤ x1 ∧ x1 < 160) ∧ (RI (m ((m 372 1) + 4) x1)) ∧ (if (m ((m 372 1) + 4) x1) ≤ 0 then P_X5_matrix_111 rec Q T x1 x2 m else (RI x2) ∧ (if x2 < 0 then P_X5_matrix_111 rec Q T x1 x2 m else P_X11_size x2 m (fun r1 m1 => ((RI r1)) ∧ (RI (if r1 = 0 then 1 else 0 : Int)) ∧ (if (if r1 = 0 then 1 else 0 : Int) = 0 then (isTx (m1 372 1)) ∧ P_X5_fail 4 (m1 ((m1 372 1) + 5) x1) m1 (fun r2 m2 => Q r2 m2) else (isTx (m1 372 1)) ∧ Q (x2 + (m1 ((m1 372 1) + 4) x1)) m1)))) := h
  refine b_aload_n dX5_matrix_84 rfl ?_
  refine b_getM dX5_matrix_85 fk_X5_26 ly_372 ?_
  obtain ⟨g1, h⟩ := h
  refine b_getR dX5_matrix_88 fk_X5_146 (tx_ly0 g1) (tx_gg10 g1) ?_
  refine b_iload_n dX5_matrix_91 rfl ?_
  obtain ⟨g2, h⟩ := h
  refine b_iald dX5_matrix_92 (tx_ly4 g1) g2 ?_
  obtain ⟨g3, h⟩ := h
  refine b_if_le 111 dX5_matrix_93 g3 (by decide) (fun c1 => ?_) (fun c1 => ?_)
  · have h := ifT c1 h
    exact pl_X5_matrix_111 hrec hf _ _ _ h
  · have h := ifF c1 h
    refine b_iload_n dX5_matrix_96 rfl ?_
    obtain ⟨g4, h⟩ := h
    refine b_if_lt 111 dX5_matrix_97 g4 (by decide) (fun c2 => ?_) (fun c2 => ?_)
    · have h := ifT c2 h
      exact pl_X5_matrix_111 hrec hf _ _ _ h
    · have h := ifF c2 h
      refine b_iload_n dX5_matrix_100 rfl ?_
      refine b_cSi (as := [vI x2]) (st := []) dX5_matrix_101 mf_X11_size lk_X5_185 (p_X11_size (f := 1) (Nat.le_refl _) _ _ h) (by omega) rfl rfl (Nat.le_of_ble_eq_true rfl) (by decide) rfl (fun _ => rfl) (fun r1 m1 h => ?_) (fun _ h => h)
      obtain ⟨hs, h⟩ := h
      have K : B f M_X5_matrix 112 [vR 372, vI x1, vI x2, vU] [vI (if r1 = 0 then 1 else 0 : Int)] m1 Q T := by
        clear hs
        refine b_istore_n (ls' := [vR 372, vI x1, vI x2, vI (if r1 = 0 then 1 else 0 : Int)]) dX5_matrix_112 (Nat.le_of_ble_eq_true rfl) rfl ?_
        refine b_iload_n dX5_matrix_113 rfl ?_
        obtain ⟨g6, h⟩ := h
        refine b_if_eq 131 dX5_matrix_114 g6 (by decide) (fun c3 => ?_) (fun c3 => ?_)
        · have h := ifT c3 h
          refine b_aload_n dX5_matrix_131 rfl ?_
          refine b_iconst dX5_matrix_132 ?_
          refine b_aload_n dX5_matrix_133 rfl ?_
          refine b_getM dX5_matrix_134 fk_X5_26 ly_372 ?_
          obtain ⟨g7, h⟩ := h
          refine b_getR dX5_matrix_137 fk_X5_174 (tx_ly0 g7) (tx_gg11 g7) ?_
          refine b_iload_n dX5_matrix_140 rfl ?_
          refine b_iald dX5_matrix_141 (tx_ly5 g7) g2 ?_
          refine b_cVi (as := [vI 4, vI (m1 ((m1 372 1) + 5) x1)]) (st := []) dX5_matrix_142 mf_X5_fail qs37 lk_X5_114 ly_372 rfl (p_X5_fail (f := 1) (Nat.le_refl _) _ _ _ h) (by omega) rfl rfl (Nat.le_of_ble_eq_true rfl) (by decide) rfl (fun _ => rfl) (fun r2 m2 h => ?_) (fun _ h => h)
          exact b_iret dX5_matrix_145 rfl h
        · have h := ifF c3 h
          refine b_iload_n dX5_matrix_117 rfl ?_
          refine b_aload_n dX5_matrix_118 rfl ?_
          refine b_getM dX5_matrix_119 fk_X5_26 ly_372 ?_
          obtain ⟨g8, h⟩ := h
          refine b_getR dX5_matrix_122 fk_X5_146 (tx_ly0 g8) (tx_gg10 g8) ?_
          refine b_iload_n dX5_matrix_125 rfl ?_
          refine b_iald dX5_matrix_126 (tx_ly4 g8) g2 ?_
          refine b_iadd dX5_matrix_127 ?_
          refine b_goto 145 dX5_matrix_128 (by decide) ?_
          exact b_iret dX5_matrix_145 rfl h
      have g5 := hs
      refine b_if_ne 111 dX5_matrix_104 g5 (by decide) (fun c4 => ?_) (fun c4 => ?_)
      ·
        refine b_iconst dX5_matrix_111 ?_
        rw [if_neg c4] at K
        exact K
      ·
        have c4 := Decidable.of_not_not c4
        refine b_iconst dX5_matrix_107 ?_
        refine b_goto 112 dX5_matrix_108 (by decide) ?_
        rw [if_pos c4] at K
        exact K
theorem pl_X5_matrix_47 {f : Nat} {Q : Int → MM → Prop} {T : MM → Prop} {rec : Nat → List Int → MM → (Int → MM → Prop) → (MM → Prop) → Prop} {fr : Nat} (hrec : HR_X5_part rec fr) (hf : 43 ≤ f ∧ fr + 1 ≤ f) : ∀ (n : Nat) (x1 : Int) (x2 : Int) (x3 : Int) (m : MM), P_X5_matrix_47 rec Q T n x1 x2 x3 m → B f M_X5_matrix 47 [vR 372, vI x1, vI x2, vI x3] [] m Q T := by
  intro n
  induction n with
  | zero => intro x1 x2 x3 m h; exact h.elim
  | succ n ih =>
    intro x1 x2 x3 m h
    have h : (RI x3) ∧ (if x3 = (-1) then P_X5_matrix_84 rec Q T x1 x2 m else (RI x2) ∧ (if x2 = (-1) then P_X5_matrix_84 rec Q T x1 x2 m else (isTx (m 372 1)) ∧ (0 ≤ x3 ∧ x3 < 160) ∧ P_X11_join x2 (m ((m 372 1) + 6) x3) m (fun r1 m1 => (isTx (m1 372 1)) ∧ P_X5_matrix_47 rec Q T n x1 r1 (m1 ((m1 372 1) + 3) x3) m1))) := h
    refine b_iload_n dX5_matrix_47 rfl ?_
    refine b_iconst dX5_matrix_48 ?_
    obtain ⟨g1, h⟩ := h
    refine b_icmp_eq 84 dX5_matrix_49 g1 (by decide) (by decide) (fun c1 => ?_) (fun c1 => ?_)
    · have h := ifT c1 h
      refine b_fgt [true, true, true, false] (ls' := [vR 372, vI x1, vI x2, vU]) rfl rfl ?_
      exact pl_X5_matrix_84 hrec hf _ _ _ h
    · have h := ifF c1 h
      refine b_iload_n dX5_matrix_52 rfl ?_
      refine b_iconst dX5_matrix_53 ?_
      obtain ⟨g2, h⟩ := h
      refine b_icmp_eq 84 dX5_matrix_54 g2 (by decide) (by decide) (fun c2 => ?_) (fun c2 => ?_)
      · have h := ifT c2 h
        refine b_fgt [true, true, true, false] (ls' := [vR 372, vI x1, vI x2, vU]) rfl rfl ?_
        exact pl_X5_matrix_84 hrec hf _ _ _ h
      · have h := ifF c2 h
        refine b_iload_n dX5_matrix_57 rfl ?_
        refine b_aload_n dX5_matrix_58 rfl ?_
        refine b_getM dX5_matrix_59 fk_X5_26 ly_372 ?_
        obtain ⟨g3, h⟩ := h
        refine b_getR dX5_matrix_62 fk_X5_191 (tx_ly0 g3) (tx_gg12 g3) ?_
        refine b_iload_n dX5_matrix_65 rfl ?_
        obtain ⟨g4, h⟩ := h
        refine b_iald dX5_matrix_66 (tx_ly6 g3) g4 ?_
        refine b_cSi (as := [vI x2, vI (m ((m 372 1) + 6) x3)]) (st := []) dX5_matrix_67 mf_X11_join lk_X5_255 (p_X11_join (f := 2) (Nat.le_refl _) _ _ _ h) (by omega) rfl rfl (Nat.le_of_ble_eq_true rfl) (by decide) rfl (fun _ => rfl) (fun r1 m1 h => ?_) (fun _ h => h)
        refine b_istore_n (ls' := [vR 372, vI x1, vI r1, vI x3]) dX5_matrix_70 (Nat.le_of_ble_eq_true rfl) rfl ?_
        refine b_aload_n dX5_matrix_71 rfl ?_
        refine b_getM dX5_matrix_72 fk_X5_26 ly_372 ?_
        obtain ⟨g5, h⟩ := h
        refine b_getR dX5_matrix_75 fk_X5_226 (tx_ly0 g5) (tx_gg9 g5) ?_
        refine b_iload_n dX5_matrix_78 rfl ?_
        refine b_iald dX5_matrix_79 (tx_ly3 g5) g4 ?_
        refine b_istore_n (ls' := [vR 372, vI x1, vI r1, vI (m1 ((m1 372 1) + 3) x3)]) dX5_matrix_80 (Nat.le_of_ble_eq_true rfl) rfl ?_
        refine b_goto 47 dX5_matrix_81 (by decide) ?_
        exact ih _ _ _ _ h
theorem w_X5_matrix {f : Nat} {Q : Int → MM → Prop} {T : MM → Prop} {rec : Nat → List Int → MM → (Int → MM → Prop) → (MM → Prop) → Prop} {fr : Nat} (hrec : HR_X5_part rec fr) (hf : 43 ≤ f ∧ fr + 1 ≤ f) (x1 : Int) (m : MM) (h : W_X5_matrix rec x1 m Q T) : CC f M_X5_matrix [vR 372, vI x1] m Q T := by
  refine CC.of (plainFor_of_name (by decide)) (Nat.le_of_ble_eq_true rfl) (ls := [vR 372, vI x1, vU, vU]) rfl ?_
  have h : rec 5 [x1] m (fun r1 m1 => (RI r1) ∧ (if r1 = 0 then Q (-3) m1 else (isTx (m1 372 1)) ∧ (0 ≤ x1 ∧ x1 < 160) ∧ (0 ≤ (m1 ((m1 372 1) + 2) x1) ∧ (m1 ((m1 372 1) + 2) x1) < 160) ∧ ∃ nn, P_X5_matrix_47 rec Q T nn x1 (m1 ((m1 372 1) + 6) (m1 ((m1 372 1) + 2) x1)) (m1 ((m1 372 1) + 3) (m1 ((m1 372 1) + 2) x1)) m1)) T := h
  refine b_aload_n dX5_matrix_0 rfl ?_
  refine b_iload_n dX5_matrix_1 rfl ?_
  refine b_cVi (as := [vI x1]) (st := []) dX5_matrix_2 mf_X5_parts qs47 lk_X5_233 ly_372 rfl (hrec.2.2.2.2.2.1 _ _ _ _ h) (by omega) rfl rfl (Nat.le_of_ble_eq_true rfl) (by decide) rfl (fun _ => rfl) (fun r1 m1 h => ?_) (fun _ h => h)
  obtain ⟨g1, h⟩ := h
  refine b_if_ne 11 dX5_matrix_5 g1 (by decide) (fun c1 => ?_) (fun c1 => ?_)
  · have h := ifF c1 h
    refine b_aload_n dX5_matrix_11 rfl ?_
    refine b_getM dX5_matrix_12 fk_X5_26 ly_372 ?_
    obtain ⟨g2, h⟩ := h
    refine b_getR dX5_matrix_15 fk_X5_191 (tx_ly0 g2) (tx_gg12 g2) ?_
    refine b_aload_n dX5_matrix_18 rfl ?_
    refine b_getM dX5_matrix_19 fk_X5_26 ly_372 ?_
    refine b_getR dX5_matrix_22 fk_X5_149 (tx_ly0 g2) (tx_gg8 g2) ?_
    refine b_iload_n dX5_matrix_25 rfl ?_
    obtain ⟨g3, h⟩ := h
    refine b_iald dX5_matrix_26 (tx_ly2 g2) g3 ?_
    obtain ⟨g4, h⟩ := h
    refine b_iald dX5_matrix_27 (tx_ly6 g2) g4 ?_
    refine b_istore_n (ls' := [vR 372, vI x1, vI (m1 ((m1 372 1) + 6) (m1 ((m1 372 1) + 2) x1)), vU]) dX5_matrix_28 (Nat.le_of_ble_eq_true rfl) rfl ?_
    refine b_aload_n dX5_matrix_29 rfl ?_
    refine b_getM dX5_matrix_30 fk_X5_26 ly_372 ?_
    refine b_getR dX5_matrix_33 fk_X5_226 (tx_ly0 g2) (tx_gg9 g2) ?_
    refine b_aload_n dX5_matrix_36 rfl ?_
    refine b_getM dX5_matrix_37 fk_X5_26 ly_372 ?_
    refine b_getR dX5_matrix_40 fk_X5_149 (tx_ly0 g2) (tx_gg8 g2) ?_
    refine b_iload_n dX5_matrix_43 rfl ?_
    refine b_iald dX5_matrix_44 (tx_ly2 g2) g3 ?_
    refine b_iald dX5_matrix_45 (tx_ly3 g2) g4 ?_
    refine b_istore_n (ls' := [vR 372, vI x1, vI (m1 ((m1 372 1) + 6) (m1 ((m1 372 1) + 2) x1)), vI (m1 ((m1 372 1) + 3) (m1 ((m1 372 1) + 2) x1))]) dX5_matrix_46 (Nat.le_of_ble_eq_true rfl) rfl ?_
    obtain ⟨nn, h⟩ := h
    exact pl_X5_matrix_47 hrec hf nn _ _ _ _ h
  · have h := ifT (Decidable.of_not_not c1) h
    refine b_bipush dX5_matrix_8 (by decide) ?_
    exact b_iret dX5_matrix_10 rfl h
theorem w_X5_part {f : Nat} {Q : Int → MM → Prop} {T : MM → Prop} {rec : Nat → List Int → MM → (Int → MM → Prop) → (MM → Prop) → Prop} {fr : Nat} (hrec : HR_X5_part rec fr) (hf : 43 ≤ f ∧ fr + 1 ≤ f) (x1 : Int) (m : MM) (h : W_X5_part rec x1 m Q T) : CC f M_X5_part [vR 372, vI x1] m Q T := by
  refine CC.of (plainFor_of_name (by decide)) (Nat.le_of_ble_eq_true rfl) (ls := [vR 372, vI x1, vU]) rfl ?_
  have h : rec 6 [x1] m (fun r1 m1 => (isTx (m1 372 1)) ∧ (0 ≤ x1 ∧ x1 < 160) ∧ ∀ m2 : MM, m2 = up m1 ((m1 372 1) + 6) x1 r1 → Q r1 m2) T := h
  refine b_aload_n dX5_part_0 rfl ?_
  refine b_iload_n dX5_part_1 rfl ?_
  refine b_cVi (as := [vI x1]) (st := []) dX5_part_2 mf_X5_ringOf qs43 lk_X5_188 ly_372 rfl (hrec.2.2.2.2.2.2.1 _ _ _ _ h) (by omega) rfl rfl (Nat.le_of_ble_eq_true rfl) (by decide) rfl (fun _ => rfl) (fun r1 m1 h => ?_) (fun _ h => h)
  refine b_istore_n (ls' := [vR 372, vI x1, vI r1]) dX5_part_5 (Nat.le_of_ble_eq_true rfl) rfl ?_
  refine b_aload_n dX5_part_6 rfl ?_
  refine b_getM dX5_part_7 fk_X5_26 ly_372 ?_
  obtain ⟨g1, h⟩ := h
  refine b_getR dX5_part_10 fk_X5_191 (tx_ly0 g1) (tx_gg12 g1) ?_
  refine b_iload_n dX5_part_13 rfl ?_
  refine b_iload_n dX5_part_14 rfl ?_
  obtain ⟨g2, h⟩ := h
  refine b_iast dX5_part_15 (tx_ly6 g1) g2 (fun m2 em2 => ?_)
  have h := h m2 em2
  refine b_iload_n dX5_part_16 rfl ?_
  exact b_iret dX5_part_17 rfl h
theorem pl_X5_parts_12 {f : Nat} {Q : Int → MM → Prop} {T : MM → Prop} {rec : Nat → List Int → MM → (Int → MM → Prop) → (MM → Prop) → Prop} {fr : Nat} (hrec : HR_X5_part rec fr) (hf : 43 ≤ f ∧ fr + 1 ≤ f) : ∀ (n : Nat) (x2 : Int) (x3 : Int) (m : MM), P_X5_parts_12 rec Q T n x2 x3 m → B f M_X5_parts 12 [vR 372, vU, vI x2, vI x3] [] m Q T := by
  intro n
  induction n with
  | zero => intro x2 x3 m h; exact h.elim
  | succ n ih =>
    intro x2 x3 m h
    have h : (RI x3) ∧ (if x3 = (-1) then (x2 = 0 ∨ x2 = 1) ∧ Q x2 m else rec 4 [x3] m (fun r1 m1 => ((RI r1)) ∧ (isTx (m1 372 1)) ∧ (0 ≤ x3 ∧ x3 < 160) ∧ P_X5_parts_12 rec Q T n (iAnd x2 (if r1 = (-3) then 0 else 1 : Int)) (m1 ((m1 372 1) + 3) x3) m1) T) := h
    refine b_iload_n dX5_parts_12 rfl ?_
    refine b_iconst dX5_parts_13 ?_
    obtain ⟨g1, h⟩ := h
    refine b_icmp_eq 48 dX5_parts_14 g1 (by decide) (by decide) (fun c1 => ?_) (fun c1 => ?_)
    · have h := ifT c1 h
      refine b_iload_n dX5_parts_48 rfl ?_
      obtain ⟨g2, h⟩ := h
      exact b_zret dX5_parts_49 rfl g2 h
    · have h := ifF c1 h
      refine b_iload_n dX5_parts_17 rfl ?_
      refine b_aload_n dX5_parts_18 rfl ?_
      refine b_iload_n dX5_parts_19 rfl ?_
      refine b_cVi (as := [vI x3]) (st := [vI x2]) dX5_parts_20 mf_X5_part qs42 lk_X5_50 ly_372 rfl (hrec.2.2.2.2.1 _ _ _ _ h) (by omega) rfl rfl (Nat.le_of_ble_eq_true rfl) (by decide) rfl (fun _ => rfl) (fun r1 m1 h => ?_) (fun _ h => h)
      refine b_bipush dX5_parts_23 (by decide) ?_
      obtain ⟨hs, h⟩ := h
      have K : B f M_X5_parts 33 [vR 372, vU, vI x2, vI x3] [vI (if r1 = (-3) then 0 else 1 : Int), vI x2] m1 Q T := by
        clear hs
        refine b_iand dX5_parts_33 ?_
        refine b_istore_n (ls' := [vR 372, vU, vI (iAnd x2 (if r1 = (-3) then 0 else 1 : Int)), vI x3]) dX5_parts_34 (Nat.le_of_ble_eq_true rfl) rfl ?_
        refine b_aload_n dX5_parts_35 rfl ?_
        refine b_getM dX5_parts_36 fk_X5_26 ly_372 ?_
        obtain ⟨g4, h⟩ := h
        refine b_getR dX5_parts_39 fk_X5_226 (tx_ly0 g4) (tx_gg9 g4) ?_
        refine b_iload_n dX5_parts_42 rfl ?_
        obtain ⟨g5, h⟩ := h
        refine b_iald dX5_parts_43 (tx_ly3 g4) g5 ?_
        refine b_istore_n (ls' := [vR 372, vU, vI (iAnd x2 (if r1 = (-3) then 0 else 1 : Int)), vI (m1 ((m1 372 1) + 3) x3)]) dX5_parts_44 (Nat.le_of_ble_eq_true rfl) rfl ?_
        refine b_goto 12 dX5_parts_45 (by decide) ?_
        exact ih _ _ _ h
      have g3 := hs
      refine b_icmp_eq 32 dX5_parts_25 g3 (by decide) (by decide) (fun c2 => ?_) (fun c2 => ?_)
      ·
        refine b_iconst dX5_parts_32 ?_
        rw [if_pos c2] at K
        exact K
      ·
        refine b_iconst dX5_parts_28 ?_
        refine b_goto 33 dX5_parts_29 (by decide) ?_
        rw [if_neg c2] at K
        exact K
theorem w_X5_parts {f : Nat} {Q : Int → MM → Prop} {T : MM → Prop} {rec : Nat → List Int → MM → (Int → MM → Prop) → (MM → Prop) → Prop} {fr : Nat} (hrec : HR_X5_part rec fr) (hf : 43 ≤ f ∧ fr + 1 ≤ f) (x1 : Int) (m : MM) (h : W_X5_parts rec x1 m Q T) : CC f M_X5_parts [vR 372, vI x1] m Q T := by
  refine CC.of (plainFor_of_name (by decide)) (Nat.le_of_ble_eq_true rfl) (ls := [vR 372, vI x1, vU, vU]) rfl ?_
  have h : (isTx (m 372 1)) ∧ (0 ≤ x1 ∧ x1 < 160) ∧ ∃ nn, P_X5_parts_12 rec Q T nn 1 (m ((m 372 1) + 2) x1) m := h
  refine b_iconst dX5_parts_0 ?_
  refine b_istore_n (ls' := [vR 372, vI x1, vI 1, vU]) dX5_parts_1 (Nat.le_of_ble_eq_true rfl) rfl ?_
  refine b_aload_n dX5_parts_2 rfl ?_
  refine b_getM dX5_parts_3 fk_X5_26 ly_372 ?_
  obtain ⟨g1, h⟩ := h
  refine b_getR dX5_parts_6 fk_X5_149 (tx_ly0 g1) (tx_gg8 g1) ?_
  refine b_iload_n dX5_parts_9 rfl ?_
  obtain ⟨g2, h⟩ := h
  refine b_iald dX5_parts_10 (tx_ly2 g1) g2 ?_
  refine b_istore_n (ls' := [vR 372, vI x1, vI 1, vI (m ((m 372 1) + 2) x1)]) dX5_parts_11 (Nat.le_of_ble_eq_true rfl) rfl ?_
  refine b_fgt [true, false, true, true] (ls' := [vR 372, vU, vI 1, vI (m ((m 372 1) + 2) x1)]) rfl rfl ?_
  obtain ⟨nn, h⟩ := h
  exact pl_X5_parts_12 hrec hf nn _ _ _ h
theorem pl_X5_ringOf_175 {f : Nat} {Q : Int → MM → Prop} {T : MM → Prop} {rec : Nat → List Int → MM → (Int → MM → Prop) → (MM → Prop) → Prop} {fr : Nat} (hrec : HR_X5_part rec fr) (hf : 43 ≤ f ∧ fr + 1 ≤ f) : ∀ (x1 : Int) (m : MM), P_X5_ringOf_175 rec Q T x1 m → B f M_X5_ringOf 175 [vR 372, vI x1, vU] [] m Q T := by
  intro x1 m h
  have h : (isTx (m 372 1)) ∧ (0 ≤ x1 ∧ x1 < 160) ∧ P_X5_fail 3 (m ((m 372 1) + 5) x1) m (fun r1 m1 => Q r1 m1) := h
  refine b_aload_n dX5_ringOf_175 rfl ?_
  refine b_iconst dX5_ringOf_176 ?_
  refine b_aload_n dX5_ringOf_177 rfl ?_
  refine b_getM dX5_ringOf_178 fk_X5_26 ly_372 ?_
  obtain ⟨g1, h⟩ := h
  refine b_getR dX5_ringOf_181 fk_X5_174 (tx_ly0 g1) (tx_gg11 g1) ?_
  refine b_iload_n dX5_ringOf_184 rfl ?_
  obtain ⟨g2, h⟩ := h
  refine b_iald dX5_ringOf_185 (tx_ly5 g1) g2 ?_
  refine b_cVi (as := [vI 3, vI (m ((m 372 1) + 5) x1)]) (st := []) dX5_ringOf_186 mf_X5_fail qs37 lk_X5_114 ly_372 rfl (p_X5_fail (f := 1) (Nat.le_refl _) _ _ _ h) (by omega) rfl rfl (Nat.le_of_ble_eq_true rfl) (by decide) rfl (fun _ => rfl) (fun r1 m1 h => ?_) (fun _ h => h)
  refine b_goto 209 dX5_ringOf_189 (by decide) ?_
  exact b_iret dX5_ringOf_209 rfl h
theorem pl_X5_ringOf_368 {f : Nat} {Q : Int → MM → Prop} {T : MM → Prop} {rec : Nat → List Int → MM → (Int → MM → Prop) → (MM → Prop) → Prop} {fr : Nat} (hrec : HR_X5_part rec fr) (hf : 43 ≤ f ∧ fr + 1 ≤ f) : ∀ (x1 : Int) (m : MM), P_X5_ringOf_368 rec Q T x1 m → B f M_X5_ringOf 368 [vR 372, vI x1, vU] [] m Q T := by
  intro x1 m h
  have h : (isTx (m 372 1)) ∧ (0 ≤ x1 ∧ x1 < 160) ∧ P_X5_fail 4 (m ((m 372 1) + 5) x1) m (fun r1 m1 => Q r1 m1) := h
  refine b_aload_n dX5_ringOf_368 rfl ?_
  refine b_iconst dX5_ringOf_369 ?_
  refine b_aload_n dX5_ringOf_370 rfl ?_
  refine b_getM dX5_ringOf_371 fk_X5_26 ly_372 ?_
  obtain ⟨g1, h⟩ := h
  refine b_getR dX5_ringOf_374 fk_X5_174 (tx_ly0 g1) (tx_gg11 g1) ?_
  refine b_iload_n dX5_ringOf_377 rfl ?_
  obtain ⟨g2, h⟩ := h
  refine b_iald dX5_ringOf_378 (tx_ly5 g1) g2 ?_
  refine b_cVi (as := [vI 4, vI (m ((m 372 1) + 5) x1)]) (st := []) dX5_ringOf_379 mf_X5_fail qs37 lk_X5_114 ly_372 rfl (p_X5_fail (f := 1) (Nat.le_refl _) _ _ _ h) (by omega) rfl rfl (Nat.le_of_ble_eq_true rfl) (by decide) rfl (fun _ => rfl) (fun r1 m1 h => ?_) (fun _ h => h)
  exact b_iret dX5_ringOf_382 rfl h
theorem pl_X5_ringOf_383 {f : Nat} {Q : Int → MM → Prop} {T : MM → Prop} {rec : Nat → List Int → MM → (Int → MM → Prop) → (MM → Prop) → Prop} {fr : Nat} (hrec : HR_X5_part rec fr) (hf : 43 ≤ f ∧ fr + 1 ≤ f) : ∀ (x1 : Int) (m : MM), P_X5_ringOf_383 rec Q T x1 m → B f M_X5_ringOf 383 [vR 372, vI x1, vU] [] m Q T := by
  intro x1 m h
  have h : rec 7 [x1] m (fun r1 m1 => Q r1 m1) T := h
  refine b_aload_n dX5_ringOf_383 rfl ?_
  refine b_iload_n dX5_ringOf_384 rfl ?_
  refine b_cVi (as := [vI x1]) (st := []) dX5_ringOf_385 mf_X5_turned qs51 lk_X5_211 ly_372 rfl (hrec.2.2.2.2.2.2.2.1 _ _ _ _ h) (by omega) rfl rfl (Nat.le_of_ble_eq_true rfl) (by decide) rfl (fun _ => rfl) (fun r1 m1 h => ?_) (fun _ h => h)
  exact b_iret dX5_ringOf_388 rfl h
theorem pl_X5_ringOf_389 {f : Nat} {Q : Int → MM → Prop} {T : MM → Prop} {rec : Nat → List Int → MM → (Int → MM → Prop) → (MM → Prop) → Prop} {fr : Nat} (hrec : HR_X5_part rec fr) (hf : 43 ≤ f ∧ fr + 1 ≤ f) : ∀ (x1 : Int) (m : MM), P_X5_ringOf_389 rec Q T x1 m → B f M_X5_ringOf 389 [vR 372, vI x1, vU] [] m Q T := by
  intro x1 m h
  have h : rec 8 [x1] m (fun r1 m1 => Q r1 m1) T := h
  refine b_aload_n dX5_ringOf_389 rfl ?_
  refine b_iload_n dX5_ringOf_390 rfl ?_
  refine b_cVi (as := [vI x1]) (st := []) dX5_ringOf_391 mf_X5_two qs52 lk_X5_214 ly_372 rfl (hrec.2.2.2.2.2.2.2.2.1 _ _ _ _ h) (by omega) rfl rfl (Nat.le_of_ble_eq_true rfl) (by decide) rfl (fun _ => rfl) (fun r1 m1 h => ?_) (fun _ h => h)
  exact b_iret dX5_ringOf_394 rfl h
theorem w_X5_ringOf {f : Nat} {Q : Int → MM → Prop} {T : MM → Prop} {rec : Nat → List Int → MM → (Int → MM → Prop) → (MM → Prop) → Prop} {fr : Nat} (hrec : HR_X5_part rec fr) (hf : 43 ≤ f ∧ fr + 1 ≤ f) (x1 : Int) (m : MM) (h : W_X5_ringOf rec x1 m Q T) : CC f M_X5_ringOf [vR 372, vI x1] m Q T := by
  refine CC.of (plainFor_of_name (by decide)) (Nat.le_of_ble_eq_true rfl) (ls := [vR 372, vI x1, vU]) rfl ?_
  have h : (isTx (m 372 1)) ∧ (0 ≤ x1 ∧ x1 < 160) ∧ (RI (m ((m 372 1) + 1) x1)) ∧ (if (m ((m 372 1) + 1) x1) = 0 then P_X11_of 0 0 0 m (fun r1 m1 => Q r1 m1) else (if (m ((m 372 1) + 1) x1) = 1 then P_X11_of 0 1 0 m (fun r2 m2 => Q r2 m2) else (if (m ((m 372 1) + 1) x1) = 2 then P_X11_of 0 2 0 m (fun r3 m3 => Q r3 m3) else (if (m ((m 372 1) + 1) x1) = 3 then (RI (m 372 4)) ∧ (if (m 372 4) = 0 then (RI (m ((m 372 1) + 4) x1)) ∧ (RI (m 3 3)) ∧ (if (m ((m 372 1) + 4) x1) < (m 3 3) then (0 ≤ (m ((m 372 1) + 4) x1) ∧ (m ((m 372 1) + 4) x1) < 200) ∧ Q (m 7 (m ((m 372 1) + 4) x1)) m else P_X5_ringOf_175 rec Q T x1 m) else P_X5_ringOf_175 rec Q T x1 m) else (if (m ((m 372 1) + 1) x1) = 4 then P_X5_named x1 m (fun r4 m4 => Q r4 m4) else (if (m ((m 372 1) + 1) x1) = 5 then rec 0 [x1] m (fun r5 m5 => Q r5 m5) T else (if (m ((m 372 1) + 1) x1) = 6 then rec 2 [x1] m (fun r6 m6 => Q r6 m6) T else (if (m ((m 372 1) + 1) x1) = 7 then rec 3 [x1] m (fun r7 m7 => Q r7 m7) T else (if (m ((m 372 1) + 1) x1) = 8 then rec 1 [x1] m (fun r8 m8 => Q r8 m8) T else (if (m ((m 372 1) + 1) x1) = 11 then rec 4 [(m ((m 372 1) + 2) x1)] m (fun r9 m9 => (RI r9) ∧ (if r9 = (-3) then Q r9 m9 else (if r9 = (-2) then Q r9 m9 else (isTx (m9 372 1)) ∧ P_X5_fail 4 (m9 ((m9 372 1) + 5) x1) m9 (fun r10 m10 => Q r10 m10)))) T else (if (m ((m 372 1) + 1) x1) = 22 then rec 4 [(m ((m 372 1) + 2) x1)] m (fun r11 m11 => (RI r11) ∧ (if r11 = (-2) then (isTx (m11 372 1)) ∧ P_X5_fail 4 (m11 ((m11 372 1) + 5) x1) m11 (fun r12 m12 => Q r12 m12) else Q r11 m11)) T else (if (m ((m 372 1) + 1) x1) = 23 then rec 4 [(m ((m 372 1) + 2) x1)] m (fun r13 m13 => (RI r13) ∧ (if r13 = (-3) then Q r13 m13 else (if r13 = (-2) then P_X5_ringOf_368 rec Q T x1 m13 else (isTx (m13 372 1)) ∧ (RI (m13 ((m13 372 1) + 4) x1)) ∧ (if 12 < (m13 ((m13 372 1) + 4) x1) then P_X5_ringOf_368 rec Q T x1 m13 else Q r13 m13)))) T else (if (m ((m 372 1) + 1) x1) = 24 then P_X5_ringOf_383 rec Q T x1 m else (if (m ((m 372 1) + 1) x1) = 25 then P_X5_ringOf_383 rec Q T x1 m else P_X5_ringOf_389 rec Q T x1 m)))))))))))))) := h
  refine b_aload_n dX5_ringOf_0 rfl ?_
  refine b_getM dX5_ringOf_1 fk_X5_26 ly_372 ?_
  obtain ⟨g1, h⟩ := h
  refine b_getR dX5_ringOf_4 fk_X5_143 (tx_ly0 g1) (tx_gg7 g1) ?_
  refine b_iload_n dX5_ringOf_7 rfl ?_
  obtain ⟨g2, h⟩ := h
  refine b_iald dX5_ringOf_8 (tx_ly1 g1) g2 ?_
  obtain ⟨g3, h⟩ := h
  by_cases c1 : (m ((m 372 1) + 1) x1) = 0
  · have h := ifT c1 h
    refine b_tswIn 128 dX5_ringOf_9 g3 (by omega) (by omega) (by rw [c1]; rfl) (by decide) ?_
    refine b_iconst dX5_ringOf_128 ?_
    refine b_iconst dX5_ringOf_129 ?_
    refine b_iconst dX5_ringOf_130 ?_
    refine b_cSi (as := [vI 0, vI 0, vI 0]) (st := []) dX5_ringOf_131 mf_X11_of lk_X5_89 (p_X11_of (f := 1) (Nat.le_refl _) _ _ _ _ h) (by omega) rfl rfl (Nat.le_of_ble_eq_true rfl) (by decide) rfl (fun _ => rfl) (fun r1 m1 h => ?_) (fun _ h => h)
    exact b_iret dX5_ringOf_134 rfl h
  have h := ifF c1 h
  by_cases c2 : (m ((m 372 1) + 1) x1) = 1
  · have h := ifT c2 h
    refine b_tswIn 135 dX5_ringOf_9 g3 (by omega) (by omega) (by rw [c2]; rfl) (by decide) ?_
    refine b_iconst dX5_ringOf_135 ?_
    refine b_iconst dX5_ringOf_136 ?_
    refine b_iconst dX5_ringOf_137 ?_
    refine b_cSi (as := [vI 0, vI 1, vI 0]) (st := []) dX5_ringOf_138 mf_X11_of lk_X5_89 (p_X11_of (f := 1) (Nat.le_refl _) _ _ _ _ h) (by omega) rfl rfl (Nat.le_of_ble_eq_true rfl) (by decide) rfl (fun _ => rfl) (fun r2 m2 h => ?_) (fun _ h => h)
    exact b_iret dX5_ringOf_141 rfl h
  have h := ifF c2 h
  by_cases c3 : (m ((m 372 1) + 1) x1) = 2
  · have h := ifT c3 h
    refine b_tswIn 142 dX5_ringOf_9 g3 (by omega) (by omega) (by rw [c3]; rfl) (by decide) ?_
    refine b_iconst dX5_ringOf_142 ?_
    refine b_iconst dX5_ringOf_143 ?_
    refine b_iconst dX5_ringOf_144 ?_
    refine b_cSi (as := [vI 0, vI 2, vI 0]) (st := []) dX5_ringOf_145 mf_X11_of lk_X5_89 (p_X11_of (f := 1) (Nat.le_refl _) _ _ _ _ h) (by omega) rfl rfl (Nat.le_of_ble_eq_true rfl) (by decide) rfl (fun _ => rfl) (fun r3 m3 h => ?_) (fun _ h => h)
    exact b_iret dX5_ringOf_148 rfl h
  have h := ifF c3 h
  by_cases c4 : (m ((m 372 1) + 1) x1) = 3
  · have h := ifT c4 h
    refine b_tswIn 149 dX5_ringOf_9 g3 (by omega) (by omega) (by rw [c4]; rfl) (by decide) ?_
    refine b_aload_n dX5_ringOf_149 rfl ?_
    refine b_getZ dX5_ringOf_150 fk_X5_33 ly_372 ?_
    obtain ⟨g4, h⟩ := h
    refine b_if_ne 175 dX5_ringOf_153 g4 (by decide) (fun c5 => ?_) (fun c5 => ?_)
    · have h := ifF c5 h
      exact pl_X5_ringOf_175 hrec hf _ _ h
    · have h := ifT (Decidable.of_not_not c5) h
      refine b_aload_n dX5_ringOf_156 rfl ?_
      refine b_getM dX5_ringOf_157 fk_X5_26 ly_372 ?_
      refine b_getR dX5_ringOf_160 fk_X5_146 (tx_ly0 g1) (tx_gg10 g1) ?_
      refine b_iload_n dX5_ringOf_163 rfl ?_
      refine b_iald dX5_ringOf_164 (tx_ly4 g1) g2 ?_
      refine b_aload_n dX5_ringOf_165 rfl ?_
      refine b_getR dX5_ringOf_166 fk_X5_15 ly_372 gg_372_0 ?_
      refine b_getI dX5_ringOf_169 fk_X5_70 ly_3 ?_
      obtain ⟨g5, h⟩ := h
      obtain ⟨g6, h⟩ := h
      refine b_icmp_lt 192 dX5_ringOf_172 g5 g6 (by decide) (fun c6 => ?_) (fun c6 => ?_)
      · have h := ifT c6 h
        refine b_aload_n dX5_ringOf_192 rfl ?_
        refine b_getR dX5_ringOf_193 fk_X5_15 ly_372 gg_372_0 ?_
        refine b_getR dX5_ringOf_196 fk_X5_193 ly_3 gg_3_6 ?_
        refine b_aload_n dX5_ringOf_199 rfl ?_
        refine b_getM dX5_ringOf_200 fk_X5_26 ly_372 ?_
        refine b_getR dX5_ringOf_203 fk_X5_146 (tx_ly0 g1) (tx_gg10 g1) ?_
        refine b_iload_n dX5_ringOf_206 rfl ?_
        refine b_iald dX5_ringOf_207 (tx_ly4 g1) g2 ?_
        obtain ⟨g7, h⟩ := h
        refine b_iald dX5_ringOf_208 ly_7 g7 ?_
        exact b_iret dX5_ringOf_209 rfl h
      · have h := ifF c6 h
        exact pl_X5_ringOf_175 hrec hf _ _ h
  have h := ifF c4 h
  by_cases c7 : (m ((m 372 1) + 1) x1) = 4
  · have h := ifT c7 h
    refine b_tswIn 210 dX5_ringOf_9 g3 (by omega) (by omega) (by rw [c7]; rfl) (by decide) ?_
    refine b_aload_n dX5_ringOf_210 rfl ?_
    refine b_iload_n dX5_ringOf_211 rfl ?_
    refine b_cVi (as := [vI x1]) (st := []) dX5_ringOf_212 mf_X5_named qs44 lk_X5_196 ly_372 rfl (p_X5_named (f := 3) (Nat.le_refl _) _ _ h) (by omega) rfl rfl (Nat.le_of_ble_eq_true rfl) (by decide) rfl (fun _ => rfl) (fun r4 m4 h => ?_) (fun _ h => h)
    exact b_iret dX5_ringOf_215 rfl h
  have h := ifF c7 h
  by_cases c8 : (m ((m 372 1) + 1) x1) = 5
  · have h := ifT c8 h
    refine b_tswIn 216 dX5_ringOf_9 g3 (by omega) (by omega) (by rw [c8]; rfl) (by decide) ?_
    refine b_aload_n dX5_ringOf_216 rfl ?_
    refine b_iload_n dX5_ringOf_217 rfl ?_
    refine b_cVi (as := [vI x1]) (st := []) dX5_ringOf_218 mf_X5_call qs46 lk_X5_199 ly_372 rfl (hrec.1 _ _ _ _ h) (by omega) rfl rfl (Nat.le_of_ble_eq_true rfl) (by decide) rfl (fun _ => rfl) (fun r5 m5 h => ?_) (fun _ h => h)
    exact b_iret dX5_ringOf_221 rfl h
  have h := ifF c8 h
  by_cases c9 : (m ((m 372 1) + 1) x1) = 6
  · have h := ifT c9 h
    refine b_tswIn 222 dX5_ringOf_9 g3 (by omega) (by omega) (by rw [c9]; rfl) (by decide) ?_
    refine b_aload_n dX5_ringOf_222 rfl ?_
    refine b_iload_n dX5_ringOf_223 rfl ?_
    refine b_cVi (as := [vI x1]) (st := []) dX5_ringOf_224 mf_X5_function qs48 lk_X5_202 ly_372 rfl (hrec.2.2.1 _ _ _ _ h) (by omega) rfl rfl (Nat.le_of_ble_eq_true rfl) (by decide) rfl (fun _ => rfl) (fun r6 m6 h => ?_) (fun _ h => h)
    exact b_iret dX5_ringOf_227 rfl h
  have h := ifF c9 h
  by_cases c10 : (m ((m 372 1) + 1) x1) = 7
  · have h := ifT c10 h
    refine b_tswIn 228 dX5_ringOf_9 g3 (by omega) (by omega) (by rw [c10]; rfl) (by decide) ?_
    refine b_aload_n dX5_ringOf_228 rfl ?_
    refine b_iload_n dX5_ringOf_229 rfl ?_
    refine b_cVi (as := [vI x1]) (st := []) dX5_ringOf_230 mf_X5_matrix qs49 lk_X5_205 ly_372 rfl (hrec.2.2.2.1 _ _ _ _ h) (by omega) rfl rfl (Nat.le_of_ble_eq_true rfl) (by decide) rfl (fun _ => rfl) (fun r7 m7 h => ?_) (fun _ h => h)
    exact b_iret dX5_ringOf_233 rfl h
  have h := ifF c10 h
  by_cases c11 : (m ((m 372 1) + 1) x1) = 8
  · have h := ifT c11 h
    refine b_tswIn 234 dX5_ringOf_9 g3 (by omega) (by omega) (by rw [c11]; rfl) (by decide) ?_
    refine b_aload_n dX5_ringOf_234 rfl ?_
    refine b_iload_n dX5_ringOf_235 rfl ?_
    refine b_cVi (as := [vI x1]) (st := []) dX5_ringOf_236 mf_X5_choice qs50 lk_X5_208 ly_372 rfl (hrec.2.1 _ _ _ _ h) (by omega) rfl rfl (Nat.le_of_ble_eq_true rfl) (by decide) rfl (fun _ => rfl) (fun r8 m8 h => ?_) (fun _ h => h)
    exact b_iret dX5_ringOf_239 rfl h
  have h := ifF c11 h
  by_cases c12 : (m ((m 372 1) + 1) x1) = 11
  · have h := ifT c12 h
    refine b_tswIn 240 dX5_ringOf_9 g3 (by omega) (by omega) (by rw [c12]; rfl) (by decide) ?_
    refine b_aload_n dX5_ringOf_240 rfl ?_
    refine b_aload_n dX5_ringOf_241 rfl ?_
    refine b_getM dX5_ringOf_242 fk_X5_26 ly_372 ?_
    refine b_getR dX5_ringOf_245 fk_X5_149 (tx_ly0 g1) (tx_gg8 g1) ?_
    refine b_iload_n dX5_ringOf_248 rfl ?_
    refine b_iald dX5_ringOf_249 (tx_ly2 g1) g2 ?_
    refine b_cVi (as := [vI (m ((m 372 1) + 2) x1)]) (st := []) dX5_ringOf_250 mf_X5_part qs42 lk_X5_50 ly_372 rfl (hrec.2.2.2.2.1 _ _ _ _ h) (by omega) rfl rfl (Nat.le_of_ble_eq_true rfl) (by decide) rfl (fun _ => rfl) (fun r9 m9 h => ?_) (fun _ h => h)
    refine b_istore_n (ls' := [vR 372, vI x1, vI r9]) dX5_ringOf_253 (Nat.le_of_ble_eq_true rfl) rfl ?_
    refine b_iload_n dX5_ringOf_254 rfl ?_
    refine b_bipush dX5_ringOf_255 (by decide) ?_
    obtain ⟨g8, h⟩ := h
    refine b_icmp_eq 266 dX5_ringOf_257 g8 (by decide) (by decide) (fun c13 => ?_) (fun c13 => ?_)
    · have h := ifT c13 h
      refine b_iload_n dX5_ringOf_266 rfl ?_
      refine b_goto 284 dX5_ringOf_267 (by decide) ?_
      exact b_iret dX5_ringOf_284 rfl h
    · have h := ifF c13 h
      refine b_iload_n dX5_ringOf_260 rfl ?_
      refine b_bipush dX5_ringOf_261 (by decide) ?_
      refine b_icmp_ne 270 dX5_ringOf_263 g8 (by decide) (by decide) (fun c14 => ?_) (fun c14 => ?_)
      · have h := ifF c14 h
        refine b_aload_n dX5_ringOf_270 rfl ?_
        refine b_iconst dX5_ringOf_271 ?_
        refine b_aload_n dX5_ringOf_272 rfl ?_
        refine b_getM dX5_ringOf_273 fk_X5_26 ly_372 ?_
        obtain ⟨g9, h⟩ := h
        refine b_getR dX5_ringOf_276 fk_X5_174 (tx_ly0 g9) (tx_gg11 g9) ?_
        refine b_iload_n dX5_ringOf_279 rfl ?_
        refine b_iald dX5_ringOf_280 (tx_ly5 g9) g2 ?_
        refine b_cVi (as := [vI 4, vI (m9 ((m9 372 1) + 5) x1)]) (st := []) dX5_ringOf_281 mf_X5_fail qs37 lk_X5_114 ly_372 rfl (p_X5_fail (f := 1) (Nat.le_refl _) _ _ _ h) (by omega) rfl rfl (Nat.le_of_ble_eq_true rfl) (by decide) rfl (fun _ => rfl) (fun r10 m10 h => ?_) (fun _ h => h)
        exact b_iret dX5_ringOf_284 rfl h
      · have h := ifT (Decidable.of_not_not c14) h
        refine b_iload_n dX5_ringOf_266 rfl ?_
        refine b_goto 284 dX5_ringOf_267 (by decide) ?_
        exact b_iret dX5_ringOf_284 rfl h
  have h := ifF c12 h
  by_cases c15 : (m ((m 372 1) + 1) x1) = 22
  · have h := ifT c15 h
    refine b_tswIn 285 dX5_ringOf_9 g3 (by omega) (by omega) (by rw [c15]; rfl) (by decide) ?_
    refine b_aload_n dX5_ringOf_285 rfl ?_
    refine b_aload_n dX5_ringOf_286 rfl ?_
    refine b_getM dX5_ringOf_287 fk_X5_26 ly_372 ?_
    refine b_getR dX5_ringOf_290 fk_X5_149 (tx_ly0 g1) (tx_gg8 g1) ?_
    refine b_iload_n dX5_ringOf_293 rfl ?_
    refine b_iald dX5_ringOf_294 (tx_ly2 g1) g2 ?_
    refine b_cVi (as := [vI (m ((m 372 1) + 2) x1)]) (st := []) dX5_ringOf_295 mf_X5_part qs42 lk_X5_50 ly_372 rfl (hrec.2.2.2.2.1 _ _ _ _ h) (by omega) rfl rfl (Nat.le_of_ble_eq_true rfl) (by decide) rfl (fun _ => rfl) (fun r11 m11 h => ?_) (fun _ h => h)
    refine b_istore_n (ls' := [vR 372, vI x1, vI r11]) dX5_ringOf_298 (Nat.le_of_ble_eq_true rfl) rfl ?_
    refine b_iload_n dX5_ringOf_299 rfl ?_
    refine b_bipush dX5_ringOf_300 (by decide) ?_
    obtain ⟨g10, h⟩ := h
    refine b_icmp_ne 322 dX5_ringOf_302 g10 (by decide) (by decide) (fun c16 => ?_) (fun c16 => ?_)
    · have h := ifF c16 h
      refine b_iload_n dX5_ringOf_322 rfl ?_
      exact b_iret dX5_ringOf_323 rfl h
    · have h := ifT (Decidable.of_not_not c16) h
      refine b_aload_n dX5_ringOf_305 rfl ?_
      refine b_iconst dX5_ringOf_306 ?_
      refine b_aload_n dX5_ringOf_307 rfl ?_
      refine b_getM dX5_ringOf_308 fk_X5_26 ly_372 ?_
      obtain ⟨g11, h⟩ := h
      refine b_getR dX5_ringOf_311 fk_X5_174 (tx_ly0 g11) (tx_gg11 g11) ?_
      refine b_iload_n dX5_ringOf_314 rfl ?_
      refine b_iald dX5_ringOf_315 (tx_ly5 g11) g2 ?_
      refine b_cVi (as := [vI 4, vI (m11 ((m11 372 1) + 5) x1)]) (st := []) dX5_ringOf_316 mf_X5_fail qs37 lk_X5_114 ly_372 rfl (p_X5_fail (f := 1) (Nat.le_refl _) _ _ _ h) (by omega) rfl rfl (Nat.le_of_ble_eq_true rfl) (by decide) rfl (fun _ => rfl) (fun r12 m12 h => ?_) (fun _ h => h)
      refine b_goto 323 dX5_ringOf_319 (by decide) ?_
      exact b_iret dX5_ringOf_323 rfl h
  have h := ifF c15 h
  by_cases c17 : (m ((m 372 1) + 1) x1) = 23
  · have h := ifT c17 h
    refine b_tswIn 324 dX5_ringOf_9 g3 (by omega) (by omega) (by rw [c17]; rfl) (by decide) ?_
    refine b_aload_n dX5_ringOf_324 rfl ?_
    refine b_aload_n dX5_ringOf_325 rfl ?_
    refine b_getM dX5_ringOf_326 fk_X5_26 ly_372 ?_
    refine b_getR dX5_ringOf_329 fk_X5_149 (tx_ly0 g1) (tx_gg8 g1) ?_
    refine b_iload_n dX5_ringOf_332 rfl ?_
    refine b_iald dX5_ringOf_333 (tx_ly2 g1) g2 ?_
    refine b_cVi (as := [vI (m ((m 372 1) + 2) x1)]) (st := []) dX5_ringOf_334 mf_X5_part qs42 lk_X5_50 ly_372 rfl (hrec.2.2.2.2.1 _ _ _ _ h) (by omega) rfl rfl (Nat.le_of_ble_eq_true rfl) (by decide) rfl (fun _ => rfl) (fun r13 m13 h => ?_) (fun _ h => h)
    refine b_istore_n (ls' := [vR 372, vI x1, vI r13]) dX5_ringOf_337 (Nat.le_of_ble_eq_true rfl) rfl ?_
    refine b_iload_n dX5_ringOf_338 rfl ?_
    refine b_bipush dX5_ringOf_339 (by decide) ?_
    obtain ⟨g12, h⟩ := h
    refine b_icmp_eq 364 dX5_ringOf_341 g12 (by decide) (by decide) (fun c18 => ?_) (fun c18 => ?_)
    · have h := ifT c18 h
      refine b_iload_n dX5_ringOf_364 rfl ?_
      refine b_goto 382 dX5_ringOf_365 (by decide) ?_
      exact b_iret dX5_ringOf_382 rfl h
    · have h := ifF c18 h
      refine b_iload_n dX5_ringOf_344 rfl ?_
      refine b_bipush dX5_ringOf_345 (by decide) ?_
      refine b_icmp_eq 368 dX5_ringOf_347 g12 (by decide) (by decide) (fun c19 => ?_) (fun c19 => ?_)
      · have h := ifT c19 h
        refine b_fgt [true, true, false] (ls' := [vR 372, vI x1, vU]) rfl rfl ?_
        exact pl_X5_ringOf_368 hrec hf _ _ h
      · have h := ifF c19 h
        refine b_aload_n dX5_ringOf_350 rfl ?_
        refine b_getM dX5_ringOf_351 fk_X5_26 ly_372 ?_
        obtain ⟨g13, h⟩ := h
        refine b_getR dX5_ringOf_354 fk_X5_146 (tx_ly0 g13) (tx_gg10 g13) ?_
        refine b_iload_n dX5_ringOf_357 rfl ?_
        refine b_iald dX5_ringOf_358 (tx_ly4 g13) g2 ?_
        refine b_bipush dX5_ringOf_359 (by decide) ?_
        obtain ⟨g14, h⟩ := h
        refine b_icmp_gt 368 dX5_ringOf_361 g14 (by decide) (by decide) (fun c20 => ?_) (fun c20 => ?_)
        · have h := ifT c20 h
          refine b_fgt [true, true, false] (ls' := [vR 372, vI x1, vU]) rfl rfl ?_
          exact pl_X5_ringOf_368 hrec hf _ _ h
        · have h := ifF c20 h
          refine b_iload_n dX5_ringOf_364 rfl ?_
          refine b_goto 382 dX5_ringOf_365 (by decide) ?_
          exact b_iret dX5_ringOf_382 rfl h
  have h := ifF c17 h
  by_cases c21 : (m ((m 372 1) + 1) x1) = 24
  · have h := ifT c21 h
    refine b_tswIn 383 dX5_ringOf_9 g3 (by omega) (by omega) (by rw [c21]; rfl) (by decide) ?_
    exact pl_X5_ringOf_383 hrec hf _ _ h
  have h := ifF c21 h
  by_cases c22 : (m ((m 372 1) + 1) x1) = 25
  · have h := ifT c22 h
    refine b_tswIn 383 dX5_ringOf_9 g3 (by omega) (by omega) (by rw [c22]; rfl) (by decide) ?_
    exact pl_X5_ringOf_383 hrec hf _ _ h
  have h := ifF c22 h
  by_cases c23 : (m ((m 372 1) + 1) x1) = 9
  · refine b_tswIn 389 dX5_ringOf_9 g3 (by omega) (by omega) (by rw [c23]; rfl) (by decide) ?_
    exact pl_X5_ringOf_389 hrec hf _ _ h
  by_cases c24 : (m ((m 372 1) + 1) x1) = 10
  · refine b_tswIn 389 dX5_ringOf_9 g3 (by omega) (by omega) (by rw [c24]; rfl) (by decide) ?_
    exact pl_X5_ringOf_389 hrec hf _ _ h
  by_cases c25 : (m ((m 372 1) + 1) x1) = 12
  · refine b_tswIn 389 dX5_ringOf_9 g3 (by omega) (by omega) (by rw [c25]; rfl) (by decide) ?_
    exact pl_X5_ringOf_389 hrec hf _ _ h
  by_cases c26 : (m ((m 372 1) + 1) x1) = 13
  · refine b_tswIn 389 dX5_ringOf_9 g3 (by omega) (by omega) (by rw [c26]; rfl) (by decide) ?_
    exact pl_X5_ringOf_389 hrec hf _ _ h
  by_cases c27 : (m ((m 372 1) + 1) x1) = 14
  · refine b_tswIn 389 dX5_ringOf_9 g3 (by omega) (by omega) (by rw [c27]; rfl) (by decide) ?_
    exact pl_X5_ringOf_389 hrec hf _ _ h
  by_cases c28 : (m ((m 372 1) + 1) x1) = 15
  · refine b_tswIn 389 dX5_ringOf_9 g3 (by omega) (by omega) (by rw [c28]; rfl) (by decide) ?_
    exact pl_X5_ringOf_389 hrec hf _ _ h
  by_cases c29 : (m ((m 372 1) + 1) x1) = 16
  · refine b_tswIn 389 dX5_ringOf_9 g3 (by omega) (by omega) (by rw [c29]; rfl) (by decide) ?_
    exact pl_X5_ringOf_389 hrec hf _ _ h
  by_cases c30 : (m ((m 372 1) + 1) x1) = 17
  · refine b_tswIn 389 dX5_ringOf_9 g3 (by omega) (by omega) (by rw [c30]; rfl) (by decide) ?_
    exact pl_X5_ringOf_389 hrec hf _ _ h
  by_cases c31 : (m ((m 372 1) + 1) x1) = 18
  · refine b_tswIn 389 dX5_ringOf_9 g3 (by omega) (by omega) (by rw [c31]; rfl) (by decide) ?_
    exact pl_X5_ringOf_389 hrec hf _ _ h
  by_cases c32 : (m ((m 372 1) + 1) x1) = 19
  · refine b_tswIn 389 dX5_ringOf_9 g3 (by omega) (by omega) (by rw [c32]; rfl) (by decide) ?_
    exact pl_X5_ringOf_389 hrec hf _ _ h
  by_cases c33 : (m ((m 372 1) + 1) x1) = 20
  · refine b_tswIn 389 dX5_ringOf_9 g3 (by omega) (by omega) (by rw [c33]; rfl) (by decide) ?_
    exact pl_X5_ringOf_389 hrec hf _ _ h
  by_cases c34 : (m ((m 372 1) + 1) x1) = 21
  · refine b_tswIn 389 dX5_ringOf_9 g3 (by omega) (by omega) (by rw [c34]; rfl) (by decide) ?_
    exact pl_X5_ringOf_389 hrec hf _ _ h
  refine b_tswOut 389 dX5_ringOf_9 g3 (by omega) (by decide) ?_
  exact pl_X5_ringOf_389 hrec hf _ _ h
theorem pl_X5_turned_86 {f : Nat} {Q : Int → MM → Prop} {T : MM → Prop} {rec : Nat → List Int → MM → (Int → MM → Prop) → (MM → Prop) → Prop} {fr : Nat} (hrec : HR_X5_part rec fr) (hf : 43 ≤ f ∧ fr + 1 ≤ f) : ∀ (x1 : Int) (x3 : Int) (s0 : Int) (m : MM), P_X5_turned_86 rec Q T x1 x3 s0 m → B f M_X5_turned 86 [vR 372, vI x1, vU, vI x3, vU] [vI s0] m Q T := by
  intro x1 x3 s0 m h
  have h : (RI s0) ∧ (if s0 = 0 then (isTx (m 372 1)) ∧ (0 ≤ x1 ∧ x1 < 160) ∧ P_X5_fail 4 (m ((m 372 1) + 5) x1) m (fun r1 m1 => Q r1 m1) else Q x3 m) := h
  refine b_istore (ls' := [vR 372, vI x1, vU, vI x3, vI s0]) dX5_turned_86 (Nat.le_of_ble_eq_true rfl) rfl ?_
  refine b_iload dX5_turned_88 rfl ?_
  obtain ⟨g1, h⟩ := h
  refine b_if_eq 97 dX5_turned_90 g1 (by decide) (fun c1 => ?_) (fun c1 => ?_)
  · have h := ifT c1 h
    refine b_aload_n dX5_turned_97 rfl ?_
    refine b_iconst dX5_turned_98 ?_
    refine b_aload_n dX5_turned_99 rfl ?_
    refine b_getM dX5_turned_100 fk_X5_26 ly_372 ?_
    obtain ⟨g2, h⟩ := h
    refine b_getR dX5_turned_103 fk_X5_174 (tx_ly0 g2) (tx_gg11 g2) ?_
    refine b_iload_n dX5_turned_106 rfl ?_
    obtain ⟨g3, h⟩ := h
    refine b_iald dX5_turned_107 (tx_ly5 g2) g3 ?_
    refine b_cVi (as := [vI 4, vI (m ((m 372 1) + 5) x1)]) (st := []) dX5_turned_108 mf_X5_fail qs37 lk_X5_114 ly_372 rfl (p_X5_fail (f := 1) (Nat.le_refl _) _ _ _ h) (by omega) rfl rfl (Nat.le_of_ble_eq_true rfl) (by decide) rfl (fun _ => rfl) (fun r1 m1 h => ?_) (fun _ h => h)
    exact b_iret dX5_turned_111 rfl h
  · have h := ifF c1 h
    refine b_iload_n dX5_turned_93 rfl ?_
    refine b_goto 111 dX5_turned_94 (by decide) ?_
    exact b_iret dX5_turned_111 rfl h
theorem w_X5_turned {f : Nat} {Q : Int → MM → Prop} {T : MM → Prop} {rec : Nat → List Int → MM → (Int → MM → Prop) → (MM → Prop) → Prop} {fr : Nat} (hrec : HR_X5_part rec fr) (hf : 43 ≤ f ∧ fr + 1 ≤ f) (x1 : Int) (m : MM) (h : W_X5_turned rec x1 m Q T) : CC f M_X5_turned [vR 372, vI x1] m Q T := by
  refine CC.of (plainFor_of_name (by decide)) (Nat.le_of_ble_eq_true rfl) (ls := [vR 372, vI x1, vU, vU, vU]) rfl ?_
  have h : (isTx (m 372 1)) ∧ (0 ≤ x1 ∧ x1 < 160) ∧ rec 4 [(m ((m 372 1) + 2) x1)] m (fun r1 m1 => (isTx (m1 372 1)) ∧ P_X2_second (m1 372 1) x1 m1 (fun r2 m2 => R_X5_type 40 1 [r2] m2 (fun r3 m3 => (isTx (m3 372 1)) ∧ P_X2_second (m3 372 1) x1 m3 (fun r4 m4 => (0 ≤ r4 ∧ r4 < 160) ∧ ∀ m5 : MM, m5 = up m4 ((m3 372 1) + 6) r4 r3 → (RI r1) ∧ (if r1 = (-3) then Q (-3) m5 else (RI r3) ∧ (if r3 = (-3) then Q (-3) m5 else (isTx (m5 372 1)) ∧ (RI (m5 ((m5 372 1) + 1) x1)) ∧ (if (m5 ((m5 372 1) + 1) x1) = 24 then P_X11_goes r1 r3 m5 (fun r6 m7 => P_X5_turned_86 rec Q T x1 r3 r6 m7) else P_X11_goes r3 r1 m5 (fun r5 m6 => P_X5_turned_86 rec Q T x1 r3 r5 m6)))))) T)) T := h
  refine b_aload_n dX5_turned_0 rfl ?_
  refine b_aload_n dX5_turned_1 rfl ?_
  refine b_getM dX5_turned_2 fk_X5_26 ly_372 ?_
  obtain ⟨g1, h⟩ := h
  refine b_getR dX5_turned_5 fk_X5_149 (tx_ly0 g1) (tx_gg8 g1) ?_
  refine b_iload_n dX5_turned_8 rfl ?_
  obtain ⟨g2, h⟩ := h
  refine b_iald dX5_turned_9 (tx_ly2 g1) g2 ?_
  refine b_cVi (as := [vI (m ((m 372 1) + 2) x1)]) (st := []) dX5_turned_10 mf_X5_part qs42 lk_X5_50 ly_372 rfl (hrec.2.2.2.2.1 _ _ _ _ h) (by omega) rfl rfl (Nat.le_of_ble_eq_true rfl) (by decide) rfl (fun _ => rfl) (fun r1 m1 h => ?_) (fun _ h => h)
  refine b_istore_n (ls' := [vR 372, vI x1, vI r1, vU, vU]) dX5_turned_13 (Nat.le_of_ble_eq_true rfl) rfl ?_
  refine b_aload_n dX5_turned_14 rfl ?_
  refine b_aload_n dX5_turned_15 rfl ?_
  refine b_getM dX5_turned_16 fk_X5_26 ly_372 ?_
  refine b_iload_n dX5_turned_19 rfl ?_
  obtain ⟨g3, h⟩ := h
  refine b_cVi (as := [vI x1]) (st := [vR 372]) dX5_turned_20 mf_X2_second q1172 lk_X5_249 (tx_ly0 g3) rfl (p_X2_second (f := 1) (Nat.le_refl _) _ _ _ h) (by omega) rfl rfl (Nat.le_of_ble_eq_true rfl) (by decide) rfl (fun _ => rfl) (fun r2 m2 h => ?_) (fun _ h => h)
  refine b_cVi (as := [vI r2]) (st := []) dX5_turned_23 mf_X5_type q1053 lk_X5_134 ly_372 rfl ((pr_X5_type 40 42 (Nat.le_refl _)).2.1 _ _ _ _ h) (by omega) rfl rfl (Nat.le_of_ble_eq_true rfl) (by decide) rfl (fun _ => rfl) (fun r3 m3 h => ?_) (fun _ h => h)
  refine b_istore_n (ls' := [vR 372, vI x1, vI r1, vI r3, vU]) dX5_turned_26 (Nat.le_of_ble_eq_true rfl) rfl ?_
  refine b_aload_n dX5_turned_27 rfl ?_
  refine b_getM dX5_turned_28 fk_X5_26 ly_372 ?_
  obtain ⟨g4, h⟩ := h
  refine b_getR dX5_turned_31 fk_X5_191 (tx_ly0 g4) (tx_gg12 g4) ?_
  refine b_aload_n dX5_turned_34 rfl ?_
  refine b_getM dX5_turned_35 fk_X5_26 ly_372 ?_
  refine b_iload_n dX5_turned_38 rfl ?_
  refine b_cVi (as := [vI x1]) (st := [vR ((m3 372 1) + 6)]) dX5_turned_39 mf_X2_second q1172 lk_X5_249 (tx_ly0 g4) rfl (p_X2_second (f := 1) (Nat.le_refl _) _ _ _ h) (by omega) rfl rfl (Nat.le_of_ble_eq_true rfl) (by decide) rfl (fun _ => rfl) (fun r4 m4 h => ?_) (fun _ h => h)
  refine b_iload_n dX5_turned_42 rfl ?_
  obtain ⟨g5, h⟩ := h
  refine b_iast dX5_turned_43 (tx_ly6 g4) g5 (fun m5 em5 => ?_)
  have h := h m5 em5
  refine b_iload_n dX5_turned_44 rfl ?_
  refine b_bipush dX5_turned_45 (by decide) ?_
  obtain ⟨g6, h⟩ := h
  refine b_icmp_eq 56 dX5_turned_47 g6 (by decide) (by decide) (fun c1 => ?_) (fun c1 => ?_)
  · have h := ifT c1 h
    refine b_bipush dX5_turned_56 (by decide) ?_
    exact b_iret dX5_turned_58 rfl h
  · have h := ifF c1 h
    refine b_iload_n dX5_turned_50 rfl ?_
    refine b_bipush dX5_turned_51 (by decide) ?_
    obtain ⟨g7, h⟩ := h
    refine b_icmp_ne 59 dX5_turned_53 g7 (by decide) (by decide) (fun c2 => ?_) (fun c2 => ?_)
    · have h := ifF c2 h
      refine b_aload_n dX5_turned_59 rfl ?_
      refine b_getM dX5_turned_60 fk_X5_26 ly_372 ?_
      obtain ⟨g8, h⟩ := h
      refine b_getR dX5_turned_63 fk_X5_143 (tx_ly0 g8) (tx_gg7 g8) ?_
      refine b_iload_n dX5_turned_66 rfl ?_
      refine b_iald dX5_turned_67 (tx_ly1 g8) g2 ?_
      refine b_bipush dX5_turned_68 (by decide) ?_
      obtain ⟨g9, h⟩ := h
      refine b_icmp_ne 81 dX5_turned_70 g9 (by decide) (by decide) (fun c3 => ?_) (fun c3 => ?_)
      · have h := ifF c3 h
        refine b_iload_n dX5_turned_81 rfl ?_
        refine b_iload_n dX5_turned_82 rfl ?_
        refine b_cSi (as := [vI r3, vI r1]) (st := []) dX5_turned_83 mf_X11_goes lk_X5_168 (p_X11_goes (f := 3) (Nat.le_refl _) _ _ _ h) (by omega) rfl rfl (Nat.le_of_ble_eq_true rfl) (by decide) rfl (fun _ => rfl) (fun r5 m6 h => ?_) (fun _ h => h)
        refine b_fgt [true, true, false, true, false] (ls' := [vR 372, vI x1, vU, vI r3, vU]) rfl rfl ?_
        exact pl_X5_turned_86 hrec hf _ _ _ _ h
      · have h := ifT (Decidable.of_not_not c3) h
        refine b_iload_n dX5_turned_73 rfl ?_
        refine b_iload_n dX5_turned_74 rfl ?_
        refine b_cSi (as := [vI r1, vI r3]) (st := []) dX5_turned_75 mf_X11_goes lk_X5_168 (p_X11_goes (f := 3) (Nat.le_refl _) _ _ _ h) (by omega) rfl rfl (Nat.le_of_ble_eq_true rfl) (by decide) rfl (fun _ => rfl) (fun r6 m7 h => ?_) (fun _ h => h)
        refine b_goto 86 dX5_turned_78 (by decide) ?_
        refine b_fgt [true, true, false, true, false] (ls' := [vR 372, vI x1, vU, vI r3, vU]) rfl rfl ?_
        exact pl_X5_turned_86 hrec hf _ _ _ _ h
    · have h := ifT (Decidable.of_not_not c2) h
      refine b_bipush dX5_turned_56 (by decide) ?_
      exact b_iret dX5_turned_58 rfl h
theorem pl_X5_two_289 {f : Nat} {Q : Int → MM → Prop} {T : MM → Prop} {rec : Nat → List Int → MM → (Int → MM → Prop) → (MM → Prop) → Prop} {fr : Nat} (hrec : HR_X5_part rec fr) (hf : 43 ≤ f ∧ fr + 1 ≤ f) : ∀ (x1 : Int) (x6 : Int) (x7 : Int) (m : MM), P_X5_two_289 rec Q T x1 x6 x7 m → B f M_X5_two 289 [vR 372, vI x1, vU, vU, vU, vU, vI x6, vI x7] [] m Q T := by
  intro x1 x6 x7 m h
  have h : (RI x6) ∧ (if x6 = 0 then (isTx (m 372 1)) ∧ (0 ≤ x1 ∧ x1 < 160) ∧ P_X5_fail 4 (m ((m 372 1) + 5) x1) m (fun r1 m1 => Q r1 m1) else Q x7 m) := h
  refine b_iload dX5_two_289 rfl ?_
  obtain ⟨g1, h⟩ := h
  refine b_if_eq 299 dX5_two_291 g1 (by decide) (fun c1 => ?_) (fun c1 => ?_)
  · have h := ifT c1 h
    refine b_aload_n dX5_two_299 rfl ?_
    refine b_iconst dX5_two_300 ?_
    refine b_aload_n dX5_two_301 rfl ?_
    refine b_getM dX5_two_302 fk_X5_26 ly_372 ?_
    obtain ⟨g2, h⟩ := h
    refine b_getR dX5_two_305 fk_X5_174 (tx_ly0 g2) (tx_gg11 g2) ?_
    refine b_iload_n dX5_two_308 rfl ?_
    obtain ⟨g3, h⟩ := h
    refine b_iald dX5_two_309 (tx_ly5 g2) g3 ?_
    refine b_cVi (as := [vI 4, vI (m ((m 372 1) + 5) x1)]) (st := []) dX5_two_310 mf_X5_fail qs37 lk_X5_114 ly_372 rfl (p_X5_fail (f := 1) (Nat.le_refl _) _ _ _ h) (by omega) rfl rfl (Nat.le_of_ble_eq_true rfl) (by decide) rfl (fun _ => rfl) (fun r1 m1 h => ?_) (fun _ h => h)
    exact b_iret dX5_two_313 rfl h
  · have h := ifF c1 h
    refine b_iload dX5_two_294 rfl ?_
    refine b_goto 313 dX5_two_296 (by decide) ?_
    exact b_iret dX5_two_313 rfl h
theorem pl_X5_two_95 {f : Nat} {Q : Int → MM → Prop} {T : MM → Prop} {rec : Nat → List Int → MM → (Int → MM → Prop) → (MM → Prop) → Prop} {fr : Nat} (hrec : HR_X5_part rec fr) (hf : 43 ≤ f ∧ fr + 1 ≤ f) : ∀ (x1 : Int) (x2 : Int) (x3 : Int) (x7 : Int) (m : MM), P_X5_two_95 rec Q T x1 x2 x3 x7 m → B f M_X5_two 95 [vR 372, vI x1, vI x2, vI x3, vU, vU, vU, vI x7] [] m Q T := by
  intro x1 x2 x3 x7 m h
  have h : ((RI x2) ∧ (if x2 = (-2) then ((RI x3)) else True)) ∧ P_X5_two_289 rec Q T x1 (if x2 = (-2) then (if x3 = (-2) then 1 else 0 : Int) else 0 : Int) x7 m := h
  refine b_iload_n dX5_two_95 rfl ?_
  refine b_bipush dX5_two_96 (by decide) ?_
  obtain ⟨hs, h⟩ := h
  have K : B f M_X5_two 112 [vR 372, vI x1, vI x2, vI x3, vU, vU, vU, vI x7] [vI (if x2 = (-2) then (if x3 = (-2) then 1 else 0 : Int) else 0 : Int)] m Q T := by
    clear hs
    refine b_istore (ls' := [vR 372, vI x1, vI x2, vI x3, vU, vU, vI (if x2 = (-2) then (if x3 = (-2) then 1 else 0 : Int) else 0 : Int), vI x7]) dX5_two_112 (Nat.le_of_ble_eq_true rfl) rfl ?_
    refine b_goto 289 dX5_two_114 (by decide) ?_
    refine b_fgt [true, true, false, false, false, false, true, true] (ls' := [vR 372, vI x1, vU, vU, vU, vU, vI (if x2 = (-2) then (if x3 = (-2) then 1 else 0 : Int) else 0 : Int), vI x7]) rfl rfl ?_
    exact pl_X5_two_289 hrec hf _ _ _ _ h
  obtain ⟨g1, hs⟩ := hs
  refine b_icmp_ne 111 dX5_two_98 g1 (by decide) (by decide) (fun c1 => ?_) (fun c1 => ?_)
  ·
    refine b_iconst dX5_two_111 ?_
    rw [if_neg c1] at K
    exact K
  ·
    have c1 := Decidable.of_not_not c1
    have hs := ifT c1 hs
    have g2 := hs
    refine b_iload_n dX5_two_101 rfl ?_
    refine b_bipush dX5_two_102 (by decide) ?_
    refine b_icmp_ne 111 dX5_two_104 g2 (by decide) (by decide) (fun c2 => ?_) (fun c2 => ?_)
    ·
      refine b_iconst dX5_two_111 ?_
      rw [if_pos c1, if_neg c2] at K
      exact K
    ·
      have c2 := Decidable.of_not_not c2
      refine b_iconst dX5_two_107 ?_
      refine b_goto 112 dX5_two_108 (by decide) ?_
      rw [if_pos c1, if_pos c2] at K
      exact K
theorem pl_X5_two_131 {f : Nat} {Q : Int → MM → Prop} {T : MM → Prop} {rec : Nat → List Int → MM → (Int → MM → Prop) → (MM → Prop) → Prop} {fr : Nat} (hrec : HR_X5_part rec fr) (hf : 43 ≤ f ∧ fr + 1 ≤ f) : ∀ (x1 : Int) (x6 : Int) (m : MM), P_X5_two_131 rec Q T x1 x6 m → B f M_X5_two 131 [vR 372, vI x1, vU, vU, vU, vU, vI x6, vU] [] m Q T := by
  intro x1 x6 m h
  have h : P_X5_two_289 rec Q T x1 x6 (-2) m := h
  refine b_bipush dX5_two_131 (by decide) ?_
  refine b_istore (ls' := [vR 372, vI x1, vU, vU, vU, vU, vI x6, vI (-2)]) dX5_two_133 (Nat.le_of_ble_eq_true rfl) rfl ?_
  refine b_goto 289 dX5_two_135 (by decide) ?_
  exact pl_X5_two_289 hrec hf _ _ _ _ h
theorem pl_X5_two_174 {f : Nat} {Q : Int → MM → Prop} {T : MM → Prop} {rec : Nat → List Int → MM → (Int → MM → Prop) → (MM → Prop) → Prop} {fr : Nat} (hrec : HR_X5_part rec fr) (hf : 43 ≤ f ∧ fr + 1 ≤ f) : ∀ (x1 : Int) (m : MM), P_X5_two_174 rec Q T x1 m → B f M_X5_two 174 [vR 372, vI x1, vU, vU, vU, vU, vU, vU] [] m Q T := by
  intro x1 m h
  have h : P_X5_two_289 rec Q T x1 1 (-2) m := h
  refine b_iconst dX5_two_174 ?_
  refine b_goto 179 dX5_two_175 (by decide) ?_
  refine b_istore (ls' := [vR 372, vI x1, vU, vU, vU, vU, vI 1, vU]) dX5_two_179 (Nat.le_of_ble_eq_true rfl) rfl ?_
  refine b_bipush dX5_two_181 (by decide) ?_
  refine b_istore (ls' := [vR 372, vI x1, vU, vU, vU, vU, vI 1, vI (-2)]) dX5_two_183 (Nat.le_of_ble_eq_true rfl) rfl ?_
  refine b_goto 289 dX5_two_185 (by decide) ?_
  exact pl_X5_two_289 hrec hf _ _ _ _ h
theorem pl_X5_two_152 {f : Nat} {Q : Int → MM → Prop} {T : MM → Prop} {rec : Nat → List Int → MM → (Int → MM → Prop) → (MM → Prop) → Prop} {fr : Nat} (hrec : HR_X5_part rec fr) (hf : 43 ≤ f ∧ fr + 1 ≤ f) : ∀ (x1 : Int) (x4 : Int) (m : MM), P_X5_two_152 rec Q T x1 x4 m → B f M_X5_two 152 [vR 372, vI x1, vU, vU, vI x4, vU, vU, vU] [] m Q T := by
  intro x1 x4 m h
  have h : P_X11_of 0 0 0 m (fun r1 m1 => (RI x4) ∧ (RI r1) ∧ (if x4 = r1 then P_X5_two_174 rec Q T x1 m1 else P_X11_of 1 0 0 m1 (fun r2 m2 => ((RI r2)) ∧ P_X5_two_289 rec Q T x1 (if x4 = r2 then 1 else 0 : Int) (-2) m2))) := h
  refine b_iload dX5_two_152 rfl ?_
  refine b_iconst dX5_two_154 ?_
  refine b_iconst dX5_two_155 ?_
  refine b_iconst dX5_two_156 ?_
  refine b_cSi (as := [vI 0, vI 0, vI 0]) (st := [vI x4]) dX5_two_157 mf_X11_of lk_X5_89 (p_X11_of (f := 1) (Nat.le_refl _) _ _ _ _ h) (by omega) rfl rfl (Nat.le_of_ble_eq_true rfl) (by decide) rfl (fun _ => rfl) (fun r1 m1 h => ?_) (fun _ h => h)
  obtain ⟨g1, h⟩ := h
  obtain ⟨g2, h⟩ := h
  refine b_icmp_eq 174 dX5_two_160 g1 g2 (by decide) (fun c1 => ?_) (fun c1 => ?_)
  · have h := ifT c1 h
    refine b_fgt [true, true, false, false, false, false, false, false] (ls' := [vR 372, vI x1, vU, vU, vU, vU, vU, vU]) rfl rfl ?_
    exact pl_X5_two_174 hrec hf _ _ h
  · have h := ifF c1 h
    refine b_iload dX5_two_163 rfl ?_
    refine b_iconst dX5_two_165 ?_
    refine b_iconst dX5_two_166 ?_
    refine b_iconst dX5_two_167 ?_
    refine b_cSi (as := [vI 1, vI 0, vI 0]) (st := [vI x4]) dX5_two_168 mf_X11_of lk_X5_89 (p_X11_of (f := 1) (Nat.le_refl _) _ _ _ _ h) (by omega) rfl rfl (Nat.le_of_ble_eq_true rfl) (by decide) rfl (fun _ => rfl) (fun r2 m2 h => ?_) (fun _ h => h)
    obtain ⟨hs, h⟩ := h
    have K : B f M_X5_two 179 [vR 372, vI x1, vU, vU, vI x4, vU, vU, vU] [vI (if x4 = r2 then 1 else 0 : Int)] m2 Q T := by
      clear hs
      refine b_istore (ls' := [vR 372, vI x1, vU, vU, vI x4, vU, vI (if x4 = r2 then 1 else 0 : Int), vU]) dX5_two_179 (Nat.le_of_ble_eq_true rfl) rfl ?_
      refine b_bipush dX5_two_181 (by decide) ?_
      refine b_istore (ls' := [vR 372, vI x1, vU, vU, vI x4, vU, vI (if x4 = r2 then 1 else 0 : Int), vI (-2)]) dX5_two_183 (Nat.le_of_ble_eq_true rfl) rfl ?_
      refine b_goto 289 dX5_two_185 (by decide) ?_
      refine b_fgt [true, true, false, false, false, false, true, true] (ls' := [vR 372, vI x1, vU, vU, vU, vU, vI (if x4 = r2 then 1 else 0 : Int), vI (-2)]) rfl rfl ?_
      exact pl_X5_two_289 hrec hf _ _ _ _ h
    have g3 := hs
    refine b_icmp_ne 178 dX5_two_171 g1 g3 (by decide) (fun c2 => ?_) (fun c2 => ?_)
    ·
      refine b_iconst dX5_two_178 ?_
      rw [if_neg c2] at K
      exact K
    ·
      have c2 := Decidable.of_not_not c2
      refine b_iconst dX5_two_174 ?_
      refine b_goto 179 dX5_two_175 (by decide) ?_
      rw [if_pos c2] at K
      exact K
theorem pl_X5_two_248 {f : Nat} {Q : Int → MM → Prop} {T : MM → Prop} {rec : Nat → List Int → MM → (Int → MM → Prop) → (MM → Prop) → Prop} {fr : Nat} (hrec : HR_X5_part rec fr) (hf : 43 ≤ f ∧ fr + 1 ≤ f) : ∀ (x1 : Int) (x6 : Int) (s0 : Int) (m : MM), P_X5_two_248 rec Q T x1 x6 s0 m → B f M_X5_two 248 [vR 372, vI x1, vU, vU, vU, vU, vI x6, vU] [vI s0] m Q T := by
  intro x1 x6 s0 m h
  have h : P_X5_two_289 rec Q T x1 x6 s0 m := h
  refine b_istore (ls' := [vR 372, vI x1, vU, vU, vU, vU, vI x6, vI s0]) dX5_two_248 (Nat.le_of_ble_eq_true rfl) rfl ?_
  refine b_goto 289 dX5_two_250 (by decide) ?_
  exact pl_X5_two_289 hrec hf _ _ _ _ h
theorem pl_X5_two_226 {f : Nat} {Q : Int → MM → Prop} {T : MM → Prop} {rec : Nat → List Int → MM → (Int → MM → Prop) → (MM → Prop) → Prop} {fr : Nat} (hrec : HR_X5_part rec fr) (hf : 43 ≤ f ∧ fr + 1 ≤ f) : ∀ (x1 : Int) (x4 : Int) (m : MM), P_X5_two_226 rec Q T x1 x4 m → B f M_X5_two 226 [vR 372, vI x1, vU, vU, vI x4, vU, vU, vU] [] m Q T := by
  intro x1 x4 m h
  have h : (if (1 : Int) = 0 then P_X5_two_248 rec Q T x1 1 x4 m else P_X11_fraction x4 m (fun r1 m1 => P_X5_two_248 rec Q T x1 1 r1 m1)) := h
  refine b_iconst dX5_two_226 ?_
  refine b_goto 231 dX5_two_227 (by decide) ?_
  refine b_istore (ls' := [vR 372, vI x1, vU, vU, vI x4, vU, vI 1, vU]) dX5_two_231 (Nat.le_of_ble_eq_true rfl) rfl ?_
  refine b_iload dX5_two_233 rfl ?_
  refine b_if_eq 246 dX5_two_235 (by decide) (by decide) (fun c1 => ?_) (fun c1 => ?_)
  · have h := ifT c1 h
    refine b_iload dX5_two_246 rfl ?_
    refine b_fgt [true, true, false, false, false, false, true, false] (ls' := [vR 372, vI x1, vU, vU, vU, vU, vI 1, vU]) rfl rfl ?_
    exact pl_X5_two_248 hrec hf _ _ _ _ h
  · have h := ifF c1 h
    refine b_iload dX5_two_238 rfl ?_
    refine b_cSi (as := [vI x4]) (st := []) dX5_two_240 mf_X11_fraction lk_X5_264 (p_X11_fraction (f := 2) (Nat.le_refl _) _ _ h) (by omega) rfl rfl (Nat.le_of_ble_eq_true rfl) (by decide) rfl (fun _ => rfl) (fun r1 m1 h => ?_) (fun _ h => h)
    refine b_goto 248 dX5_two_243 (by decide) ?_
    refine b_fgt [true, true, false, false, false, false, true, false] (ls' := [vR 372, vI x1, vU, vU, vU, vU, vI 1, vU]) rfl rfl ?_
    exact pl_X5_two_248 hrec hf _ _ _ _ h
theorem pl_X5_two_230 {f : Nat} {Q : Int → MM → Prop} {T : MM → Prop} {rec : Nat → List Int → MM → (Int → MM → Prop) → (MM → Prop) → Prop} {fr : Nat} (hrec : HR_X5_part rec fr) (hf : 43 ≤ f ∧ fr + 1 ≤ f) : ∀ (x1 : Int) (x4 : Int) (m : MM), P_X5_two_230 rec Q T x1 x4 m → B f M_X5_two 230 [vR 372, vI x1, vU, vU, vI x4, vU, vU, vU] [] m Q T := by
  intro x1 x4 m h
  have h : (if (0 : Int) = 0 then P_X5_two_248 rec Q T x1 0 x4 m else P_X11_fraction x4 m (fun r1 m1 => P_X5_two_248 rec Q T x1 0 r1 m1)) := h
  refine b_iconst dX5_two_230 ?_
  refine b_istore (ls' := [vR 372, vI x1, vU, vU, vI x4, vU, vI 0, vU]) dX5_two_231 (Nat.le_of_ble_eq_true rfl) rfl ?_
  refine b_iload dX5_two_233 rfl ?_
  refine b_if_eq 246 dX5_two_235 (by decide) (by decide) (fun c1 => ?_) (fun c1 => ?_)
  · have h := ifT c1 h
    refine b_iload dX5_two_246 rfl ?_
    refine b_fgt [true, true, false, false, false, false, true, false] (ls' := [vR 372, vI x1, vU, vU, vU, vU, vI 0, vU]) rfl rfl ?_
    exact pl_X5_two_248 hrec hf _ _ _ _ h
  · have h := ifF c1 h
    refine b_iload dX5_two_238 rfl ?_
    refine b_cSi (as := [vI x4]) (st := []) dX5_two_240 mf_X11_fraction lk_X5_264 (p_X11_fraction (f := 2) (Nat.le_refl _) _ _ h) (by omega) rfl rfl (Nat.le_of_ble_eq_true rfl) (by decide) rfl (fun _ => rfl) (fun r1 m1 h => ?_) (fun _ h => h)
    refine b_goto 248 dX5_two_243 (by decide) ?_
    refine b_fgt [true, true, false, false, false, false, true, false] (ls' := [vR 372, vI x1, vU, vU, vU, vU, vI 0, vU]) rfl rfl ?_
    exact pl_X5_two_248 hrec hf _ _ _ _ h
theorem pl_X5_two_267 {f : Nat} {Q : Int → MM → Prop} {T : MM → Prop} {rec : Nat → List Int → MM → (Int → MM → Prop) → (MM → Prop) → Prop} {fr : Nat} (hrec : HR_X5_part rec fr) (hf : 43 ≤ f ∧ fr + 1 ≤ f) : ∀ (x1 : Int) (x4 : Int) (x7 : Int) (m : MM), P_X5_two_267 rec Q T x1 x4 x7 m → B f M_X5_two 267 [vR 372, vI x1, vU, vU, vI x4, vU, vU, vI x7] [] m Q T := by
  intro x1 x4 x7 m h
  have h : P_X11_divides x4 m (fun r1 m1 => P_X5_two_289 rec Q T x1 r1 x7 m1) := h
  refine b_iload dX5_two_267 rfl ?_
  refine b_cSi (as := [vI x4]) (st := []) dX5_two_269 mf_X11_divides lk_X5_267 (p_X11_divides (f := 3) (Nat.le_refl _) _ _ h) (by omega) rfl rfl (Nat.le_of_ble_eq_true rfl) (by decide) rfl (fun _ => rfl) (fun r1 m1 h => ?_) (fun _ h => h)
  refine b_istore (ls' := [vR 372, vI x1, vU, vU, vI x4, vU, vI r1, vI x7]) dX5_two_272 (Nat.le_of_ble_eq_true rfl) rfl ?_
  refine b_goto 289 dX5_two_274 (by decide) ?_
  refine b_fgt [true, true, false, false, false, false, true, true] (ls' := [vR 372, vI x1, vU, vU, vU, vU, vI r1, vI x7]) rfl rfl ?_
  exact pl_X5_two_289 hrec hf _ _ _ _ h
theorem w_X5_two {f : Nat} {Q : Int → MM → Prop} {T : MM → Prop} {rec : Nat → List Int → MM → (Int → MM → Prop) → (MM → Prop) → Prop} {fr : Nat} (hrec : HR_X5_part rec fr) (hf : 43 ≤ f ∧ fr + 1 ≤ f) (x1 : Int) (m : MM) (h : W_X5_two rec x1 m Q T) : CC f M_X5_two [vR 372, vI x1] m Q T := by
  refine CC.of (plainFor_of_name (by decide)) (Nat.le_of_ble_eq_true rfl) (ls := [vR 372, vI x1, vU, vU, vU, vU, vU, vU]) rfl ?_
  have h : rec 5 [x1] m (fun r1 m1 => (RI r1) ∧ (if r1 = 0 then Q (-3) m1 else (isTx (m1 372 1)) ∧ (0 ≤ x1 ∧ x1 < 160) ∧ (0 ≤ (m1 ((m1 372 1) + 2) x1) ∧ (m1 ((m1 372 1) + 2) x1) < 160) ∧ P_X2_second (m1 372 1) x1 m1 (fun r2 m2 => (0 ≤ r2 ∧ r2 < 160) ∧ P_X11_join (m1 ((m1 372 1) + 6) (m1 ((m1 372 1) + 2) x1)) (m2 ((m1 372 1) + 6) r2) m2 (fun r3 m3 => (isTx (m3 372 1)) ∧ ((RI r3)) ∧ (RI (m3 ((m3 372 1) + 1) x1)) ∧ (if (m3 ((m3 372 1) + 1) x1) = 9 then P_X5_two_95 rec Q T x1 (m1 ((m1 372 1) + 6) (m1 ((m1 372 1) + 2) x1)) (m2 ((m1 372 1) + 6) r2) r3 m3 else (if (m3 ((m3 372 1) + 1) x1) = 10 then P_X5_two_95 rec Q T x1 (m1 ((m1 372 1) + 6) (m1 ((m1 372 1) + 2) x1)) (m2 ((m1 372 1) + 6) r2) r3 m3 else (if (m3 ((m3 372 1) + 1) x1) = 12 then P_X5_two_131 rec Q T x1 (if r3 = (-1) then 0 else 1 : Int) m3 else (if (m3 ((m3 372 1) + 1) x1) = 13 then P_X5_two_131 rec Q T x1 (if r3 = (-1) then 0 else 1 : Int) m3 else (if (m3 ((m3 372 1) + 1) x1) = 14 then P_X5_two_152 rec Q T x1 r3 m3 else (if (m3 ((m3 372 1) + 1) x1) = 15 then P_X5_two_152 rec Q T x1 r3 m3 else (if (m3 ((m3 372 1) + 1) x1) = 19 then (RI r3) ∧ (if r3 < 0 then P_X5_two_230 rec Q T x1 r3 m3 else (RI (iAnd (m2 ((m1 372 1) + 6) r2) 15)) ∧ (if (iAnd (m2 ((m1 372 1) + 6) r2) 15) = 0 then P_X11_base r3 m3 (fun r4 m4 => (RI r4) ∧ (if r4 = 0 then P_X5_two_226 rec Q T x1 r3 m4 else P_X11_base r3 m4 (fun r5 m5 => P_X11_isField r5 m5 (fun r6 m6 => ((RI r6)) ∧ (RI (if r6 = 0 then 0 else 1 : Int)) ∧ (if (if r6 = 0 then 0 else 1 : Int) = 0 then P_X5_two_248 rec Q T x1 (if r6 = 0 then 0 else 1 : Int) r3 m6 else P_X11_fraction r3 m6 (fun r7 m7 => P_X5_two_248 rec Q T x1 (if r6 = 0 then 0 else 1 : Int) r7 m7)))))) else P_X5_two_230 rec Q T x1 r3 m3)) else (if (m3 ((m3 372 1) + 1) x1) = 20 then P_X5_two_267 rec Q T x1 r3 r3 m3 else (if (m3 ((m3 372 1) + 1) x1) = 21 then P_X5_two_267 rec Q T x1 r3 r3 m3 else ((RI r3)) ∧ P_X5_two_289 rec Q T x1 (if r3 < 0 then 0 else 1 : Int) r3 m3))))))))))))) T := h
  refine b_aload_n dX5_two_0 rfl ?_
  refine b_iload_n dX5_two_1 rfl ?_
  refine b_cVi (as := [vI x1]) (st := []) dX5_two_2 mf_X5_parts qs47 lk_X5_233 ly_372 rfl (hrec.2.2.2.2.2.1 _ _ _ _ h) (by omega) rfl rfl (Nat.le_of_ble_eq_true rfl) (by decide) rfl (fun _ => rfl) (fun r1 m1 h => ?_) (fun _ h => h)
  obtain ⟨g1, h⟩ := h
  refine b_if_ne 11 dX5_two_5 g1 (by decide) (fun c1 => ?_) (fun c1 => ?_)
  · have h := ifF c1 h
    refine b_aload_n dX5_two_11 rfl ?_
    refine b_getM dX5_two_12 fk_X5_26 ly_372 ?_
    obtain ⟨g2, h⟩ := h
    refine b_getR dX5_two_15 fk_X5_191 (tx_ly0 g2) (tx_gg12 g2) ?_
    refine b_aload_n dX5_two_18 rfl ?_
    refine b_getM dX5_two_19 fk_X5_26 ly_372 ?_
    refine b_getR dX5_two_22 fk_X5_149 (tx_ly0 g2) (tx_gg8 g2) ?_
    refine b_iload_n dX5_two_25 rfl ?_
    obtain ⟨g3, h⟩ := h
    refine b_iald dX5_two_26 (tx_ly2 g2) g3 ?_
    obtain ⟨g4, h⟩ := h
    refine b_iald dX5_two_27 (tx_ly6 g2) g4 ?_
    refine b_istore_n (ls' := [vR 372, vI x1, vI (m1 ((m1 372 1) + 6) (m1 ((m1 372 1) + 2) x1)), vU, vU, vU, vU, vU]) dX5_two_28 (Nat.le_of_ble_eq_true rfl) rfl ?_
    refine b_aload_n dX5_two_29 rfl ?_
    refine b_getM dX5_two_30 fk_X5_26 ly_372 ?_
    refine b_getR dX5_two_33 fk_X5_191 (tx_ly0 g2) (tx_gg12 g2) ?_
    refine b_aload_n dX5_two_36 rfl ?_
    refine b_getM dX5_two_37 fk_X5_26 ly_372 ?_
    refine b_iload_n dX5_two_40 rfl ?_
    refine b_cVi (as := [vI x1]) (st := [vR ((m1 372 1) + 6)]) dX5_two_41 mf_X2_second q1172 lk_X5_249 (tx_ly0 g2) rfl (p_X2_second (f := 1) (Nat.le_refl _) _ _ _ h) (by omega) rfl rfl (Nat.le_of_ble_eq_true rfl) (by decide) rfl (fun _ => rfl) (fun r2 m2 h => ?_) (fun _ h => h)
    obtain ⟨g5, h⟩ := h
    refine b_iald dX5_two_44 (tx_ly6 g2) g5 ?_
    refine b_istore_n (ls' := [vR 372, vI x1, vI (m1 ((m1 372 1) + 6) (m1 ((m1 372 1) + 2) x1)), vI (m2 ((m1 372 1) + 6) r2), vU, vU, vU, vU]) dX5_two_45 (Nat.le_of_ble_eq_true rfl) rfl ?_
    refine b_iload_n dX5_two_46 rfl ?_
    refine b_iload_n dX5_two_47 rfl ?_
    refine b_cSi (as := [vI (m1 ((m1 372 1) + 6) (m1 ((m1 372 1) + 2) x1)), vI (m2 ((m1 372 1) + 6) r2)]) (st := []) dX5_two_48 mf_X11_join lk_X5_255 (p_X11_join (f := 2) (Nat.le_refl _) _ _ _ h) (by omega) rfl rfl (Nat.le_of_ble_eq_true rfl) (by decide) rfl (fun _ => rfl) (fun r3 m3 h => ?_) (fun _ h => h)
    refine b_istore (ls' := [vR 372, vI x1, vI (m1 ((m1 372 1) + 6) (m1 ((m1 372 1) + 2) x1)), vI (m2 ((m1 372 1) + 6) r2), vI r3, vU, vU, vU]) dX5_two_51 (Nat.le_of_ble_eq_true rfl) rfl ?_
    refine b_aload_n dX5_two_53 rfl ?_
    refine b_getM dX5_two_54 fk_X5_26 ly_372 ?_
    obtain ⟨g6, h⟩ := h
    refine b_getR dX5_two_57 fk_X5_143 (tx_ly0 g6) (tx_gg7 g6) ?_
    refine b_iload_n dX5_two_60 rfl ?_
    refine b_iald dX5_two_61 (tx_ly1 g6) g3 ?_
    refine b_istore (ls' := [vR 372, vI x1, vI (m1 ((m1 372 1) + 6) (m1 ((m1 372 1) + 2) x1)), vI (m2 ((m1 372 1) + 6) r2), vI r3, vI (m3 ((m3 372 1) + 1) x1), vU, vU]) dX5_two_62 (Nat.le_of_ble_eq_true rfl) rfl ?_
    refine b_iload dX5_two_64 rfl ?_
    refine b_iconst dX5_two_66 ?_
    obtain ⟨hs, h⟩ := h
    have K : B f M_X5_two 75 [vR 372, vI x1, vI (m1 ((m1 372 1) + 6) (m1 ((m1 372 1) + 2) x1)), vI (m2 ((m1 372 1) + 6) r2), vI r3, vI (m3 ((m3 372 1) + 1) x1), vU, vU] [vI (if r3 = (-1) then 0 else 1 : Int)] m3 Q T := by
      clear hs
      refine b_istore (ls' := [vR 372, vI x1, vI (m1 ((m1 372 1) + 6) (m1 ((m1 372 1) + 2) x1)), vI (m2 ((m1 372 1) + 6) r2), vI r3, vI (m3 ((m3 372 1) + 1) x1), vI (if r3 = (-1) then 0 else 1 : Int), vU]) dX5_two_75 (Nat.le_of_ble_eq_true rfl) rfl ?_
      refine b_iload dX5_two_77 rfl ?_
      refine b_istore (ls' := [vR 372, vI x1, vI (m1 ((m1 372 1) + 6) (m1 ((m1 372 1) + 2) x1)), vI (m2 ((m1 372 1) + 6) r2), vI r3, vI (m3 ((m3 372 1) + 1) x1), vI (if r3 = (-1) then 0 else 1 : Int), vI r3]) dX5_two_79 (Nat.le_of_ble_eq_true rfl) rfl ?_
      refine b_iload dX5_two_81 rfl ?_
      refine b_bipush dX5_two_83 (by decide) ?_
      obtain ⟨g8, h⟩ := h
      refine b_icmp_eq 95 dX5_two_85 g8 (by decide) (by decide) (fun c2 => ?_) (fun c2 => ?_)
      · have h := ifT c2 h
        refine b_fgt [true, true, true, true, false, false, false, true] (ls' := [vR 372, vI x1, vI (m1 ((m1 372 1) + 6) (m1 ((m1 372 1) + 2) x1)), vI (m2 ((m1 372 1) + 6) r2), vU, vU, vU, vI r3]) rfl rfl ?_
        exact pl_X5_two_95 hrec hf _ _ _ _ _ h
      · have h := ifF c2 h
        refine b_iload dX5_two_88 rfl ?_
        refine b_bipush dX5_two_90 (by decide) ?_
        refine b_icmp_ne 117 dX5_two_92 g8 (by decide) (by decide) (fun c3 => ?_) (fun c3 => ?_)
        · have h := ifF c3 h
          refine b_iload dX5_two_117 rfl ?_
          refine b_bipush dX5_two_119 (by decide) ?_
          refine b_icmp_eq 131 dX5_two_121 g8 (by decide) (by decide) (fun c4 => ?_) (fun c4 => ?_)
          · have h := ifT c4 h
            refine b_fgt [true, true, false, false, false, false, true, false] (ls' := [vR 372, vI x1, vU, vU, vU, vU, vI (if r3 = (-1) then 0 else 1 : Int), vU]) rfl rfl ?_
            exact pl_X5_two_131 hrec hf _ _ _ h
          · have h := ifF c4 h
            refine b_iload dX5_two_124 rfl ?_
            refine b_bipush dX5_two_126 (by decide) ?_
            refine b_icmp_ne 138 dX5_two_128 g8 (by decide) (by decide) (fun c5 => ?_) (fun c5 => ?_)
            · have h := ifF c5 h
              refine b_iload dX5_two_138 rfl ?_
              refine b_bipush dX5_two_140 (by decide) ?_
              refine b_icmp_eq 152 dX5_two_142 g8 (by decide) (by decide) (fun c6 => ?_) (fun c6 => ?_)
              · have h := ifT c6 h
                refine b_fgt [true, true, false, false, true, false, false, false] (ls' := [vR 372, vI x1, vU, vU, vI r3, vU, vU, vU]) rfl rfl ?_
                exact pl_X5_two_152 hrec hf _ _ _ h
              · have h := ifF c6 h
                refine b_iload dX5_two_145 rfl ?_
                refine b_bipush dX5_two_147 (by decide) ?_
                refine b_icmp_ne 188 dX5_two_149 g8 (by decide) (by decide) (fun c7 => ?_) (fun c7 => ?_)
                · have h := ifF c7 h
                  refine b_iload dX5_two_188 rfl ?_
                  refine b_bipush dX5_two_190 (by decide) ?_
                  refine b_icmp_ne 253 dX5_two_192 g8 (by decide) (by decide) (fun c8 => ?_) (fun c8 => ?_)
                  · have h := ifF c8 h
                    refine b_iload dX5_two_253 rfl ?_
                    refine b_bipush dX5_two_255 (by decide) ?_
                    refine b_icmp_eq 267 dX5_two_257 g8 (by decide) (by decide) (fun c9 => ?_) (fun c9 => ?_)
                    · have h := ifT c9 h
                      refine b_fgt [true, true, false, false, true, false, false, true] (ls' := [vR 372, vI x1, vU, vU, vI r3, vU, vU, vI r3]) rfl rfl ?_
                      exact pl_X5_two_267 hrec hf _ _ _ _ h
                    · have h := ifF c9 h
                      refine b_iload dX5_two_260 rfl ?_
                      refine b_bipush dX5_two_262 (by decide) ?_
                      refine b_icmp_ne 277 dX5_two_264 g8 (by decide) (by decide) (fun c10 => ?_) (fun c10 => ?_)
                      · have h := ifF c10 h
                        refine b_iload dX5_two_277 rfl ?_
                        obtain ⟨hs, h⟩ := h
                        have K : B f M_X5_two 287 [vR 372, vI x1, vI (m1 ((m1 372 1) + 6) (m1 ((m1 372 1) + 2) x1)), vI (m2 ((m1 372 1) + 6) r2), vI r3, vI (m3 ((m3 372 1) + 1) x1), vI (if r3 = (-1) then 0 else 1 : Int), vI r3] [vI (if r3 < 0 then 0 else 1 : Int)] m3 Q T := by
                          clear hs
                          refine b_istore (ls' := [vR 372, vI x1, vI (m1 ((m1 372 1) + 6) (m1 ((m1 372 1) + 2) x1)), vI (m2 ((m1 372 1) + 6) r2), vI r3, vI (m3 ((m3 372 1) + 1) x1), vI (if r3 < 0 then 0 else 1 : Int), vI r3]) dX5_two_287 (Nat.le_of_ble_eq_true rfl) rfl ?_
                          refine b_fgt [true, true, false, false, false, false, true, true] (ls' := [vR 372, vI x1, vU, vU, vU, vU, vI (if r3 < 0 then 0 else 1 : Int), vI r3]) rfl rfl ?_
                          exact pl_X5_two_289 hrec hf _ _ _ _ h
                        have g9 := hs
                        refine b_if_lt 286 dX5_two_279 g9 (by decide) (fun c11 => ?_) (fun c11 => ?_)
                        ·
                          refine b_iconst dX5_two_286 ?_
                          rw [if_pos c11] at K
                          exact K
                        ·
                          refine b_iconst dX5_two_282 ?_
                          refine b_goto 287 dX5_two_283 (by decide) ?_
                          rw [if_neg c11] at K
                          exact K
                      · have h := ifT (Decidable.of_not_not c10) h
                        refine b_fgt [true, true, false, false, true, false, false, true] (ls' := [vR 372, vI x1, vU, vU, vI r3, vU, vU, vI r3]) rfl rfl ?_
                        exact pl_X5_two_267 hrec hf _ _ _ _ h
                  · have h := ifT (Decidable.of_not_not c8) h
                    refine b_iload dX5_two_195 rfl ?_
                    obtain ⟨g10, h⟩ := h
                    refine b_if_lt 230 dX5_two_197 g10 (by decide) (fun c12 => ?_) (fun c12 => ?_)
                    · have h := ifT c12 h
                      refine b_fgt [true, true, false, false, true, false, false, false] (ls' := [vR 372, vI x1, vU, vU, vI r3, vU, vU, vU]) rfl rfl ?_
                      exact pl_X5_two_230 hrec hf _ _ _ h
                    · have h := ifF c12 h
                      refine b_iload_n dX5_two_200 rfl ?_
                      refine b_bipush dX5_two_201 (by decide) ?_
                      refine b_iand dX5_two_203 ?_
                      obtain ⟨g11, h⟩ := h
                      refine b_if_ne 230 dX5_two_204 g11 (by decide) (fun c13 => ?_) (fun c13 => ?_)
                      · have h := ifF c13 h
                        refine b_fgt [true, true, false, false, true, false, false, false] (ls' := [vR 372, vI x1, vU, vU, vI r3, vU, vU, vU]) rfl rfl ?_
                        exact pl_X5_two_230 hrec hf _ _ _ h
                      · have h := ifT (Decidable.of_not_not c13) h
                        refine b_iload dX5_two_207 rfl ?_
                        refine b_cSi (as := [vI r3]) (st := []) dX5_two_209 mf_X11_base lk_X5_258 (p_X11_base (f := 1) (Nat.le_refl _) _ _ h) (by omega) rfl rfl (Nat.le_of_ble_eq_true rfl) (by decide) rfl (fun _ => rfl) (fun r4 m4 h => ?_) (fun _ h => h)
                        obtain ⟨g12, h⟩ := h
                        refine b_if_eq 226 dX5_two_212 g12 (by decide) (fun c14 => ?_) (fun c14 => ?_)
                        · have h := ifT c14 h
                          refine b_fgt [true, true, false, false, true, false, false, false] (ls' := [vR 372, vI x1, vU, vU, vI r3, vU, vU, vU]) rfl rfl ?_
                          exact pl_X5_two_226 hrec hf _ _ _ h
                        · have h := ifF c14 h
                          refine b_iload dX5_two_215 rfl ?_
                          refine b_cSi (as := [vI r3]) (st := []) dX5_two_217 mf_X11_base lk_X5_258 (p_X11_base (f := 1) (Nat.le_refl _) _ _ h) (by omega) rfl rfl (Nat.le_of_ble_eq_true rfl) (by decide) rfl (fun _ => rfl) (fun r5 m5 h => ?_) (fun _ h => h)
                          refine b_cSi (as := [vI r5]) (st := []) dX5_two_220 mf_X11_isField lk_X5_261 (p_X11_isField (f := 2) (Nat.le_refl _) _ _ h) (by omega) rfl rfl (Nat.le_of_ble_eq_true rfl) (by decide) rfl (fun _ => rfl) (fun r6 m6 h => ?_) (fun _ h => h)
                          obtain ⟨hs, h⟩ := h
                          have K : B f M_X5_two 231 [vR 372, vI x1, vI (m1 ((m1 372 1) + 6) (m1 ((m1 372 1) + 2) x1)), vI (m2 ((m1 372 1) + 6) r2), vI r3, vI (m3 ((m3 372 1) + 1) x1), vI (if r3 = (-1) then 0 else 1 : Int), vI r3] [vI (if r6 = 0 then 0 else 1 : Int)] m6 Q T := by
                            clear hs
                            refine b_istore (ls' := [vR 372, vI x1, vI (m1 ((m1 372 1) + 6) (m1 ((m1 372 1) + 2) x1)), vI (m2 ((m1 372 1) + 6) r2), vI r3, vI (m3 ((m3 372 1) + 1) x1), vI (if r6 = 0 then 0 else 1 : Int), vI r3]) dX5_two_231 (Nat.le_of_ble_eq_true rfl) rfl ?_
                            refine b_iload dX5_two_233 rfl ?_
                            obtain ⟨g14, h⟩ := h
                            refine b_if_eq 246 dX5_two_235 g14 (by decide) (fun c15 => ?_) (fun c15 => ?_)
                            · have h := ifT c15 h
                              refine b_iload dX5_two_246 rfl ?_
                              refine b_fgt [true, true, false, false, false, false, true, false] (ls' := [vR 372, vI x1, vU, vU, vU, vU, vI (if r6 = 0 then 0 else 1 : Int), vU]) rfl rfl ?_
                              exact pl_X5_two_248 hrec hf _ _ _ _ h
                            · have h := ifF c15 h
                              refine b_iload dX5_two_238 rfl ?_
                              refine b_cSi (as := [vI r3]) (st := []) dX5_two_240 mf_X11_fraction lk_X5_264 (p_X11_fraction (f := 2) (Nat.le_refl _) _ _ h) (by omega) rfl rfl (Nat.le_of_ble_eq_true rfl) (by decide) rfl (fun _ => rfl) (fun r7 m7 h => ?_) (fun _ h => h)
                              refine b_goto 248 dX5_two_243 (by decide) ?_
                              refine b_fgt [true, true, false, false, false, false, true, false] (ls' := [vR 372, vI x1, vU, vU, vU, vU, vI (if r6 = 0 then 0 else 1 : Int), vU]) rfl rfl ?_
                              exact pl_X5_two_248 hrec hf _ _ _ _ h
                          have g13 := hs
                          refine b_if_eq 230 dX5_two_223 g13 (by decide) (fun c16 => ?_) (fun c16 => ?_)
                          ·
                            refine b_iconst dX5_two_230 ?_
                            rw [if_pos c16] at K
                            exact K
                          ·
                            refine b_iconst dX5_two_226 ?_
                            refine b_goto 231 dX5_two_227 (by decide) ?_
                            rw [if_neg c16] at K
                            exact K
                · have h := ifT (Decidable.of_not_not c7) h
                  refine b_fgt [true, true, false, false, true, false, false, false] (ls' := [vR 372, vI x1, vU, vU, vI r3, vU, vU, vU]) rfl rfl ?_
                  exact pl_X5_two_152 hrec hf _ _ _ h
            · have h := ifT (Decidable.of_not_not c5) h
              refine b_fgt [true, true, false, false, false, false, true, false] (ls' := [vR 372, vI x1, vU, vU, vU, vU, vI (if r3 = (-1) then 0 else 1 : Int), vU]) rfl rfl ?_
              exact pl_X5_two_131 hrec hf _ _ _ h
        · have h := ifT (Decidable.of_not_not c3) h
          refine b_fgt [true, true, true, true, false, false, false, true] (ls' := [vR 372, vI x1, vI (m1 ((m1 372 1) + 6) (m1 ((m1 372 1) + 2) x1)), vI (m2 ((m1 372 1) + 6) r2), vU, vU, vU, vI r3]) rfl rfl ?_
          exact pl_X5_two_95 hrec hf _ _ _ _ _ h
    have g7 := hs
    refine b_icmp_eq 74 dX5_two_67 g7 (by decide) (by decide) (fun c17 => ?_) (fun c17 => ?_)
    ·
      refine b_iconst dX5_two_74 ?_
      rw [if_pos c17] at K
      exact K
    ·
      refine b_iconst dX5_two_70 ?_
      refine b_goto 75 dX5_two_71 (by decide) ?_
      rw [if_neg c17] at K
      exact K
  · have h := ifT (Decidable.of_not_not c1) h
    refine b_bipush dX5_two_8 (by decide) ?_
    exact b_iret dX5_two_10 rfl h
def R_X5_part : Nat → Nat → List Int → MM → (Int → MM → Prop) → (MM → Prop) → Prop
  | 0, _, _, _, _, _ => False
  | d + 1, i, as, m, Q, T => match i, as with
    | 0, [x1] => W_X5_call (R_X5_part d) x1 m Q T
    | 1, [x1] => W_X5_choice (R_X5_part d) x1 m Q T
    | 2, [x1] => W_X5_function (R_X5_part d) x1 m Q T
    | 3, [x1] => W_X5_matrix (R_X5_part d) x1 m Q T
    | 4, [x1] => W_X5_part (R_X5_part d) x1 m Q T
    | 5, [x1] => W_X5_parts (R_X5_part d) x1 m Q T
    | 6, [x1] => W_X5_ringOf (R_X5_part d) x1 m Q T
    | 7, [x1] => W_X5_turned (R_X5_part d) x1 m Q T
    | 8, [x1] => W_X5_two (R_X5_part d) x1 m Q T
    | _, _ => False
theorem pr_X5_part : ∀ d f : Nat, 43 + d ≤ f → HR_X5_part (R_X5_part d) f := by
  intro d
  induction d with
  | zero => intro f hf; exact ⟨fun _ _ _ _ h => h.elim, fun _ _ _ _ h => h.elim, fun _ _ _ _ h => h.elim, fun _ _ _ _ h => h.elim, fun _ _ _ _ h => h.elim, fun _ _ _ _ h => h.elim, fun _ _ _ _ h => h.elim, fun _ _ _ _ h => h.elim, fun _ _ _ _ h => h.elim, trivial⟩
  | succ d ih =>
    intro f hf
    have hr := ih (f - 1) (by omega)
    exact ⟨fun x1 m _ _ h => w_X5_call hr (show 43 ≤ f ∧ f - 1 + 1 ≤ f by omega) x1 m h, fun x1 m _ _ h => w_X5_choice hr (show 43 ≤ f ∧ f - 1 + 1 ≤ f by omega) x1 m h, fun x1 m _ _ h => w_X5_function hr (show 43 ≤ f ∧ f - 1 + 1 ≤ f by omega) x1 m h, fun x1 m _ _ h => w_X5_matrix hr (show 43 ≤ f ∧ f - 1 + 1 ≤ f by omega) x1 m h, fun x1 m _ _ h => w_X5_part hr (show 43 ≤ f ∧ f - 1 + 1 ≤ f by omega) x1 m h, fun x1 m _ _ h => w_X5_parts hr (show 43 ≤ f ∧ f - 1 + 1 ≤ f by omega) x1 m h, fun x1 m _ _ h => w_X5_ringOf hr (show 43 ≤ f ∧ f - 1 + 1 ≤ f by omega) x1 m h, fun x1 m _ _ h => w_X5_turned hr (show 43 ≤ f ∧ f - 1 + 1 ≤ f by omega) x1 m h, fun x1 m _ _ h => w_X5_two hr (show 43 ≤ f ∧ f - 1 + 1 ≤ f by omega) x1 m h, trivial⟩
theorem dX5_judge_0 : decode cX5_judge 0 = .ok (.aload_n 0, 1) := by decide +kernel
theorem dX5_judge_1 : decode cX5_judge 1 = .ok (.aload_n 1, 1) := by decide +kernel
theorem dX5_judge_2 : decode cX5_judge 2 = .ok (.putfield 26, 3) := by decide +kernel
theorem dX5_judge_5 : decode cX5_judge 5 = .ok (.aload_n 0, 1) := by decide +kernel
theorem dX5_judge_6 : decode cX5_judge 6 = .ok (.iload_n 3, 1) := by decide +kernel
theorem dX5_judge_7 : decode cX5_judge 7 = .ok (.putfield 30, 3) := by decide +kernel
theorem dX5_judge_10 : decode cX5_judge 10 = .ok (.aload_n 0, 1) := by decide +kernel
theorem dX5_judge_11 : decode cX5_judge 11 = .ok (.iload_n 2, 1) := by decide +kernel
theorem dX5_judge_12 : decode cX5_judge 12 = .ok (.iconst (-1), 1) := by decide +kernel
theorem dX5_judge_13 : decode cX5_judge 13 = .ok (.if_icmp .eq 7, 3) := by decide +kernel
theorem dX5_judge_16 : decode cX5_judge 16 = .ok (.iconst 1, 1) := by decide +kernel
theorem dX5_judge_17 : decode cX5_judge 17 = .ok (.goto 4, 3) := by decide +kernel
theorem dX5_judge_20 : decode cX5_judge 20 = .ok (.iconst 0, 1) := by decide +kernel
theorem dX5_judge_21 : decode cX5_judge 21 = .ok (.putfield 33, 3) := by decide +kernel
theorem dX5_judge_24 : decode cX5_judge 24 = .ok (.aload_n 0, 1) := by decide +kernel
theorem dX5_judge_25 : decode cX5_judge 25 = .ok (.aload_n 0, 1) := by decide +kernel
theorem dX5_judge_26 : decode cX5_judge 26 = .ok (.getfield 33, 3) := by decide +kernel
theorem dX5_judge_29 : decode cX5_judge 29 = .ok (.ifCond .eq 9, 3) := by decide +kernel
theorem dX5_judge_32 : decode cX5_judge 32 = .ok (.iload_n 2, 1) := by decide +kernel
theorem dX5_judge_33 : decode cX5_judge 33 = .ok (.iconst 1, 1) := by decide +kernel
theorem dX5_judge_34 : decode cX5_judge 34 = .ok (.iadd, 1) := by decide +kernel
theorem dX5_judge_35 : decode cX5_judge 35 = .ok (.goto 10, 3) := by decide +kernel
theorem dX5_judge_38 : decode cX5_judge 38 = .ok (.aload_n 0, 1) := by decide +kernel
theorem dX5_judge_39 : decode cX5_judge 39 = .ok (.getfield 15, 3) := by decide +kernel
theorem dX5_judge_42 : decode cX5_judge 42 = .ok (.getfield 37, 3) := by decide +kernel
theorem dX5_judge_45 : decode cX5_judge 45 = .ok (.putfield 42, 3) := by decide +kernel
theorem dX5_judge_48 : decode cX5_judge 48 = .ok (.aload_n 0, 1) := by decide +kernel
theorem dX5_judge_49 : decode cX5_judge 49 = .ok (.aload_n 0, 1) := by decide +kernel
theorem dX5_judge_50 : decode cX5_judge 50 = .ok (.getfield 26, 3) := by decide +kernel
theorem dX5_judge_53 : decode cX5_judge 53 = .ok (.getfield 45, 3) := by decide +kernel
theorem dX5_judge_56 : decode cX5_judge 56 = .ok (.invokevirtual 50, 3) := by decide +kernel
theorem dX5_judge_59 : decode cX5_judge 59 = .ok (.ireturn, 1) := by decide +kernel
/-! AlgebraHouse$Judge.judge(LAlgebraHouse$Text;II)I -/
def P_X5_judge (x1 : Int) (x2 : Int) (x3 : Int) (m : MM) (Q : Int → MM → Prop) : Prop := ∀ m1 : MM, m1 = up m 372 1 x1 → ∀ m2 : MM, m2 = up m1 372 3 x3 → ((RI x2)) ∧ ((if x2 = (-1) then 0 else 1 : Int) = 0 ∨ (if x2 = (-1) then 0 else 1 : Int) = 1) ∧ ∀ m3 : MM, m3 = up m2 372 4 (if x2 = (-1) then 0 else 1 : Int) → ((RI (m3 372 4))) ∧ ∀ m4 : MM, m4 = up m3 372 2 (if (m3 372 4) = 0 then (m3 3 1) else (x2 + 1) : Int) → (isTx (m4 372 1)) ∧ R_X5_part 640 4 [(m4 (m4 372 1) 2)] m4 (fun r1 m5 => Q r1 m5) (fun _ => False)
theorem p_X5_judge {f : Nat} {Q : Int → MM → Prop} {T : MM → Prop} (hf : 684 ≤ f) (x1 : Int) (x2 : Int) (x3 : Int) (m : MM) (h : P_X5_judge x1 x2 x3 m Q) : CC f M_X5_judge [vR 372, vR x1, vI x2, vI x3] m Q T := by
  refine CC.of (plainFor_of_name (by decide)) (Nat.le_of_ble_eq_true rfl) (ls := [vR 372, vR x1, vI x2, vI x3]) rfl ?_
  have h : ∀ m1 : MM, m1 = up m 372 1 x1 → ∀ m2 : MM, m2 = up m1 372 3 x3 → ((RI x2)) ∧ ((if x2 = (-1) then 0 else 1 : Int) = 0 ∨ (if x2 = (-1) then 0 else 1 : Int) = 1) ∧ ∀ m3 : MM, m3 = up m2 372 4 (if x2 = (-1) then 0 else 1 : Int) → ((RI (m3 372 4))) ∧ ∀ m4 : MM, m4 = up m3 372 2 (if (m3 372 4) = 0 then (m3 3 1) else (x2 + 1) : Int) → (isTx (m4 372 1)) ∧ R_X5_part 640 4 [(m4 (m4 372 1) 2)] m4 (fun r1 m5 => Q r1 m5) (fun _ => False) := h
  refine b_aload_n dX5_judge_0 rfl ?_
  refine b_aload_n dX5_judge_1 rfl ?_
  refine b_putM dX5_judge_2 fk_X5_26 (Or.inl ⟨_, rfl⟩) ly_372 (fun m1 em1 => ?_)
  have h := h m1 em1
  refine b_aload_n dX5_judge_5 rfl ?_
  refine b_iload_n dX5_judge_6 rfl ?_
  refine b_putI dX5_judge_7 fk_X5_30 ly_372 (fun m2 em2 => ?_)
  have h := h m2 em2
  refine b_aload_n dX5_judge_10 rfl ?_
  refine b_iload_n dX5_judge_11 rfl ?_
  refine b_iconst dX5_judge_12 ?_
  obtain ⟨hs, h⟩ := h
  have K : B f M_X5_judge 21 [vR 372, vR x1, vI x2, vI x3] [vI (if x2 = (-1) then 0 else 1 : Int), vR 372] m2 Q T := by
    clear hs
    obtain ⟨g2, h⟩ := h
    refine b_putZ dX5_judge_21 fk_X5_33 ly_372 g2 (fun m3 em3 => ?_)
    have h := h m3 em3
    refine b_aload_n dX5_judge_24 rfl ?_
    refine b_aload_n dX5_judge_25 rfl ?_
    refine b_getZ dX5_judge_26 fk_X5_33 ly_372 ?_
    obtain ⟨hs, h⟩ := h
    have K : B f M_X5_judge 45 [vR 372, vR x1, vI x2, vI x3] [vI (if (m3 372 4) = 0 then (m3 3 1) else (x2 + 1) : Int), vR 372] m3 Q T := by
      clear hs
      refine b_putI dX5_judge_45 fk_X5_42 ly_372 (fun m4 em4 => ?_)
      have h := h m4 em4
      refine b_aload_n dX5_judge_48 rfl ?_
      refine b_aload_n dX5_judge_49 rfl ?_
      refine b_getM dX5_judge_50 fk_X5_26 ly_372 ?_
      obtain ⟨g4, h⟩ := h
      refine b_getI dX5_judge_53 fk_X5_45 (tx_ly0 g4) ?_
      refine b_cVi (as := [vI (m4 (m4 372 1) 2)]) (st := []) dX5_judge_56 mf_X5_part qs42 lk_X5_50 ly_372 rfl ((pr_X5_part 640 683 (Nat.le_refl _)).2.2.2.2.1 _ _ _ _ h) (by omega) rfl rfl (Nat.le_of_ble_eq_true rfl) (by decide) rfl (fun _ => rfl) (fun r1 m5 h => ?_) (fun _ h => h.elim)
      exact b_iret dX5_judge_59 rfl h
    have g3 := hs
    refine b_if_eq 38 dX5_judge_29 g3 (by decide) (fun c1 => ?_) (fun c1 => ?_)
    ·
      refine b_aload_n dX5_judge_38 rfl ?_
      refine b_getR dX5_judge_39 fk_X5_15 ly_372 gg_372_0 ?_
      refine b_getI dX5_judge_42 fk_X5_37 ly_3 ?_
      rw [if_pos c1] at K
      exact K
    ·
      refine b_iload_n dX5_judge_32 rfl ?_
      refine b_iconst dX5_judge_33 ?_
      refine b_iadd dX5_judge_34 ?_
      refine b_goto 45 dX5_judge_35 (by decide) ?_
      rw [if_neg c1] at K
      exact K
  have g1 := hs
  refine b_icmp_eq 20 dX5_judge_13 g1 (by decide) (by decide) (fun c2 => ?_) (fun c2 => ?_)
  ·
    refine b_iconst dX5_judge_20 ?_
    rw [if_pos c2] at K
    exact K
  ·
    refine b_iconst dX5_judge_16 ?_
    refine b_goto 21 dX5_judge_17 (by decide) ?_
    rw [if_neg c2] at K
    exact K
theorem dX5_goal_0 : decode cX5_goal 0 = .ok (.aload_n 0, 1) := by decide +kernel
theorem dX5_goal_1 : decode cX5_goal 1 = .ok (.aload_n 0, 1) := by decide +kernel
theorem dX5_goal_2 : decode cX5_goal 2 = .ok (.getfield 26, 3) := by decide +kernel
theorem dX5_goal_5 : decode cX5_goal 5 = .ok (.aload_n 0, 1) := by decide +kernel
theorem dX5_goal_6 : decode cX5_goal 6 = .ok (.getfield 15, 3) := by decide +kernel
theorem dX5_goal_9 : decode cX5_goal 9 = .ok (.getfield 37, 3) := by decide +kernel
theorem dX5_goal_12 : decode cX5_goal 12 = .ok (.iload_n 1, 1) := by decide +kernel
theorem dX5_goal_13 : decode cX5_goal 13 = .ok (.invokevirtual 66, 3) := by decide +kernel
theorem dX5_goal_16 : decode cX5_goal 16 = .ok (.istore_n 2, 1) := by decide +kernel
theorem dX5_goal_17 : decode cX5_goal 17 = .ok (.iload_n 2, 1) := by decide +kernel
theorem dX5_goal_18 : decode cX5_goal 18 = .ok (.bipush (-3), 2) := by decide +kernel
theorem dX5_goal_20 : decode cX5_goal 20 = .ok (.if_icmp .eq 32, 3) := by decide +kernel
theorem dX5_goal_23 : decode cX5_goal 23 = .ok (.iload_n 2, 1) := by decide +kernel
theorem dX5_goal_24 : decode cX5_goal 24 = .ok (.aload_n 0, 1) := by decide +kernel
theorem dX5_goal_25 : decode cX5_goal 25 = .ok (.getfield 26, 3) := by decide +kernel
theorem dX5_goal_28 : decode cX5_goal 28 = .ok (.iconst 0, 1) := by decide +kernel
theorem dX5_goal_29 : decode cX5_goal 29 = .ok (.iload_n 1, 1) := by decide +kernel
theorem dX5_goal_30 : decode cX5_goal 30 = .ok (.invokestatic 165, 3) := by decide +kernel
theorem dX5_goal_33 : decode cX5_goal 33 = .ok (.invokestatic 168, 3) := by decide +kernel
theorem dX5_goal_36 : decode cX5_goal 36 = .ok (.ifCond .ne 16, 3) := by decide +kernel
theorem dX5_goal_39 : decode cX5_goal 39 = .ok (.aload_n 0, 1) := by decide +kernel
theorem dX5_goal_40 : decode cX5_goal 40 = .ok (.iconst 4, 1) := by decide +kernel
theorem dX5_goal_41 : decode cX5_goal 41 = .ok (.aload_n 0, 1) := by decide +kernel
theorem dX5_goal_42 : decode cX5_goal 42 = .ok (.getfield 26, 3) := by decide +kernel
theorem dX5_goal_45 : decode cX5_goal 45 = .ok (.getfield 171, 3) := by decide +kernel
theorem dX5_goal_48 : decode cX5_goal 48 = .ok (.invokevirtual 114, 3) := by decide +kernel
theorem dX5_goal_51 : decode cX5_goal 51 = .ok (.pop, 1) := by decide +kernel
theorem dX5_goal_52 : decode cX5_goal 52 = .ok (.return_, 1) := by decide +kernel
/-! AlgebraHouse$Judge.goal(I)V -/
def P_X5_goal (x1 : Int) (m : MM) (Q : Int → MM → Prop) : Prop := P_X5_judge (m 372 1) (m 3 1) x1 m (fun r1 m1 => (RI r1) ∧ (if r1 = (-3) then Q 0 m1 else P_X1_ring (m1 372 1) 0 x1 m1 (fun r2 m2 => P_X11_goes r1 r2 m2 (fun r3 m3 => (RI r3) ∧ (if r3 = 0 then (isTx (m3 372 1)) ∧ P_X5_fail 4 (m3 (m3 372 1) 3) m3 (fun r4 m4 => Q 0 m4) else Q 0 m3)))))
theorem p_X5_goal {f : Nat} {Q : Int → MM → Prop} {T : MM → Prop} (hf : 685 ≤ f) (x1 : Int) (m : MM) (h : P_X5_goal x1 m Q) : CC f M_X5_goal [vR 372, vI x1] m Q T := by
  refine CC.of (plainFor_of_name (by decide)) (Nat.le_of_ble_eq_true rfl) (ls := [vR 372, vI x1, vU]) rfl ?_
  have h : P_X5_judge (m 372 1) (m 3 1) x1 m (fun r1 m1 => (RI r1) ∧ (if r1 = (-3) then Q 0 m1 else P_X1_ring (m1 372 1) 0 x1 m1 (fun r2 m2 => P_X11_goes r1 r2 m2 (fun r3 m3 => (RI r3) ∧ (if r3 = 0 then (isTx (m3 372 1)) ∧ P_X5_fail 4 (m3 (m3 372 1) 3) m3 (fun r4 m4 => Q 0 m4) else Q 0 m3))))) := h
  refine b_aload_n dX5_goal_0 rfl ?_
  refine b_aload_n dX5_goal_1 rfl ?_
  refine b_getM dX5_goal_2 fk_X5_26 ly_372 ?_
  refine b_aload_n dX5_goal_5 rfl ?_
  refine b_getR dX5_goal_6 fk_X5_15 ly_372 gg_372_0 ?_
  refine b_getI dX5_goal_9 fk_X5_37 ly_3 ?_
  refine b_iload_n dX5_goal_12 rfl ?_
  refine b_cVi (as := [vR (m 372 1), vI (m 3 1), vI x1]) (st := []) dX5_goal_13 mf_X5_judge q1083 lk_X5_66 ly_372 rfl (p_X5_judge (f := 684) (Nat.le_refl _) _ _ _ _ h) (by omega) rfl rfl (Nat.le_of_ble_eq_true rfl) (by decide) rfl (fun _ => rfl) (fun r1 m1 h => ?_) (fun _ h => h)
  refine b_istore_n (ls' := [vR 372, vI x1, vI r1]) dX5_goal_16 (Nat.le_of_ble_eq_true rfl) rfl ?_
  refine b_iload_n dX5_goal_17 rfl ?_
  refine b_bipush dX5_goal_18 (by decide) ?_
  obtain ⟨g1, h⟩ := h
  refine b_icmp_eq 52 dX5_goal_20 g1 (by decide) (by decide) (fun c1 => ?_) (fun c1 => ?_)
  · have h := ifT c1 h
    exact b_vret dX5_goal_52 rfl h
  · have h := ifF c1 h
    refine b_iload_n dX5_goal_23 rfl ?_
    refine b_aload_n dX5_goal_24 rfl ?_
    refine b_getM dX5_goal_25 fk_X5_26 ly_372 ?_
    refine b_iconst dX5_goal_28 ?_
    refine b_iload_n dX5_goal_29 rfl ?_
    refine b_cSi (as := [vR (m1 372 1), vI 0, vI x1]) (st := [vI r1]) dX5_goal_30 mf_X1_ring lk_X5_165 (p_X1_ring (f := 2) (Nat.le_refl _) _ _ _ _ h) (by omega) rfl rfl (Nat.le_of_ble_eq_true rfl) (by decide) rfl (fun _ => rfl) (fun r2 m2 h => ?_) (fun _ h => h)
    refine b_cSi (as := [vI r1, vI r2]) (st := []) dX5_goal_33 mf_X11_goes lk_X5_168 (p_X11_goes (f := 3) (Nat.le_refl _) _ _ _ h) (by omega) rfl rfl (Nat.le_of_ble_eq_true rfl) (by decide) rfl (fun _ => rfl) (fun r3 m3 h => ?_) (fun _ h => h)
    obtain ⟨g2, h⟩ := h
    refine b_if_ne 52 dX5_goal_36 g2 (by decide) (fun c2 => ?_) (fun c2 => ?_)
    · have h := ifF c2 h
      exact b_vret dX5_goal_52 rfl h
    · have h := ifT (Decidable.of_not_not c2) h
      refine b_aload_n dX5_goal_39 rfl ?_
      refine b_iconst dX5_goal_40 ?_
      refine b_aload_n dX5_goal_41 rfl ?_
      refine b_getM dX5_goal_42 fk_X5_26 ly_372 ?_
      obtain ⟨g3, h⟩ := h
      refine b_getI dX5_goal_45 fk_X5_171 (tx_ly0 g3) ?_
      refine b_cVi (as := [vI 4, vI (m3 (m3 372 1) 3)]) (st := []) dX5_goal_48 mf_X5_fail qs37 lk_X5_114 ly_372 rfl (p_X5_fail (f := 1) (Nat.le_refl _) _ _ _ h) (by omega) rfl rfl (Nat.le_of_ble_eq_true rfl) (by decide) rfl (fun _ => rfl) (fun r4 m4 h => ?_) (fun _ h => h)
      refine b_pop dX5_goal_51 rfl ?_
      exact b_vret dX5_goal_52 rfl h
theorem dX5_body_0 : decode cX5_body 0 = .ok (.aload_n 0, 1) := by decide +kernel
theorem dX5_body_1 : decode cX5_body 1 = .ok (.getfield 26, 3) := by decide +kernel
theorem dX5_body_4 : decode cX5_body 4 = .ok (.getfield 84, 3) := by decide +kernel
theorem dX5_body_7 : decode cX5_body 7 = .ok (.ifCond .ne 9, 3) := by decide +kernel
theorem dX5_body_10 : decode cX5_body 10 = .ok (.aload_n 0, 1) := by decide +kernel
theorem dX5_body_11 : decode cX5_body 11 = .ok (.iconst (-1), 1) := by decide +kernel
theorem dX5_body_12 : decode cX5_body 12 = .ok (.invokevirtual 154, 3) := by decide +kernel
theorem dX5_body_15 : decode cX5_body 15 = .ok (.return_, 1) := by decide +kernel
theorem dX5_body_16 : decode cX5_body 16 = .ok (.iconst 0, 1) := by decide +kernel
theorem dX5_body_17 : decode cX5_body 17 = .ok (.istore_n 1, 1) := by decide +kernel
theorem dX5_body_18 : decode cX5_body 18 = .ok (.iload_n 1, 1) := by decide +kernel
theorem dX5_body_19 : decode cX5_body 19 = .ok (.bipush 48, 2) := by decide +kernel
theorem dX5_body_21 : decode cX5_body 21 = .ok (.if_icmp .ge 52, 3) := by decide +kernel
theorem dX5_body_24 : decode cX5_body 24 = .ok (.aload_n 0, 1) := by decide +kernel
theorem dX5_body_25 : decode cX5_body 25 = .ok (.getfield 19, 3) := by decide +kernel
theorem dX5_body_28 : decode cX5_body 28 = .ok (.ifCond .ne 45, 3) := by decide +kernel
theorem dX5_body_31 : decode cX5_body 31 = .ok (.getstatic 158, 3) := by decide +kernel
theorem dX5_body_34 : decode cX5_body 34 = .ok (.iload_n 1, 1) := by decide +kernel
theorem dX5_body_35 : decode cX5_body 35 = .ok (.bipush 12, 2) := by decide +kernel
theorem dX5_body_37 : decode cX5_body 37 = .ok (.idiv, 1) := by decide +kernel
theorem dX5_body_38 : decode cX5_body 38 = .ok (.iaload, 1) := by decide +kernel
theorem dX5_body_39 : decode cX5_body 39 = .ok (.iload_n 1, 1) := by decide +kernel
theorem dX5_body_40 : decode cX5_body 40 = .ok (.iconst 4, 1) := by decide +kernel
theorem dX5_body_41 : decode cX5_body 41 = .ok (.idiv, 1) := by decide +kernel
theorem dX5_body_42 : decode cX5_body 42 = .ok (.iconst 3, 1) := by decide +kernel
theorem dX5_body_43 : decode cX5_body 43 = .ok (.irem, 1) := by decide +kernel
theorem dX5_body_44 : decode cX5_body 44 = .ok (.iload_n 1, 1) := by decide +kernel
theorem dX5_body_45 : decode cX5_body 45 = .ok (.iconst 4, 1) := by decide +kernel
theorem dX5_body_46 : decode cX5_body 46 = .ok (.irem, 1) := by decide +kernel
theorem dX5_body_47 : decode cX5_body 47 = .ok (.invokestatic 89, 3) := by decide +kernel
theorem dX5_body_50 : decode cX5_body 50 = .ok (.istore_n 2, 1) := by decide +kernel
theorem dX5_body_51 : decode cX5_body 51 = .ok (.aload_n 0, 1) := by decide +kernel
theorem dX5_body_52 : decode cX5_body 52 = .ok (.getfield 26, 3) := by decide +kernel
theorem dX5_body_55 : decode cX5_body 55 = .ok (.iload_n 2, 1) := by decide +kernel
theorem dX5_body_56 : decode cX5_body 56 = .ok (.invokestatic 161, 3) := by decide +kernel
theorem dX5_body_59 : decode cX5_body 59 = .ok (.ifCond .eq 8, 3) := by decide +kernel
theorem dX5_body_62 : decode cX5_body 62 = .ok (.aload_n 0, 1) := by decide +kernel
theorem dX5_body_63 : decode cX5_body 63 = .ok (.iload_n 2, 1) := by decide +kernel
theorem dX5_body_64 : decode cX5_body 64 = .ok (.invokevirtual 154, 3) := by decide +kernel
theorem dX5_body_67 : decode cX5_body 67 = .ok (.iinc 1 1, 3) := by decide +kernel
theorem dX5_body_70 : decode cX5_body 70 = .ok (.goto (-52), 3) := by decide +kernel
theorem dX5_body_73 : decode cX5_body 73 = .ok (.return_, 1) := by decide +kernel
/-! AlgebraHouse$Judge.body()V -/
def P_X5_body_18 (Q : Int → MM → Prop) : Nat → Int → MM → Prop
  | 0, _, _ => False
  | n + 1, x1, m => (RI x1) ∧ (if 48 ≤ x1 then Q 0 m else (RI (m 372 5)) ∧ (if (m 372 5) = 0 then (0 ≤ (Int.tdiv x1 12) ∧ (Int.tdiv x1 12) < 4) ∧ (RI (Int.tdiv x1 4)) ∧ P_X11_of (bas (Int.tdiv x1 12)) (Int.tmod (Int.tdiv x1 4) 3) (Int.tmod x1 4) m (fun r1 m1 => P_X1_can (m1 372 1) r1 m1 (fun r2 m2 => (RI r2) ∧ (if r2 = 0 then P_X5_body_18 Q n (x1 + 1) m2 else P_X5_goal r1 m2 (fun r3 m3 => P_X5_body_18 Q n (x1 + 1) m3)))) else Q 0 m))
def P_X5_body (m : MM) (Q : Int → MM → Prop) : Prop := (isTx (m 372 1)) ∧ (RI (m (m 372 1) 22)) ∧ (if (m (m 372 1) 22) = 0 then P_X5_goal (-1) m (fun r1 m1 => Q 0 m1) else ∃ nn, P_X5_body_18 Q nn 0 m)
theorem pl_X5_body_18 {f : Nat} {Q : Int → MM → Prop} {T : MM → Prop} (hf : 686 ≤ f) : ∀ (n : Nat) (x1 : Int) (m : MM), P_X5_body_18 Q n x1 m → B f M_X5_body 18 [vR 372, vI x1, vU] [] m Q T := by
  intro n
  induction n with
  | zero => intro x1 m h; exact h.elim
  | succ n ih =>
    intro x1 m h
    have h : (RI x1) ∧ (if 48 ≤ x1 then Q 0 m else (RI (m 372 5)) ∧ (if (m 372 5) = 0 then (0 ≤ (Int.tdiv x1 12) ∧ (Int.tdiv x1 12) < 4) ∧ (RI (Int.tdiv x1 4)) ∧ P_X11_of (bas (Int.tdiv x1 12)) (Int.tmod (Int.tdiv x1 4) 3) (Int.tmod x1 4) m (fun r1 m1 => P_X1_can (m1 372 1) r1 m1 (fun r2 m2 => (RI r2) ∧ (if r2 = 0 then P_X5_body_18 Q n (x1 + 1) m2 else P_X5_goal r1 m2 (fun r3 m3 => P_X5_body_18 Q n (x1 + 1) m3)))) else Q 0 m)) := h
    refine b_iload_n dX5_body_18 rfl ?_
    refine b_bipush dX5_body_19 (by decide) ?_
    obtain ⟨g1, h⟩ := h
    refine b_icmp_ge 73 dX5_body_21 g1 (by decide) (by decide) (fun c1 => ?_) (fun c1 => ?_)
    · have h := ifT c1 h
      exact b_vret dX5_body_73 rfl h
    · have h := ifF c1 h
      refine b_aload_n dX5_body_24 rfl ?_
      refine b_getI dX5_body_25 fk_X5_19 ly_372 ?_
      obtain ⟨g2, h⟩ := h
      refine b_if_ne 73 dX5_body_28 g2 (by decide) (fun c2 => ?_) (fun c2 => ?_)
      · have h := ifF c2 h
        exact b_vret dX5_body_73 rfl h
      · have h := ifT (Decidable.of_not_not c2) h
        refine b_gets (z := -5) dX5_body_31 (by decide) q1218 q1219 q223 (fun E h => h.2.2.2.2.2.2.1) ?_
        refine b_iload_n dX5_body_34 rfl ?_
        refine b_bipush dX5_body_35 (by decide) ?_
        refine b_idiv dX5_body_37 g1 (by decide) (by decide) ?_
        obtain ⟨g3, h⟩ := h
        refine b_bases dX5_body_38 g3 ?_
        refine b_iload_n dX5_body_39 rfl ?_
        refine b_iconst dX5_body_40 ?_
        refine b_idiv dX5_body_41 g1 (by decide) (by decide) ?_
        refine b_iconst dX5_body_42 ?_
        obtain ⟨g4, h⟩ := h
        refine b_irem dX5_body_43 g4 (by decide) (by decide) ?_
        refine b_iload_n dX5_body_44 rfl ?_
        refine b_iconst dX5_body_45 ?_
        refine b_irem dX5_body_46 g1 (by decide) (by decide) ?_
        refine b_cSi (as := [vI (bas (Int.tdiv x1 12)), vI (Int.tmod (Int.tdiv x1 4) 3), vI (Int.tmod x1 4)]) (st := []) dX5_body_47 mf_X11_of lk_X5_89 (p_X11_of (f := 1) (Nat.le_refl _) _ _ _ _ h) (by omega) rfl rfl (Nat.le_of_ble_eq_true rfl) (by decide) rfl (fun _ => rfl) (fun r1 m1 h => ?_) (fun _ h => h)
        refine b_istore_n (ls' := [vR 372, vI x1, vI r1]) dX5_body_50 (Nat.le_of_ble_eq_true rfl) rfl ?_
        refine b_aload_n dX5_body_51 rfl ?_
        refine b_getM dX5_body_52 fk_X5_26 ly_372 ?_
        refine b_iload_n dX5_body_55 rfl ?_
        refine b_cSi (as := [vR (m1 372 1), vI r1]) (st := []) dX5_body_56 mf_X1_can lk_X5_161 (p_X1_can (f := 3) (Nat.le_refl _) _ _ _ h) (by omega) rfl rfl (Nat.le_of_ble_eq_true rfl) (by decide) rfl (fun _ => rfl) (fun r2 m2 h => ?_) (fun _ h => h)
        obtain ⟨g5, h⟩ := h
        refine b_if_eq 67 dX5_body_59 g5 (by decide) (fun c3 => ?_) (fun c3 => ?_)
        · have h := ifT c3 h
          refine b_iinc (ls' := [vR 372, vI (x1 + 1), vI r1]) dX5_body_67 rfl rfl ?_
          refine b_goto 18 dX5_body_70 (by decide) ?_
          refine b_fgt [true, true, false] (ls' := [vR 372, vI (x1 + 1), vU]) rfl rfl ?_
          exact ih _ _ h
        · have h := ifF c3 h
          refine b_aload_n dX5_body_62 rfl ?_
          refine b_iload_n dX5_body_63 rfl ?_
          refine b_cVv (as := [vI r1]) (st := []) dX5_body_64 mf_X5_goal qs41 lk_X5_154 ly_372 rfl (p_X5_goal (f := 685) (Nat.le_refl _) _ _ h) (by omega) rfl rfl (Nat.le_of_ble_eq_true rfl) (by decide) rfl (fun _ => rfl) (fun r3 m3 h => ?_) (fun _ h => h)
          refine b_iinc (ls' := [vR 372, vI (x1 + 1), vI r1]) dX5_body_67 rfl rfl ?_
          refine b_goto 18 dX5_body_70 (by decide) ?_
          refine b_fgt [true, true, false] (ls' := [vR 372, vI (x1 + 1), vU]) rfl rfl ?_
          exact ih _ _ h
theorem p_X5_body {f : Nat} {Q : Int → MM → Prop} {T : MM → Prop} (hf : 686 ≤ f) (m : MM) (h : P_X5_body m Q) : CC f M_X5_body [vR 372] m Q T := by
  refine CC.of (plainFor_of_name (by decide)) (Nat.le_of_ble_eq_true rfl) (ls := [vR 372, vU, vU]) rfl ?_
  have h : (isTx (m 372 1)) ∧ (RI (m (m 372 1) 22)) ∧ (if (m (m 372 1) 22) = 0 then P_X5_goal (-1) m (fun r1 m1 => Q 0 m1) else ∃ nn, P_X5_body_18 Q nn 0 m) := h
  refine b_aload_n dX5_body_0 rfl ?_
  refine b_getM dX5_body_1 fk_X5_26 ly_372 ?_
  obtain ⟨g1, h⟩ := h
  refine b_getI dX5_body_4 fk_X5_84 (tx_ly0 g1) ?_
  obtain ⟨g2, h⟩ := h
  refine b_if_ne 16 dX5_body_7 g2 (by decide) (fun c1 => ?_) (fun c1 => ?_)
  · have h := ifF c1 h
    refine b_iconst dX5_body_16 ?_
    refine b_istore_n (ls' := [vR 372, vI 0, vU]) dX5_body_17 (Nat.le_of_ble_eq_true rfl) rfl ?_
    obtain ⟨nn, h⟩ := h
    exact pl_X5_body_18 hf nn _ _ h
  · have h := ifT (Decidable.of_not_not c1) h
    refine b_aload_n dX5_body_10 rfl ?_
    refine b_iconst dX5_body_11 ?_
    refine b_cVv (as := [vI (-1)]) (st := []) dX5_body_12 mf_X5_goal qs41 lk_X5_154 ly_372 rfl (p_X5_goal (f := 685) (Nat.le_refl _) _ _ h) (by omega) rfl rfl (Nat.le_of_ble_eq_true rfl) (by decide) rfl (fun _ => rfl) (fun r1 m1 h => ?_) (fun _ h => h)
    exact b_vret dX5_body_15 rfl h
theorem dX5_isThere_0 : decode cX5_isThere 0 = .ok (.iconst 0, 1) := by decide +kernel
theorem dX5_isThere_1 : decode cX5_isThere 1 = .ok (.istore_n 1, 1) := by decide +kernel
theorem dX5_isThere_2 : decode cX5_isThere 2 = .ok (.iload_n 1, 1) := by decide +kernel
theorem dX5_isThere_3 : decode cX5_isThere 3 = .ok (.aload_n 0, 1) := by decide +kernel
theorem dX5_isThere_4 : decode cX5_isThere 4 = .ok (.getfield 15, 3) := by decide +kernel
theorem dX5_isThere_7 : decode cX5_isThere 7 = .ok (.getfield 37, 3) := by decide +kernel
theorem dX5_isThere_10 : decode cX5_isThere 10 = .ok (.if_icmp .ge 187, 3) := by decide +kernel
theorem dX5_isThere_13 : decode cX5_isThere 13 = .ok (.aload_n 0, 1) := by decide +kernel
theorem dX5_isThere_14 : decode cX5_isThere 14 = .ok (.getfield 15, 3) := by decide +kernel
theorem dX5_isThere_17 : decode cX5_isThere 17 = .ok (.getfield 151, 3) := by decide +kernel
theorem dX5_isThere_20 : decode cX5_isThere 20 = .ok (.iload_n 1, 1) := by decide +kernel
theorem dX5_isThere_21 : decode cX5_isThere 21 = .ok (.aaload, 1) := by decide +kernel
theorem dX5_isThere_22 : decode cX5_isThere 22 = .ok (.astore_n 2, 1) := by decide +kernel
theorem dX5_isThere_23 : decode cX5_isThere 23 = .ok (.aload_n 2, 1) := by decide +kernel
theorem dX5_isThere_24 : decode cX5_isThere 24 = .ok (.getfield 73, 3) := by decide +kernel
theorem dX5_isThere_27 : decode cX5_isThere 27 = .ok (.aload_n 0, 1) := by decide +kernel
theorem dX5_isThere_28 : decode cX5_isThere 28 = .ok (.getfield 26, 3) := by decide +kernel
theorem dX5_isThere_31 : decode cX5_isThere 31 = .ok (.getfield 73, 3) := by decide +kernel
theorem dX5_isThere_34 : decode cX5_isThere 34 = .ok (.lcmp, 1) := by decide +kernel
theorem dX5_isThere_35 : decode cX5_isThere 35 = .ok (.ifCond .ne 21, 3) := by decide +kernel
theorem dX5_isThere_38 : decode cX5_isThere 38 = .ok (.aload_n 2, 1) := by decide +kernel
theorem dX5_isThere_39 : decode cX5_isThere 39 = .ok (.getfield 93, 3) := by decide +kernel
theorem dX5_isThere_42 : decode cX5_isThere 42 = .ok (.aload_n 0, 1) := by decide +kernel
theorem dX5_isThere_43 : decode cX5_isThere 43 = .ok (.getfield 26, 3) := by decide +kernel
theorem dX5_isThere_46 : decode cX5_isThere 46 = .ok (.getfield 93, 3) := by decide +kernel
theorem dX5_isThere_49 : decode cX5_isThere 49 = .ok (.if_icmp .ne 7, 3) := by decide +kernel
theorem dX5_isThere_52 : decode cX5_isThere 52 = .ok (.iconst 1, 1) := by decide +kernel
theorem dX5_isThere_53 : decode cX5_isThere 53 = .ok (.goto 4, 3) := by decide +kernel
theorem dX5_isThere_56 : decode cX5_isThere 56 = .ok (.iconst 0, 1) := by decide +kernel
theorem dX5_isThere_57 : decode cX5_isThere 57 = .ok (.istore_n 3, 1) := by decide +kernel
theorem dX5_isThere_58 : decode cX5_isThere 58 = .ok (.iconst 1, 1) := by decide +kernel
theorem dX5_isThere_59 : decode cX5_isThere 59 = .ok (.istore 4, 2) := by decide +kernel
theorem dX5_isThere_61 : decode cX5_isThere 61 = .ok (.iload_n 3, 1) := by decide +kernel
theorem dX5_isThere_62 : decode cX5_isThere 62 = .ok (.ifCond .eq 123, 3) := by decide +kernel
theorem dX5_isThere_65 : decode cX5_isThere 65 = .ok (.iload 4, 2) := by decide +kernel
theorem dX5_isThere_67 : decode cX5_isThere 67 = .ok (.aload_n 0, 1) := by decide +kernel
theorem dX5_isThere_68 : decode cX5_isThere 68 = .ok (.getfield 26, 3) := by decide +kernel
theorem dX5_isThere_71 : decode cX5_isThere 71 = .ok (.getfield 93, 3) := by decide +kernel
theorem dX5_isThere_74 : decode cX5_isThere 74 = .ok (.if_icmp .gt 111, 3) := by decide +kernel
theorem dX5_isThere_77 : decode cX5_isThere 77 = .ok (.aload_n 2, 1) := by decide +kernel
theorem dX5_isThere_78 : decode cX5_isThere 78 = .ok (.getfield 103, 3) := by decide +kernel
theorem dX5_isThere_81 : decode cX5_isThere 81 = .ok (.iload 4, 2) := by decide +kernel
theorem dX5_isThere_83 : decode cX5_isThere 83 = .ok (.baload, 1) := by decide +kernel
theorem dX5_isThere_84 : decode cX5_isThere 84 = .ok (.aload_n 0, 1) := by decide +kernel
theorem dX5_isThere_85 : decode cX5_isThere 85 = .ok (.getfield 26, 3) := by decide +kernel
theorem dX5_isThere_88 : decode cX5_isThere 88 = .ok (.getfield 103, 3) := by decide +kernel
theorem dX5_isThere_91 : decode cX5_isThere 91 = .ok (.iload 4, 2) := by decide +kernel
theorem dX5_isThere_93 : decode cX5_isThere 93 = .ok (.baload, 1) := by decide +kernel
theorem dX5_isThere_94 : decode cX5_isThere 94 = .ok (.if_icmp .ne 83, 3) := by decide +kernel
theorem dX5_isThere_97 : decode cX5_isThere 97 = .ok (.aload_n 0, 1) := by decide +kernel
theorem dX5_isThere_98 : decode cX5_isThere 98 = .ok (.getfield 26, 3) := by decide +kernel
theorem dX5_isThere_101 : decode cX5_isThere 101 = .ok (.getfield 103, 3) := by decide +kernel
theorem dX5_isThere_104 : decode cX5_isThere 104 = .ok (.iload 4, 2) := by decide +kernel
theorem dX5_isThere_106 : decode cX5_isThere 106 = .ok (.baload, 1) := by decide +kernel
theorem dX5_isThere_107 : decode cX5_isThere 107 = .ok (.ifCond .eq 46, 3) := by decide +kernel
theorem dX5_isThere_110 : decode cX5_isThere 110 = .ok (.aload_n 2, 1) := by decide +kernel
theorem dX5_isThere_111 : decode cX5_isThere 111 = .ok (.getfield 137, 3) := by decide +kernel
theorem dX5_isThere_114 : decode cX5_isThere 114 = .ok (.iload 4, 2) := by decide +kernel
theorem dX5_isThere_116 : decode cX5_isThere 116 = .ok (.iaload, 1) := by decide +kernel
theorem dX5_isThere_117 : decode cX5_isThere 117 = .ok (.aload_n 0, 1) := by decide +kernel
theorem dX5_isThere_118 : decode cX5_isThere 118 = .ok (.getfield 26, 3) := by decide +kernel
theorem dX5_isThere_121 : decode cX5_isThere 121 = .ok (.getfield 137, 3) := by decide +kernel
theorem dX5_isThere_124 : decode cX5_isThere 124 = .ok (.iload 4, 2) := by decide +kernel
theorem dX5_isThere_126 : decode cX5_isThere 126 = .ok (.iaload, 1) := by decide +kernel
theorem dX5_isThere_127 : decode cX5_isThere 127 = .ok (.if_icmp .ne 50, 3) := by decide +kernel
theorem dX5_isThere_130 : decode cX5_isThere 130 = .ok (.aload_n 2, 1) := by decide +kernel
theorem dX5_isThere_131 : decode cX5_isThere 131 = .ok (.getfield 140, 3) := by decide +kernel
theorem dX5_isThere_134 : decode cX5_isThere 134 = .ok (.iload 4, 2) := by decide +kernel
theorem dX5_isThere_136 : decode cX5_isThere 136 = .ok (.iaload, 1) := by decide +kernel
theorem dX5_isThere_137 : decode cX5_isThere 137 = .ok (.aload_n 0, 1) := by decide +kernel
theorem dX5_isThere_138 : decode cX5_isThere 138 = .ok (.getfield 26, 3) := by decide +kernel
theorem dX5_isThere_141 : decode cX5_isThere 141 = .ok (.getfield 140, 3) := by decide +kernel
theorem dX5_isThere_144 : decode cX5_isThere 144 = .ok (.iload 4, 2) := by decide +kernel
theorem dX5_isThere_146 : decode cX5_isThere 146 = .ok (.iaload, 1) := by decide +kernel
theorem dX5_isThere_147 : decode cX5_isThere 147 = .ok (.if_icmp .ne 30, 3) := by decide +kernel
theorem dX5_isThere_150 : decode cX5_isThere 150 = .ok (.goto 23, 3) := by decide +kernel
theorem dX5_isThere_153 : decode cX5_isThere 153 = .ok (.aload_n 2, 1) := by decide +kernel
theorem dX5_isThere_154 : decode cX5_isThere 154 = .ok (.getfield 131, 3) := by decide +kernel
theorem dX5_isThere_157 : decode cX5_isThere 157 = .ok (.iload 4, 2) := by decide +kernel
theorem dX5_isThere_159 : decode cX5_isThere 159 = .ok (.iaload, 1) := by decide +kernel
theorem dX5_isThere_160 : decode cX5_isThere 160 = .ok (.aload_n 0, 1) := by decide +kernel
theorem dX5_isThere_161 : decode cX5_isThere 161 = .ok (.getfield 26, 3) := by decide +kernel
theorem dX5_isThere_164 : decode cX5_isThere 164 = .ok (.getfield 131, 3) := by decide +kernel
theorem dX5_isThere_167 : decode cX5_isThere 167 = .ok (.iload 4, 2) := by decide +kernel
theorem dX5_isThere_169 : decode cX5_isThere 169 = .ok (.iaload, 1) := by decide +kernel
theorem dX5_isThere_170 : decode cX5_isThere 170 = .ok (.if_icmp .ne 7, 3) := by decide +kernel
theorem dX5_isThere_173 : decode cX5_isThere 173 = .ok (.iconst 1, 1) := by decide +kernel
theorem dX5_isThere_174 : decode cX5_isThere 174 = .ok (.goto 4, 3) := by decide +kernel
theorem dX5_isThere_177 : decode cX5_isThere 177 = .ok (.iconst 0, 1) := by decide +kernel
theorem dX5_isThere_178 : decode cX5_isThere 178 = .ok (.istore_n 3, 1) := by decide +kernel
theorem dX5_isThere_179 : decode cX5_isThere 179 = .ok (.iinc 4 1, 3) := by decide +kernel
theorem dX5_isThere_182 : decode cX5_isThere 182 = .ok (.goto (-121), 3) := by decide +kernel
theorem dX5_isThere_185 : decode cX5_isThere 185 = .ok (.iload_n 3, 1) := by decide +kernel
theorem dX5_isThere_186 : decode cX5_isThere 186 = .ok (.ifCond .eq 5, 3) := by decide +kernel
theorem dX5_isThere_189 : decode cX5_isThere 189 = .ok (.iconst 1, 1) := by decide +kernel
theorem dX5_isThere_190 : decode cX5_isThere 190 = .ok (.ireturn, 1) := by decide +kernel
theorem dX5_isThere_191 : decode cX5_isThere 191 = .ok (.iinc 1 1, 3) := by decide +kernel
theorem dX5_isThere_194 : decode cX5_isThere 194 = .ok (.goto (-192), 3) := by decide +kernel
theorem dX5_isThere_197 : decode cX5_isThere 197 = .ok (.iconst 0, 1) := by decide +kernel
theorem dX5_isThere_198 : decode cX5_isThere 198 = .ok (.ireturn, 1) := by decide +kernel
/-! AlgebraHouse$Judge.isThere()Z -/
def P_X5_isThere_173 (Q : Int → MM → Prop) (K2 : Int → MM → Prop) (K61 : Int → Int → Int → Int → MM → Prop) (x1 : Int) (x2 : Int) (x4 : Int) (m : MM) : Prop := K61 x1 x2 1 (x4 + 1) m
def P_X5_isThere_185 (Q : Int → MM → Prop) (K2 : Int → MM → Prop) (x1 : Int) (x3 : Int) (m : MM) : Prop := (RI x3) ∧ (if x3 = 0 then K2 (x1 + 1) m else Q 1 m)
def P_X5_isThere_61 (Q : Int → MM → Prop) (K2 : Int → MM → Prop) : Nat → Int → Int → Int → Int → MM → Prop
  | 0, _, _, _, _, _ => False
  | n + 1, x1, x2, x3, x4, m => (RI x3) ∧ (if x3 = 0 then P_X5_isThere_185 Q K2 x1 x3 m else (isTx (m 372 1)) ∧ (RI x4) ∧ (RI (m (m 372 1) 5)) ∧ (if (m (m 372 1) 5) < x4 then P_X5_isThere_185 Q K2 x1 x3 m else (isTx x2) ∧ (0 ≤ x4 ∧ x4 < 4) ∧ (RI (m (x2 + 13) x4)) ∧ (RI (m ((m 372 1) + 13) x4)) ∧ (if (m (x2 + 13) x4) = (m ((m 372 1) + 13) x4) then (if (m ((m 372 1) + 13) x4) = 0 then (RI (m (x2 + 14) x4)) ∧ (RI (m ((m 372 1) + 14) x4)) ∧ (if (m (x2 + 14) x4) = (m ((m 372 1) + 14) x4) then P_X5_isThere_173 Q K2 (fun z0 z1 z2 z3 z4 => P_X5_isThere_61 Q K2 n z0 z1 z2 z3 z4) x1 x2 x4 m else P_X5_isThere_61 Q K2 n x1 x2 0 (x4 + 1) m) else (RI (m (x2 + 15) x4)) ∧ (RI (m ((m 372 1) + 15) x4)) ∧ (if (m (x2 + 15) x4) = (m ((m 372 1) + 15) x4) then (RI (m (x2 + 16) x4)) ∧ (RI (m ((m 372 1) + 16) x4)) ∧ (if (m (x2 + 16) x4) = (m ((m 372 1) + 16) x4) then P_X5_isThere_173 Q K2 (fun z0 z1 z2 z3 z4 => P_X5_isThere_61 Q K2 n z0 z1 z2 z3 z4) x1 x2 x4 m else P_X5_isThere_61 Q K2 n x1 x2 0 (x4 + 1) m) else P_X5_isThere_61 Q K2 n x1 x2 0 (x4 + 1) m)) else P_X5_isThere_61 Q K2 n x1 x2 0 (x4 + 1) m)))
def P_X5_isThere_2 (Q : Int → MM → Prop) : Nat → Int → MM → Prop
  | 0, _, _ => False
  | n + 1, x1, m => (RI x1) ∧ (RI (m 3 1)) ∧ (if (m 3 1) ≤ x1 then Q 0 m else (0 ≤ x1 ∧ x1 < 21) ∧ (isTx (8 + 17 * x1)) ∧ (isTx (m 372 1)) ∧ (RL (m (8 + 17 * x1) 16)) ∧ (RL (m (m 372 1) 16)) ∧ (if (m (8 + 17 * x1) 16) = (m (m 372 1) 16) then (RI (m (8 + 17 * x1) 5)) ∧ (RI (m (m 372 1) 5)) ∧ (if (m (8 + 17 * x1) 5) = (m (m 372 1) 5) then ∃ nn, P_X5_isThere_61 Q (fun z0 z1 => P_X5_isThere_2 Q n z0 z1) nn x1 (8 + 17 * x1) 1 1 m else ∃ nn, P_X5_isThere_61 Q (fun z0 z1 => P_X5_isThere_2 Q n z0 z1) nn x1 (8 + 17 * x1) 0 1 m) else ∃ nn, P_X5_isThere_61 Q (fun z0 z1 => P_X5_isThere_2 Q n z0 z1) nn x1 (8 + 17 * x1) 0 1 m))
def P_X5_isThere (m : MM) (Q : Int → MM → Prop) : Prop := ∃ nn, P_X5_isThere_2 Q nn 0 m
theorem pl_X5_isThere_173 {f : Nat} {Q : Int → MM → Prop} {T : MM → Prop} (hf : 1 ≤ f) {K2 : Int → MM → Prop} {K61 : Int → Int → Int → Int → MM → Prop} (hK2 : ∀ (x1 : Int) (m : MM), K2 x1 m → B f M_X5_isThere 2 [vR 372, vI x1, vU, vU, vU] [] m Q T) (hK61 : ∀ (x1 : Int) (x2 : Int) (x3 : Int) (x4 : Int) (m : MM), K61 x1 x2 x3 x4 m → B f M_X5_isThere 61 [vR 372, vI x1, vR x2, vI x3, vI x4] [] m Q T) : ∀ (x1 : Int) (x2 : Int) (x4 : Int) (m : MM), P_X5_isThere_173 Q K2 K61 x1 x2 x4 m → B f M_X5_isThere 173 [vR 372, vI x1, vR x2, vU, vI x4] [] m Q T := by
  intro x1 x2 x4 m h
  have h : K61 x1 x2 1 (x4 + 1) m := h
  refine b_iconst dX5_isThere_173 ?_
  refine b_goto 178 dX5_isThere_174 (by decide) ?_
  refine b_istore_n (ls' := [vR 372, vI x1, vR x2, vI 1, vI x4]) dX5_isThere_178 (Nat.le_of_ble_eq_true rfl) rfl ?_
  refine b_iinc (ls' := [vR 372, vI x1, vR x2, vI 1, vI (x4 + 1)]) dX5_isThere_179 rfl rfl ?_
  refine b_goto 61 dX5_isThere_182 (by decide) ?_
  exact hK61 _ _ _ _ _ h
theorem pl_X5_isThere_185 {f : Nat} {Q : Int → MM → Prop} {T : MM → Prop} (hf : 1 ≤ f) {K2 : Int → MM → Prop} (hK2 : ∀ (x1 : Int) (m : MM), K2 x1 m → B f M_X5_isThere 2 [vR 372, vI x1, vU, vU, vU] [] m Q T) : ∀ (x1 : Int) (x3 : Int) (m : MM), P_X5_isThere_185 Q K2 x1 x3 m → B f M_X5_isThere 185 [vR 372, vI x1, vU, vI x3, vU] [] m Q T := by
  intro x1 x3 m h
  have h : (RI x3) ∧ (if x3 = 0 then K2 (x1 + 1) m else Q 1 m) := h
  refine b_iload_n dX5_isThere_185 rfl ?_
  obtain ⟨g1, h⟩ := h
  refine b_if_eq 191 dX5_isThere_186 g1 (by decide) (fun c1 => ?_) (fun c1 => ?_)
  · have h := ifT c1 h
    refine b_iinc (ls' := [vR 372, vI (x1 + 1), vU, vI x3, vU]) dX5_isThere_191 rfl rfl ?_
    refine b_goto 2 dX5_isThere_194 (by decide) ?_
    refine b_fgt [true, true, false, false, false] (ls' := [vR 372, vI (x1 + 1), vU, vU, vU]) rfl rfl ?_
    exact hK2 _ _ h
  · have h := ifF c1 h
    refine b_iconst dX5_isThere_189 ?_
    exact b_zret dX5_isThere_190 rfl (Or.inr rfl) h
theorem pl_X5_isThere_61 {f : Nat} {Q : Int → MM → Prop} {T : MM → Prop} (hf : 1 ≤ f) {K2 : Int → MM → Prop} (hK2 : ∀ (x1 : Int) (m : MM), K2 x1 m → B f M_X5_isThere 2 [vR 372, vI x1, vU, vU, vU] [] m Q T) : ∀ (n : Nat) (x1 : Int) (x2 : Int) (x3 : Int) (x4 : Int) (m : MM), P_X5_isThere_61 Q K2 n x1 x2 x3 x4 m → B f M_X5_isThere 61 [vR 372, vI x1, vR x2, vI x3, vI x4] [] m Q T := by
  intro n
  induction n with
  | zero => intro x1 x2 x3 x4 m h; exact h.elim
  | succ n ih =>
    intro x1 x2 x3 x4 m h
    have h : (RI x3) ∧ (if x3 = 0 then P_X5_isThere_185 Q K2 x1 x3 m else (isTx (m 372 1)) ∧ (RI x4) ∧ (RI (m (m 372 1) 5)) ∧ (if (m (m 372 1) 5) < x4 then P_X5_isThere_185 Q K2 x1 x3 m else (isTx x2) ∧ (0 ≤ x4 ∧ x4 < 4) ∧ (RI (m (x2 + 13) x4)) ∧ (RI (m ((m 372 1) + 13) x4)) ∧ (if (m (x2 + 13) x4) = (m ((m 372 1) + 13) x4) then (if (m ((m 372 1) + 13) x4) = 0 then (RI (m (x2 + 14) x4)) ∧ (RI (m ((m 372 1) + 14) x4)) ∧ (if (m (x2 + 14) x4) = (m ((m 372 1) + 14) x4) then P_X5_isThere_173 Q K2 (fun z0 z1 z2 z3 z4 => P_X5_isThere_61 Q K2 n z0 z1 z2 z3 z4) x1 x2 x4 m else P_X5_isThere_61 Q K2 n x1 x2 0 (x4 + 1) m) else (RI (m (x2 + 15) x4)) ∧ (RI (m ((m 372 1) + 15) x4)) ∧ (if (m (x2 + 15) x4) = (m ((m 372 1) + 15) x4) then (RI (m (x2 + 16) x4)) ∧ (RI (m ((m 372 1) + 16) x4)) ∧ (if (m (x2 + 16) x4) = (m ((m 372 1) + 16) x4) then P_X5_isThere_173 Q K2 (fun z0 z1 z2 z3 z4 => P_X5_isThere_61 Q K2 n z0 z1 z2 z3 z4) x1 x2 x4 m else P_X5_isThere_61 Q K2 n x1 x2 0 (x4 + 1) m) else P_X5_isThere_61 Q K2 n x1 x2 0 (x4 + 1) m)) else P_X5_isThere_61 Q K2 n x1 x2 0 (x4 + 1) m))) := h
    refine b_iload_n dX5_isThere_61 rfl ?_
    obtain ⟨g1, h⟩ := h
    refine b_if_eq 185 dX5_isThere_62 g1 (by decide) (fun c1 => ?_) (fun c1 => ?_)
    · have h := ifT c1 h
      refine b_fgt [true, true, false, true, false] (ls' := [vR 372, vI x1, vU, vI x3, vU]) rfl rfl ?_
      exact pl_X5_isThere_185 hf hK2 _ _ _ h
    · have h := ifF c1 h
      refine b_iload dX5_isThere_65 rfl ?_
      refine b_aload_n dX5_isThere_67 rfl ?_
      refine b_getM dX5_isThere_68 fk_X5_26 ly_372 ?_
      obtain ⟨g2, h⟩ := h
      refine b_getI dX5_isThere_71 fk_X5_93 (tx_ly0 g2) ?_
      obtain ⟨g3, h⟩ := h
      obtain ⟨g4, h⟩ := h
      refine b_icmp_gt 185 dX5_isThere_74 g3 g4 (by decide) (fun c2 => ?_) (fun c2 => ?_)
      · have h := ifT c2 h
        refine b_fgt [true, true, false, true, false] (ls' := [vR 372, vI x1, vU, vI x3, vU]) rfl rfl ?_
        exact pl_X5_isThere_185 hf hK2 _ _ _ h
      · have h := ifF c2 h
        refine b_aload_n dX5_isThere_77 rfl ?_
        obtain ⟨g5, h⟩ := h
        refine b_getR dX5_isThere_78 fk_X5_103 (tx_ly0 g5) (tx_gg23 g5) ?_
        refine b_iload dX5_isThere_81 rfl ?_
        obtain ⟨g6, h⟩ := h
        refine b_zald dX5_isThere_83 (tx_ly13 g5) g6 ?_
        refine b_aload_n dX5_isThere_84 rfl ?_
        refine b_getM dX5_isThere_85 fk_X5_26 ly_372 ?_
        refine b_getR dX5_isThere_88 fk_X5_103 (tx_ly0 g2) (tx_gg23 g2) ?_
        refine b_iload dX5_isThere_91 rfl ?_
        refine b_zald dX5_isThere_93 (tx_ly13 g2) g6 ?_
        obtain ⟨g7, h⟩ := h
        obtain ⟨g8, h⟩ := h
        refine b_icmp_ne 177 dX5_isThere_94 g7 g8 (by decide) (fun c3 => ?_) (fun c3 => ?_)
        · have h := ifF c3 h
          refine b_iconst dX5_isThere_177 ?_
          refine b_istore_n (ls' := [vR 372, vI x1, vR x2, vI 0, vI x4]) dX5_isThere_178 (Nat.le_of_ble_eq_true rfl) rfl ?_
          refine b_iinc (ls' := [vR 372, vI x1, vR x2, vI 0, vI (x4 + 1)]) dX5_isThere_179 rfl rfl ?_
          refine b_goto 61 dX5_isThere_182 (by decide) ?_
          exact ih _ _ _ _ _ h
        · have h := ifT (Decidable.of_not_not c3) h
          refine b_aload_n dX5_isThere_97 rfl ?_
          refine b_getM dX5_isThere_98 fk_X5_26 ly_372 ?_
          refine b_getR dX5_isThere_101 fk_X5_103 (tx_ly0 g2) (tx_gg23 g2) ?_
          refine b_iload dX5_isThere_104 rfl ?_
          refine b_zald dX5_isThere_106 (tx_ly13 g2) g6 ?_
          refine b_if_eq 153 dX5_isThere_107 g8 (by decide) (fun c4 => ?_) (fun c4 => ?_)
          · have h := ifT c4 h
            refine b_aload_n dX5_isThere_153 rfl ?_
            refine b_getR dX5_isThere_154 fk_X5_131 (tx_ly0 g5) (tx_gg24 g5) ?_
            refine b_iload dX5_isThere_157 rfl ?_
            refine b_iald dX5_isThere_159 (tx_ly14 g5) g6 ?_
            refine b_aload_n dX5_isThere_160 rfl ?_
            refine b_getM dX5_isThere_161 fk_X5_26 ly_372 ?_
            refine b_getR dX5_isThere_164 fk_X5_131 (tx_ly0 g2) (tx_gg24 g2) ?_
            refine b_iload dX5_isThere_167 rfl ?_
            refine b_iald dX5_isThere_169 (tx_ly14 g2) g6 ?_
            obtain ⟨g9, h⟩ := h
            obtain ⟨g10, h⟩ := h
            refine b_icmp_ne 177 dX5_isThere_170 g9 g10 (by decide) (fun c5 => ?_) (fun c5 => ?_)
            · have h := ifF c5 h
              refine b_iconst dX5_isThere_177 ?_
              refine b_istore_n (ls' := [vR 372, vI x1, vR x2, vI 0, vI x4]) dX5_isThere_178 (Nat.le_of_ble_eq_true rfl) rfl ?_
              refine b_iinc (ls' := [vR 372, vI x1, vR x2, vI 0, vI (x4 + 1)]) dX5_isThere_179 rfl rfl ?_
              refine b_goto 61 dX5_isThere_182 (by decide) ?_
              exact ih _ _ _ _ _ h
            · have h := ifT (Decidable.of_not_not c5) h
              refine b_fgt [true, true, true, false, true] (ls' := [vR 372, vI x1, vR x2, vU, vI x4]) rfl rfl ?_
              exact pl_X5_isThere_173 hf hK2 (fun _ _ _ _ _ h => ih _ _ _ _ _ h) _ _ _ _ h
          · have h := ifF c4 h
            refine b_aload_n dX5_isThere_110 rfl ?_
            refine b_getR dX5_isThere_111 fk_X5_137 (tx_ly0 g5) (tx_gg25 g5) ?_
            refine b_iload dX5_isThere_114 rfl ?_
            refine b_iald dX5_isThere_116 (tx_ly15 g5) g6 ?_
            refine b_aload_n dX5_isThere_117 rfl ?_
            refine b_getM dX5_isThere_118 fk_X5_26 ly_372 ?_
            refine b_getR dX5_isThere_121 fk_X5_137 (tx_ly0 g2) (tx_gg25 g2) ?_
            refine b_iload dX5_isThere_124 rfl ?_
            refine b_iald dX5_isThere_126 (tx_ly15 g2) g6 ?_
            obtain ⟨g11, h⟩ := h
            obtain ⟨g12, h⟩ := h
            refine b_icmp_ne 177 dX5_isThere_127 g11 g12 (by decide) (fun c6 => ?_) (fun c6 => ?_)
            · have h := ifF c6 h
              refine b_iconst dX5_isThere_177 ?_
              refine b_istore_n (ls' := [vR 372, vI x1, vR x2, vI 0, vI x4]) dX5_isThere_178 (Nat.le_of_ble_eq_true rfl) rfl ?_
              refine b_iinc (ls' := [vR 372, vI x1, vR x2, vI 0, vI (x4 + 1)]) dX5_isThere_179 rfl rfl ?_
              refine b_goto 61 dX5_isThere_182 (by decide) ?_
              exact ih _ _ _ _ _ h
            · have h := ifT (Decidable.of_not_not c6) h
              refine b_aload_n dX5_isThere_130 rfl ?_
              refine b_getR dX5_isThere_131 fk_X5_140 (tx_ly0 g5) (tx_gg26 g5) ?_
              refine b_iload dX5_isThere_134 rfl ?_
              refine b_iald dX5_isThere_136 (tx_ly16 g5) g6 ?_
              refine b_aload_n dX5_isThere_137 rfl ?_
              refine b_getM dX5_isThere_138 fk_X5_26 ly_372 ?_
              refine b_getR dX5_isThere_141 fk_X5_140 (tx_ly0 g2) (tx_gg26 g2) ?_
              refine b_iload dX5_isThere_144 rfl ?_
              refine b_iald dX5_isThere_146 (tx_ly16 g2) g6 ?_
              obtain ⟨g13, h⟩ := h
              obtain ⟨g14, h⟩ := h
              refine b_icmp_ne 177 dX5_isThere_147 g13 g14 (by decide) (fun c7 => ?_) (fun c7 => ?_)
              · have h := ifF c7 h
                refine b_iconst dX5_isThere_177 ?_
                refine b_istore_n (ls' := [vR 372, vI x1, vR x2, vI 0, vI x4]) dX5_isThere_178 (Nat.le_of_ble_eq_true rfl) rfl ?_
                refine b_iinc (ls' := [vR 372, vI x1, vR x2, vI 0, vI (x4 + 1)]) dX5_isThere_179 rfl rfl ?_
                refine b_goto 61 dX5_isThere_182 (by decide) ?_
                exact ih _ _ _ _ _ h
              · have h := ifT (Decidable.of_not_not c7) h
                refine b_goto 173 dX5_isThere_150 (by decide) ?_
                refine b_fgt [true, true, true, false, true] (ls' := [vR 372, vI x1, vR x2, vU, vI x4]) rfl rfl ?_
                exact pl_X5_isThere_173 hf hK2 (fun _ _ _ _ _ h => ih _ _ _ _ _ h) _ _ _ _ h
theorem pl_X5_isThere_2 {f : Nat} {Q : Int → MM → Prop} {T : MM → Prop} (hf : 1 ≤ f) : ∀ (n : Nat) (x1 : Int) (m : MM), P_X5_isThere_2 Q n x1 m → B f M_X5_isThere 2 [vR 372, vI x1, vU, vU, vU] [] m Q T := by
  intro n
  induction n with
  | zero => intro x1 m h; exact h.elim
  | succ n ih =>
    intro x1 m h
    have h : (RI x1) ∧ (RI (m 3 1)) ∧ (if (m 3 1) ≤ x1 then Q 0 m else (0 ≤ x1 ∧ x1 < 21) ∧ (isTx (8 + 17 * x1)) ∧ (isTx (m 372 1)) ∧ (RL (m (8 + 17 * x1) 16)) ∧ (RL (m (m 372 1) 16)) ∧ (if (m (8 + 17 * x1) 16) = (m (m 372 1) 16) then (RI (m (8 + 17 * x1) 5)) ∧ (RI (m (m 372 1) 5)) ∧ (if (m (8 + 17 * x1) 5) = (m (m 372 1) 5) then ∃ nn, P_X5_isThere_61 Q (fun z0 z1 => P_X5_isThere_2 Q n z0 z1) nn x1 (8 + 17 * x1) 1 1 m else ∃ nn, P_X5_isThere_61 Q (fun z0 z1 => P_X5_isThere_2 Q n z0 z1) nn x1 (8 + 17 * x1) 0 1 m) else ∃ nn, P_X5_isThere_61 Q (fun z0 z1 => P_X5_isThere_2 Q n z0 z1) nn x1 (8 + 17 * x1) 0 1 m)) := h
    refine b_iload_n dX5_isThere_2 rfl ?_
    refine b_aload_n dX5_isThere_3 rfl ?_
    refine b_getR dX5_isThere_4 fk_X5_15 ly_372 gg_372_0 ?_
    refine b_getI dX5_isThere_7 fk_X5_37 ly_3 ?_
    obtain ⟨g1, h⟩ := h
    obtain ⟨g2, h⟩ := h
    refine b_icmp_ge 197 dX5_isThere_10 g1 g2 (by decide) (fun c1 => ?_) (fun c1 => ?_)
    · have h := ifT c1 h
      refine b_iconst dX5_isThere_197 ?_
      exact b_zret dX5_isThere_198 rfl (Or.inl rfl) h
    · have h := ifF c1 h
      refine b_aload_n dX5_isThere_13 rfl ?_
      refine b_getR dX5_isThere_14 fk_X5_15 ly_372 gg_372_0 ?_
      refine b_getR dX5_isThere_17 fk_X5_151 ly_3 gg_3_0 ?_
      refine b_iload_n dX5_isThere_20 rfl ?_
      obtain ⟨g3, h⟩ := h
      refine b_aald dX5_isThere_21 ly_4 (Or.inl rfl) g3 (gg_told _) ?_
      refine b_astore_n (ls' := [vR 372, vI x1, vR (8 + 17 * x1), vU, vU]) dX5_isThere_22 (Nat.le_of_ble_eq_true rfl) rfl ?_
      refine b_aload_n dX5_isThere_23 rfl ?_
      obtain ⟨g4, h⟩ := h
      refine b_getL dX5_isThere_24 fk_X5_73 (tx_ly0 g4) ?_
      refine b_aload_n dX5_isThere_27 rfl ?_
      refine b_getM dX5_isThere_28 fk_X5_26 ly_372 ?_
      obtain ⟨g5, h⟩ := h
      refine b_getL dX5_isThere_31 fk_X5_73 (tx_ly0 g5) ?_
      obtain ⟨g6, h⟩ := h
      obtain ⟨g7, h⟩ := h
      refine b_lc_ne 56 dX5_isThere_34 dX5_isThere_35 g6 g7 (by decide) (fun c2 => ?_) (fun c2 => ?_)
      · have h := ifF c2 h
        refine b_iconst dX5_isThere_56 ?_
        refine b_istore_n (ls' := [vR 372, vI x1, vR (8 + 17 * x1), vI 0, vU]) dX5_isThere_57 (Nat.le_of_ble_eq_true rfl) rfl ?_
        refine b_iconst dX5_isThere_58 ?_
        refine b_istore (ls' := [vR 372, vI x1, vR (8 + 17 * x1), vI 0, vI 1]) dX5_isThere_59 (Nat.le_of_ble_eq_true rfl) rfl ?_
        obtain ⟨nn, h⟩ := h
        exact pl_X5_isThere_61 hf (fun _ _ h => ih _ _ h) nn _ _ _ _ _ h
      · have h := ifT (Decidable.of_not_not c2) h
        refine b_aload_n dX5_isThere_38 rfl ?_
        refine b_getI dX5_isThere_39 fk_X5_93 (tx_ly0 g4) ?_
        refine b_aload_n dX5_isThere_42 rfl ?_
        refine b_getM dX5_isThere_43 fk_X5_26 ly_372 ?_
        refine b_getI dX5_isThere_46 fk_X5_93 (tx_ly0 g5) ?_
        obtain ⟨g8, h⟩ := h
        obtain ⟨g9, h⟩ := h
        refine b_icmp_ne 56 dX5_isThere_49 g8 g9 (by decide) (fun c3 => ?_) (fun c3 => ?_)
        · have h := ifF c3 h
          refine b_iconst dX5_isThere_56 ?_
          refine b_istore_n (ls' := [vR 372, vI x1, vR (8 + 17 * x1), vI 0, vU]) dX5_isThere_57 (Nat.le_of_ble_eq_true rfl) rfl ?_
          refine b_iconst dX5_isThere_58 ?_
          refine b_istore (ls' := [vR 372, vI x1, vR (8 + 17 * x1), vI 0, vI 1]) dX5_isThere_59 (Nat.le_of_ble_eq_true rfl) rfl ?_
          obtain ⟨nn, h⟩ := h
          exact pl_X5_isThere_61 hf (fun _ _ h => ih _ _ h) nn _ _ _ _ _ h
        · have h := ifT (Decidable.of_not_not c3) h
          refine b_iconst dX5_isThere_52 ?_
          refine b_goto 57 dX5_isThere_53 (by decide) ?_
          refine b_istore_n (ls' := [vR 372, vI x1, vR (8 + 17 * x1), vI 1, vU]) dX5_isThere_57 (Nat.le_of_ble_eq_true rfl) rfl ?_
          refine b_iconst dX5_isThere_58 ?_
          refine b_istore (ls' := [vR 372, vI x1, vR (8 + 17 * x1), vI 1, vI 1]) dX5_isThere_59 (Nat.le_of_ble_eq_true rfl) rfl ?_
          obtain ⟨nn, h⟩ := h
          exact pl_X5_isThere_61 hf (fun _ _ h => ih _ _ h) nn _ _ _ _ _ h
theorem p_X5_isThere {f : Nat} {Q : Int → MM → Prop} {T : MM → Prop} (hf : 1 ≤ f) (m : MM) (h : P_X5_isThere m Q) : CC f M_X5_isThere [vR 372] m Q T := by
  refine CC.of (plainFor_of_name (by decide)) (Nat.le_of_ble_eq_true rfl) (ls := [vR 372, vU, vU, vU, vU]) rfl ?_
  have h : ∃ nn, P_X5_isThere_2 Q nn 0 m := h
  refine b_iconst dX5_isThere_0 ?_
  refine b_istore_n (ls' := [vR 372, vI 0, vU, vU, vU]) dX5_isThere_1 (Nat.le_of_ble_eq_true rfl) rfl ?_
  obtain ⟨nn, h⟩ := h
  exact pl_X5_isThere_2 hf nn _ _ h
theorem dX5_shape_0 : decode cX5_shape 0 = .ok (.aload_n 0, 1) := by decide +kernel
theorem dX5_shape_1 : decode cX5_shape 1 = .ok (.getfield 26, 3) := by decide +kernel
theorem dX5_shape_4 : decode cX5_shape 4 = .ok (.getfield 131, 3) := by decide +kernel
theorem dX5_shape_7 : decode cX5_shape 7 = .ok (.iload_n 1, 1) := by decide +kernel
theorem dX5_shape_8 : decode cX5_shape 8 = .ok (.aload_n 0, 1) := by decide +kernel
theorem dX5_shape_9 : decode cX5_shape 9 = .ok (.iload_n 2, 1) := by decide +kernel
theorem dX5_shape_10 : decode cX5_shape 10 = .ok (.invokevirtual 134, 3) := by decide +kernel
theorem dX5_shape_13 : decode cX5_shape 13 = .ok (.iastore, 1) := by decide +kernel
theorem dX5_shape_14 : decode cX5_shape 14 = .ok (.aload_n 0, 1) := by decide +kernel
theorem dX5_shape_15 : decode cX5_shape 15 = .ok (.getfield 26, 3) := by decide +kernel
theorem dX5_shape_18 : decode cX5_shape 18 = .ok (.getfield 137, 3) := by decide +kernel
theorem dX5_shape_21 : decode cX5_shape 21 = .ok (.iload_n 1, 1) := by decide +kernel
theorem dX5_shape_22 : decode cX5_shape 22 = .ok (.iconst 0, 1) := by decide +kernel
theorem dX5_shape_23 : decode cX5_shape 23 = .ok (.iastore, 1) := by decide +kernel
theorem dX5_shape_24 : decode cX5_shape 24 = .ok (.aload_n 0, 1) := by decide +kernel
theorem dX5_shape_25 : decode cX5_shape 25 = .ok (.getfield 26, 3) := by decide +kernel
theorem dX5_shape_28 : decode cX5_shape 28 = .ok (.getfield 140, 3) := by decide +kernel
theorem dX5_shape_31 : decode cX5_shape 31 = .ok (.iload_n 1, 1) := by decide +kernel
theorem dX5_shape_32 : decode cX5_shape 32 = .ok (.iconst 0, 1) := by decide +kernel
theorem dX5_shape_33 : decode cX5_shape 33 = .ok (.iastore, 1) := by decide +kernel
theorem dX5_shape_34 : decode cX5_shape 34 = .ok (.iload_n 2, 1) := by decide +kernel
theorem dX5_shape_35 : decode cX5_shape 35 = .ok (.istore_n 3, 1) := by decide +kernel
theorem dX5_shape_36 : decode cX5_shape 36 = .ok (.aload_n 0, 1) := by decide +kernel
theorem dX5_shape_37 : decode cX5_shape 37 = .ok (.getfield 26, 3) := by decide +kernel
theorem dX5_shape_40 : decode cX5_shape 40 = .ok (.getfield 143, 3) := by decide +kernel
theorem dX5_shape_43 : decode cX5_shape 43 = .ok (.iload_n 3, 1) := by decide +kernel
theorem dX5_shape_44 : decode cX5_shape 44 = .ok (.iaload, 1) := by decide +kernel
theorem dX5_shape_45 : decode cX5_shape 45 = .ok (.bipush 34, 2) := by decide +kernel
theorem dX5_shape_47 : decode cX5_shape 47 = .ok (.if_icmp .eq 17, 3) := by decide +kernel
theorem dX5_shape_50 : decode cX5_shape 50 = .ok (.aload_n 0, 1) := by decide +kernel
theorem dX5_shape_51 : decode cX5_shape 51 = .ok (.getfield 26, 3) := by decide +kernel
theorem dX5_shape_54 : decode cX5_shape 54 = .ok (.getfield 143, 3) := by decide +kernel
theorem dX5_shape_57 : decode cX5_shape 57 = .ok (.iload_n 3, 1) := by decide +kernel
theorem dX5_shape_58 : decode cX5_shape 58 = .ok (.iaload, 1) := by decide +kernel
theorem dX5_shape_59 : decode cX5_shape 59 = .ok (.bipush 35, 2) := by decide +kernel
theorem dX5_shape_61 : decode cX5_shape 61 = .ok (.if_icmp .ne 64, 3) := by decide +kernel
theorem dX5_shape_64 : decode cX5_shape 64 = .ok (.aload_n 0, 1) := by decide +kernel
theorem dX5_shape_65 : decode cX5_shape 65 = .ok (.getfield 26, 3) := by decide +kernel
theorem dX5_shape_68 : decode cX5_shape 68 = .ok (.getfield 143, 3) := by decide +kernel
theorem dX5_shape_71 : decode cX5_shape 71 = .ok (.iload_n 3, 1) := by decide +kernel
theorem dX5_shape_72 : decode cX5_shape 72 = .ok (.iaload, 1) := by decide +kernel
theorem dX5_shape_73 : decode cX5_shape 73 = .ok (.bipush 34, 2) := by decide +kernel
theorem dX5_shape_75 : decode cX5_shape 75 = .ok (.if_icmp .ne 19, 3) := by decide +kernel
theorem dX5_shape_78 : decode cX5_shape 78 = .ok (.aload_n 0, 1) := by decide +kernel
theorem dX5_shape_79 : decode cX5_shape 79 = .ok (.getfield 26, 3) := by decide +kernel
theorem dX5_shape_82 : decode cX5_shape 82 = .ok (.getfield 137, 3) := by decide +kernel
theorem dX5_shape_85 : decode cX5_shape 85 = .ok (.iload_n 1, 1) := by decide +kernel
theorem dX5_shape_86 : decode cX5_shape 86 = .ok (.dup2, 1) := by decide +kernel
theorem dX5_shape_87 : decode cX5_shape 87 = .ok (.iaload, 1) := by decide +kernel
theorem dX5_shape_88 : decode cX5_shape 88 = .ok (.iconst 1, 1) := by decide +kernel
theorem dX5_shape_89 : decode cX5_shape 89 = .ok (.iadd, 1) := by decide +kernel
theorem dX5_shape_90 : decode cX5_shape 90 = .ok (.iastore, 1) := by decide +kernel
theorem dX5_shape_91 : decode cX5_shape 91 = .ok (.goto 21, 3) := by decide +kernel
theorem dX5_shape_94 : decode cX5_shape 94 = .ok (.aload_n 0, 1) := by decide +kernel
theorem dX5_shape_95 : decode cX5_shape 95 = .ok (.getfield 26, 3) := by decide +kernel
theorem dX5_shape_98 : decode cX5_shape 98 = .ok (.getfield 140, 3) := by decide +kernel
theorem dX5_shape_101 : decode cX5_shape 101 = .ok (.iload_n 1, 1) := by decide +kernel
theorem dX5_shape_102 : decode cX5_shape 102 = .ok (.aload_n 0, 1) := by decide +kernel
theorem dX5_shape_103 : decode cX5_shape 103 = .ok (.getfield 26, 3) := by decide +kernel
theorem dX5_shape_106 : decode cX5_shape 106 = .ok (.getfield 146, 3) := by decide +kernel
theorem dX5_shape_109 : decode cX5_shape 109 = .ok (.iload_n 3, 1) := by decide +kernel
theorem dX5_shape_110 : decode cX5_shape 110 = .ok (.iaload, 1) := by decide +kernel
theorem dX5_shape_111 : decode cX5_shape 111 = .ok (.iastore, 1) := by decide +kernel
theorem dX5_shape_112 : decode cX5_shape 112 = .ok (.aload_n 0, 1) := by decide +kernel
theorem dX5_shape_113 : decode cX5_shape 113 = .ok (.getfield 26, 3) := by decide +kernel
theorem dX5_shape_116 : decode cX5_shape 116 = .ok (.getfield 149, 3) := by decide +kernel
theorem dX5_shape_119 : decode cX5_shape 119 = .ok (.iload_n 3, 1) := by decide +kernel
theorem dX5_shape_120 : decode cX5_shape 120 = .ok (.iaload, 1) := by decide +kernel
theorem dX5_shape_121 : decode cX5_shape 121 = .ok (.istore_n 3, 1) := by decide +kernel
theorem dX5_shape_122 : decode cX5_shape 122 = .ok (.goto (-86), 3) := by decide +kernel
theorem dX5_shape_125 : decode cX5_shape 125 = .ok (.aload_n 0, 1) := by decide +kernel
theorem dX5_shape_126 : decode cX5_shape 126 = .ok (.getfield 26, 3) := by decide +kernel
theorem dX5_shape_129 : decode cX5_shape 129 = .ok (.getfield 103, 3) := by decide +kernel
theorem dX5_shape_132 : decode cX5_shape 132 = .ok (.iload_n 1, 1) := by decide +kernel
theorem dX5_shape_133 : decode cX5_shape 133 = .ok (.aload_n 0, 1) := by decide +kernel
theorem dX5_shape_134 : decode cX5_shape 134 = .ok (.getfield 26, 3) := by decide +kernel
theorem dX5_shape_137 : decode cX5_shape 137 = .ok (.getfield 143, 3) := by decide +kernel
theorem dX5_shape_140 : decode cX5_shape 140 = .ok (.iload_n 3, 1) := by decide +kernel
theorem dX5_shape_141 : decode cX5_shape 141 = .ok (.iaload, 1) := by decide +kernel
theorem dX5_shape_142 : decode cX5_shape 142 = .ok (.bipush 32, 2) := by decide +kernel
theorem dX5_shape_144 : decode cX5_shape 144 = .ok (.if_icmp .ne 7, 3) := by decide +kernel
theorem dX5_shape_147 : decode cX5_shape 147 = .ok (.iconst 1, 1) := by decide +kernel
theorem dX5_shape_148 : decode cX5_shape 148 = .ok (.goto 4, 3) := by decide +kernel
theorem dX5_shape_151 : decode cX5_shape 151 = .ok (.iconst 0, 1) := by decide +kernel
theorem dX5_shape_152 : decode cX5_shape 152 = .ok (.bastore, 1) := by decide +kernel
theorem dX5_shape_153 : decode cX5_shape 153 = .ok (.aload_n 0, 1) := by decide +kernel
theorem dX5_shape_154 : decode cX5_shape 154 = .ok (.getfield 26, 3) := by decide +kernel
theorem dX5_shape_157 : decode cX5_shape 157 = .ok (.getfield 131, 3) := by decide +kernel
theorem dX5_shape_160 : decode cX5_shape 160 = .ok (.iload_n 1, 1) := by decide +kernel
theorem dX5_shape_161 : decode cX5_shape 161 = .ok (.iaload, 1) := by decide +kernel
theorem dX5_shape_162 : decode cX5_shape 162 = .ok (.bipush (-3), 2) := by decide +kernel
theorem dX5_shape_164 : decode cX5_shape 164 = .ok (.if_icmp .eq 7, 3) := by decide +kernel
theorem dX5_shape_167 : decode cX5_shape 167 = .ok (.iconst 1, 1) := by decide +kernel
theorem dX5_shape_168 : decode cX5_shape 168 = .ok (.goto 4, 3) := by decide +kernel
theorem dX5_shape_171 : decode cX5_shape 171 = .ok (.iconst 0, 1) := by decide +kernel
theorem dX5_shape_172 : decode cX5_shape 172 = .ok (.ireturn, 1) := by decide +kernel
/-! AlgebraHouse$Judge.shape(II)Z -/
def P_X5_shape_112 (Q : Int → MM → Prop) (K36 : Int → Int → MM → Prop) (x1 : Int) (x3 : Int) (m : MM) : Prop := (isTx (m 372 1)) ∧ (0 ≤ x3 ∧ x3 < 160) ∧ K36 x1 (m ((m 372 1) + 2) x3) m
def P_X5_shape_64 (Q : Int → MM → Prop) (K36 : Int → Int → MM → Prop) (x1 : Int) (x3 : Int) (m : MM) : Prop := (isTx (m 372 1)) ∧ (0 ≤ x3 ∧ x3 < 160) ∧ (RI (m ((m 372 1) + 1) x3)) ∧ (if (m ((m 372 1) + 1) x3) = 34 then (0 ≤ x1 ∧ x1 < 4) ∧ ∀ m2 : MM, m2 = up m ((m 372 1) + 15) x1 ((m ((m 372 1) + 15) x1) + 1) → P_X5_shape_112 Q K36 x1 x3 m2 else (0 ≤ x1 ∧ x1 < 4) ∧ ∀ m1 : MM, m1 = up m ((m 372 1) + 16) x1 (m ((m 372 1) + 4) x3) → P_X5_shape_112 Q K36 x1 x3 m1)
def P_X5_shape_125 (Q : Int → MM → Prop) (x1 : Int) (x3 : Int) (m : MM) : Prop := (isTx (m 372 1)) ∧ (0 ≤ x3 ∧ x3 < 160) ∧ ((RI (m ((m 372 1) + 1) x3))) ∧ (0 ≤ x1 ∧ x1 < 4) ∧ ((if (m ((m 372 1) + 1) x3) = 32 then 1 else 0 : Int) = 0 ∨ (if (m ((m 372 1) + 1) x3) = 32 then 1 else 0 : Int) = 1) ∧ ∀ m1 : MM, m1 = up m ((m 372 1) + 13) x1 (if (m ((m 372 1) + 1) x3) = 32 then 1 else 0 : Int) → (isTx (m1 372 1)) ∧ (RI (m1 ((m1 372 1) + 14) x1)) ∧ (if (m1 ((m1 372 1) + 14) x1) = (-3) then Q 0 m1 else Q 1 m1)
def P_X5_shape_36 (Q : Int → MM → Prop) : Nat → Int → Int → MM → Prop
  | 0, _, _, _ => False
  | n + 1, x1, x3, m => (isTx (m 372 1)) ∧ (0 ≤ x3 ∧ x3 < 160) ∧ (RI (m ((m 372 1) + 1) x3)) ∧ (if (m ((m 372 1) + 1) x3) = 34 then P_X5_shape_64 Q (fun z0 z1 z2 => P_X5_shape_36 Q n z0 z1 z2) x1 x3 m else (if (m ((m 372 1) + 1) x3) = 35 then P_X5_shape_64 Q (fun z0 z1 z2 => P_X5_shape_36 Q n z0 z1 z2) x1 x3 m else P_X5_shape_125 Q x1 x3 m))
def P_X5_shape (x1 : Int) (x2 : Int) (m : MM) (Q : Int → MM → Prop) : Prop := (isTx (m 372 1)) ∧ R_X5_type 40 1 [x2] m (fun r1 m1 => (0 ≤ x1 ∧ x1 < 4) ∧ ∀ m2 : MM, m2 = up m1 ((m 372 1) + 14) x1 r1 → (isTx (m2 372 1)) ∧ ∀ m3 : MM, m3 = up m2 ((m2 372 1) + 15) x1 0 → (isTx (m3 372 1)) ∧ ∀ m4 : MM, m4 = up m3 ((m3 372 1) + 16) x1 0 → ∃ nn, P_X5_shape_36 Q nn x1 x2 m4) (fun _ => False)
theorem pl_X5_shape_112 {f : Nat} {Q : Int → MM → Prop} {T : MM → Prop} (hf : 43 ≤ f) {K36 : Int → Int → MM → Prop} (hK36 : ∀ (x1 : Int) (x3 : Int) (m : MM), K36 x1 x3 m → B f M_X5_shape 36 [vR 372, vI x1, vU, vI x3] [] m Q T) : ∀ (x1 : Int) (x3 : Int) (m : MM), P_X5_shape_112 Q K36 x1 x3 m → B f M_X5_shape 112 [vR 372, vI x1, vU, vI x3] [] m Q T := by
  intro x1 x3 m h
  have h : (isTx (m 372 1)) ∧ (0 ≤ x3 ∧ x3 < 160) ∧ K36 x1 (m ((m 372 1) + 2) x3) m := h
  refine b_aload_n dX5_shape_112 rfl ?_
  refine b_getM dX5_shape_113 fk_X5_26 ly_372 ?_
  obtain ⟨g1, h⟩ := h
  refine b_getR dX5_shape_116 fk_X5_149 (tx_ly0 g1) (tx_gg8 g1) ?_
  refine b_iload_n dX5_shape_119 rfl ?_
  obtain ⟨g2, h⟩ := h
  refine b_iald dX5_shape_120 (tx_ly2 g1) g2 ?_
  refine b_istore_n (ls' := [vR 372, vI x1, vU, vI (m ((m 372 1) + 2) x3)]) dX5_shape_121 (Nat.le_of_ble_eq_true rfl) rfl ?_
  refine b_goto 36 dX5_shape_122 (by decide) ?_
  exact hK36 _ _ _ h
theorem pl_X5_shape_64 {f : Nat} {Q : Int → MM → Prop} {T : MM → Prop} (hf : 43 ≤ f) {K36 : Int → Int → MM → Prop} (hK36 : ∀ (x1 : Int) (x3 : Int) (m : MM), K36 x1 x3 m → B f M_X5_shape 36 [vR 372, vI x1, vU, vI x3] [] m Q T) : ∀ (x1 : Int) (x3 : Int) (m : MM), P_X5_shape_64 Q K36 x1 x3 m → B f M_X5_shape 64 [vR 372, vI x1, vU, vI x3] [] m Q T := by
  intro x1 x3 m h
  have h : (isTx (m 372 1)) ∧ (0 ≤ x3 ∧ x3 < 160) ∧ (RI (m ((m 372 1) + 1) x3)) ∧ (if (m ((m 372 1) + 1) x3) = 34 then (0 ≤ x1 ∧ x1 < 4) ∧ ∀ m2 : MM, m2 = up m ((m 372 1) + 15) x1 ((m ((m 372 1) + 15) x1) + 1) → P_X5_shape_112 Q K36 x1 x3 m2 else (0 ≤ x1 ∧ x1 < 4) ∧ ∀ m1 : MM, m1 = up m ((m 372 1) + 16) x1 (m ((m 372 1) + 4) x3) → P_X5_shape_112 Q K36 x1 x3 m1) := h
  refine b_aload_n dX5_shape_64 rfl ?_
  refine b_getM dX5_shape_65 fk_X5_26 ly_372 ?_
  obtain ⟨g1, h⟩ := h
  refine b_getR dX5_shape_68 fk_X5_143 (tx_ly0 g1) (tx_gg7 g1) ?_
  refine b_iload_n dX5_shape_71 rfl ?_
  obtain ⟨g2, h⟩ := h
  refine b_iald dX5_shape_72 (tx_ly1 g1) g2 ?_
  refine b_bipush dX5_shape_73 (by decide) ?_
  obtain ⟨g3, h⟩ := h
  refine b_icmp_ne 94 dX5_shape_75 g3 (by decide) (by decide) (fun c1 => ?_) (fun c1 => ?_)
  · have h := ifF c1 h
    refine b_aload_n dX5_shape_94 rfl ?_
    refine b_getM dX5_shape_95 fk_X5_26 ly_372 ?_
    refine b_getR dX5_shape_98 fk_X5_140 (tx_ly0 g1) (tx_gg26 g1) ?_
    refine b_iload_n dX5_shape_101 rfl ?_
    refine b_aload_n dX5_shape_102 rfl ?_
    refine b_getM dX5_shape_103 fk_X5_26 ly_372 ?_
    refine b_getR dX5_shape_106 fk_X5_146 (tx_ly0 g1) (tx_gg10 g1) ?_
    refine b_iload_n dX5_shape_109 rfl ?_
    refine b_iald dX5_shape_110 (tx_ly4 g1) g2 ?_
    obtain ⟨g4, h⟩ := h
    refine b_iast dX5_shape_111 (tx_ly16 g1) g4 (fun m1 em1 => ?_)
    have h := h m1 em1
    exact pl_X5_shape_112 hf hK36 _ _ _ h
  · have h := ifT (Decidable.of_not_not c1) h
    refine b_aload_n dX5_shape_78 rfl ?_
    refine b_getM dX5_shape_79 fk_X5_26 ly_372 ?_
    refine b_getR dX5_shape_82 fk_X5_137 (tx_ly0 g1) (tx_gg25 g1) ?_
    refine b_iload_n dX5_shape_85 rfl ?_
    refine b_dup2 dX5_shape_86 rfl rfl ?_
    obtain ⟨g5, h⟩ := h
    refine b_iald dX5_shape_87 (tx_ly15 g1) g5 ?_
    refine b_iconst dX5_shape_88 ?_
    refine b_iadd dX5_shape_89 ?_
    refine b_iast dX5_shape_90 (tx_ly15 g1) g5 (fun m2 em2 => ?_)
    have h := h m2 em2
    refine b_goto 112 dX5_shape_91 (by decide) ?_
    exact pl_X5_shape_112 hf hK36 _ _ _ h
theorem pl_X5_shape_125 {f : Nat} {Q : Int → MM → Prop} {T : MM → Prop} (hf : 43 ≤ f) : ∀ (x1 : Int) (x3 : Int) (m : MM), P_X5_shape_125 Q x1 x3 m → B f M_X5_shape 125 [vR 372, vI x1, vU, vI x3] [] m Q T := by
  intro x1 x3 m h
  have h : (isTx (m 372 1)) ∧ (0 ≤ x3 ∧ x3 < 160) ∧ ((RI (m ((m 372 1) + 1) x3))) ∧ (0 ≤ x1 ∧ x1 < 4) ∧ ((if (m ((m 372 1) + 1) x3) = 32 then 1 else 0 : Int) = 0 ∨ (if (m ((m 372 1) + 1) x3) = 32 then 1 else 0 : Int) = 1) ∧ ∀ m1 : MM, m1 = up m ((m 372 1) + 13) x1 (if (m ((m 372 1) + 1) x3) = 32 then 1 else 0 : Int) → (isTx (m1 372 1)) ∧ (RI (m1 ((m1 372 1) + 14) x1)) ∧ (if (m1 ((m1 372 1) + 14) x1) = (-3) then Q 0 m1 else Q 1 m1) := h
  refine b_aload_n dX5_shape_125 rfl ?_
  refine b_getM dX5_shape_126 fk_X5_26 ly_372 ?_
  obtain ⟨g1, h⟩ := h
  refine b_getR dX5_shape_129 fk_X5_103 (tx_ly0 g1) (tx_gg23 g1) ?_
  refine b_iload_n dX5_shape_132 rfl ?_
  refine b_aload_n dX5_shape_133 rfl ?_
  refine b_getM dX5_shape_134 fk_X5_26 ly_372 ?_
  refine b_getR dX5_shape_137 fk_X5_143 (tx_ly0 g1) (tx_gg7 g1) ?_
  refine b_iload_n dX5_shape_140 rfl ?_
  obtain ⟨g2, h⟩ := h
  refine b_iald dX5_shape_141 (tx_ly1 g1) g2 ?_
  refine b_bipush dX5_shape_142 (by decide) ?_
  obtain ⟨hs, h⟩ := h
  have K : B f M_X5_shape 152 [vR 372, vI x1, vU, vI x3] [vI (if (m ((m 372 1) + 1) x3) = 32 then 1 else 0 : Int), vI x1, vR ((m 372 1) + 13)] m Q T := by
    clear hs
    obtain ⟨g4, h⟩ := h
    obtain ⟨g5, h⟩ := h
    refine b_zast dX5_shape_152 (tx_ly13 g1) g4 g5 (fun m1 em1 => ?_)
    have h := h m1 em1
    refine b_aload_n dX5_shape_153 rfl ?_
    refine b_getM dX5_shape_154 fk_X5_26 ly_372 ?_
    obtain ⟨g6, h⟩ := h
    refine b_getR dX5_shape_157 fk_X5_131 (tx_ly0 g6) (tx_gg24 g6) ?_
    refine b_iload_n dX5_shape_160 rfl ?_
    refine b_iald dX5_shape_161 (tx_ly14 g6) g4 ?_
    refine b_bipush dX5_shape_162 (by decide) ?_
    obtain ⟨g7, h⟩ := h
    refine b_icmp_eq 171 dX5_shape_164 g7 (by decide) (by decide) (fun c1 => ?_) (fun c1 => ?_)
    · have h := ifT c1 h
      refine b_iconst dX5_shape_171 ?_
      exact b_zret dX5_shape_172 rfl (Or.inl rfl) h
    · have h := ifF c1 h
      refine b_iconst dX5_shape_167 ?_
      refine b_goto 172 dX5_shape_168 (by decide) ?_
      exact b_zret dX5_shape_172 rfl (Or.inr rfl) h
  have g3 := hs
  refine b_icmp_ne 151 dX5_shape_144 g3 (by decide) (by decide) (fun c2 => ?_) (fun c2 => ?_)
  ·
    refine b_iconst dX5_shape_151 ?_
    rw [if_neg c2] at K
    exact K
  ·
    have c2 := Decidable.of_not_not c2
    refine b_iconst dX5_shape_147 ?_
    refine b_goto 152 dX5_shape_148 (by decide) ?_
    rw [if_pos c2] at K
    exact K
theorem pl_X5_shape_36 {f : Nat} {Q : Int → MM → Prop} {T : MM → Prop} (hf : 43 ≤ f) : ∀ (n : Nat) (x1 : Int) (x3 : Int) (m : MM), P_X5_shape_36 Q n x1 x3 m → B f M_X5_shape 36 [vR 372, vI x1, vU, vI x3] [] m Q T := by
  intro n
  induction n with
  | zero => intro x1 x3 m h; exact h.elim
  | succ n ih =>
    intro x1 x3 m h
    have h : (isTx (m 372 1)) ∧ (0 ≤ x3 ∧ x3 < 160) ∧ (RI (m ((m 372 1) + 1) x3)) ∧ (if (m ((m 372 1) + 1) x3) = 34 then P_X5_shape_64 Q (fun z0 z1 z2 => P_X5_shape_36 Q n z0 z1 z2) x1 x3 m else (if (m ((m 372 1) + 1) x3) = 35 then P_X5_shape_64 Q (fun z0 z1 z2 => P_X5_shape_36 Q n z0 z1 z2) x1 x3 m else P_X5_shape_125 Q x1 x3 m)) := h
    refine b_aload_n dX5_shape_36 rfl ?_
    refine b_getM dX5_shape_37 fk_X5_26 ly_372 ?_
    obtain ⟨g1, h⟩ := h
    refine b_getR dX5_shape_40 fk_X5_143 (tx_ly0 g1) (tx_gg7 g1) ?_
    refine b_iload_n dX5_shape_43 rfl ?_
    obtain ⟨g2, h⟩ := h
    refine b_iald dX5_shape_44 (tx_ly1 g1) g2 ?_
    refine b_bipush dX5_shape_45 (by decide) ?_
    obtain ⟨g3, h⟩ := h
    refine b_icmp_eq 64 dX5_shape_47 g3 (by decide) (by decide) (fun c1 => ?_) (fun c1 => ?_)
    · have h := ifT c1 h
      exact pl_X5_shape_64 hf (fun _ _ _ h => ih _ _ _ h) _ _ _ h
    · have h := ifF c1 h
      refine b_aload_n dX5_shape_50 rfl ?_
      refine b_getM dX5_shape_51 fk_X5_26 ly_372 ?_
      refine b_getR dX5_shape_54 fk_X5_143 (tx_ly0 g1) (tx_gg7 g1) ?_
      refine b_iload_n dX5_shape_57 rfl ?_
      refine b_iald dX5_shape_58 (tx_ly1 g1) g2 ?_
      refine b_bipush dX5_shape_59 (by decide) ?_
      refine b_icmp_ne 125 dX5_shape_61 g3 (by decide) (by decide) (fun c2 => ?_) (fun c2 => ?_)
      · have h := ifF c2 h
        exact pl_X5_shape_125 hf _ _ _ h
      · have h := ifT (Decidable.of_not_not c2) h
        exact pl_X5_shape_64 hf (fun _ _ _ h => ih _ _ _ h) _ _ _ h
theorem p_X5_shape {f : Nat} {Q : Int → MM → Prop} {T : MM → Prop} (hf : 43 ≤ f) (x1 : Int) (x2 : Int) (m : MM) (h : P_X5_shape x1 x2 m Q) : CC f M_X5_shape [vR 372, vI x1, vI x2] m Q T := by
  refine CC.of (plainFor_of_name (by decide)) (Nat.le_of_ble_eq_true rfl) (ls := [vR 372, vI x1, vI x2, vU]) rfl ?_
  have h : (isTx (m 372 1)) ∧ R_X5_type 40 1 [x2] m (fun r1 m1 => (0 ≤ x1 ∧ x1 < 4) ∧ ∀ m2 : MM, m2 = up m1 ((m 372 1) + 14) x1 r1 → (isTx (m2 372 1)) ∧ ∀ m3 : MM, m3 = up m2 ((m2 372 1) + 15) x1 0 → (isTx (m3 372 1)) ∧ ∀ m4 : MM, m4 = up m3 ((m3 372 1) + 16) x1 0 → ∃ nn, P_X5_shape_36 Q nn x1 x2 m4) (fun _ => False) := h
  refine b_aload_n dX5_shape_0 rfl ?_
  refine b_getM dX5_shape_1 fk_X5_26 ly_372 ?_
  obtain ⟨g1, h⟩ := h
  refine b_getR dX5_shape_4 fk_X5_131 (tx_ly0 g1) (tx_gg24 g1) ?_
  refine b_iload_n dX5_shape_7 rfl ?_
  refine b_aload_n dX5_shape_8 rfl ?_
  refine b_iload_n dX5_shape_9 rfl ?_
  refine b_cVi (as := [vI x2]) (st := [vI x1, vR ((m 372 1) + 14)]) dX5_shape_10 mf_X5_type q1053 lk_X5_134 ly_372 rfl ((pr_X5_type 40 42 (Nat.le_refl _)).2.1 _ _ _ _ h) (by omega) rfl rfl (Nat.le_of_ble_eq_true rfl) (by decide) rfl (fun _ => rfl) (fun r1 m1 h => ?_) (fun _ h => h.elim)
  obtain ⟨g2, h⟩ := h
  refine b_iast dX5_shape_13 (tx_ly14 g1) g2 (fun m2 em2 => ?_)
  have h := h m2 em2
  refine b_aload_n dX5_shape_14 rfl ?_
  refine b_getM dX5_shape_15 fk_X5_26 ly_372 ?_
  obtain ⟨g3, h⟩ := h
  refine b_getR dX5_shape_18 fk_X5_137 (tx_ly0 g3) (tx_gg25 g3) ?_
  refine b_iload_n dX5_shape_21 rfl ?_
  refine b_iconst dX5_shape_22 ?_
  refine b_iast dX5_shape_23 (tx_ly15 g3) g2 (fun m3 em3 => ?_)
  have h := h m3 em3
  refine b_aload_n dX5_shape_24 rfl ?_
  refine b_getM dX5_shape_25 fk_X5_26 ly_372 ?_
  obtain ⟨g4, h⟩ := h
  refine b_getR dX5_shape_28 fk_X5_140 (tx_ly0 g4) (tx_gg26 g4) ?_
  refine b_iload_n dX5_shape_31 rfl ?_
  refine b_iconst dX5_shape_32 ?_
  refine b_iast dX5_shape_33 (tx_ly16 g4) g2 (fun m4 em4 => ?_)
  have h := h m4 em4
  refine b_iload_n dX5_shape_34 rfl ?_
  refine b_istore_n (ls' := [vR 372, vI x1, vI x2, vI x2]) dX5_shape_35 (Nat.le_of_ble_eq_true rfl) rfl ?_
  refine b_fgt [true, true, false, true] (ls' := [vR 372, vI x1, vU, vI x2]) rfl rfl ?_
  obtain ⟨nn, h⟩ := h
  exact pl_X5_shape_36 hf nn _ _ _ h
theorem dX5_head_0 : decode cX5_head 0 = .ok (.aload_n 0, 1) := by decide +kernel
theorem dX5_head_1 : decode cX5_head 1 = .ok (.iconst 1, 1) := by decide +kernel
theorem dX5_head_2 : decode cX5_head 2 = .ok (.putfield 33, 3) := by decide +kernel
theorem dX5_head_5 : decode cX5_head 5 = .ok (.aload_n 0, 1) := by decide +kernel
theorem dX5_head_6 : decode cX5_head 6 = .ok (.aload_n 0, 1) := by decide +kernel
theorem dX5_head_7 : decode cX5_head 7 = .ok (.getfield 26, 3) := by decide +kernel
theorem dX5_head_10 : decode cX5_head 10 = .ok (.getfield 84, 3) := by decide +kernel
theorem dX5_head_13 : decode cX5_head 13 = .ok (.ifCond .le 12, 3) := by decide +kernel
theorem dX5_head_16 : decode cX5_head 16 = .ok (.iconst 0, 1) := by decide +kernel
theorem dX5_head_17 : decode cX5_head 17 = .ok (.iconst 0, 1) := by decide +kernel
theorem dX5_head_18 : decode cX5_head 18 = .ok (.iconst 0, 1) := by decide +kernel
theorem dX5_head_19 : decode cX5_head 19 = .ok (.invokestatic 89, 3) := by decide +kernel
theorem dX5_head_22 : decode cX5_head 22 = .ok (.goto 4, 3) := by decide +kernel
theorem dX5_head_25 : decode cX5_head 25 = .ok (.iconst (-1), 1) := by decide +kernel
theorem dX5_head_26 : decode cX5_head 26 = .ok (.putfield 30, 3) := by decide +kernel
theorem dX5_head_29 : decode cX5_head 29 = .ok (.iconst 0, 1) := by decide +kernel
theorem dX5_head_30 : decode cX5_head 30 = .ok (.istore_n 1, 1) := by decide +kernel
theorem dX5_head_31 : decode cX5_head 31 = .ok (.iconst 1, 1) := by decide +kernel
theorem dX5_head_32 : decode cX5_head 32 = .ok (.istore_n 2, 1) := by decide +kernel
theorem dX5_head_33 : decode cX5_head 33 = .ok (.iconst 0, 1) := by decide +kernel
theorem dX5_head_34 : decode cX5_head 34 = .ok (.istore_n 3, 1) := by decide +kernel
theorem dX5_head_35 : decode cX5_head 35 = .ok (.iconst 1, 1) := by decide +kernel
theorem dX5_head_36 : decode cX5_head 36 = .ok (.istore 4, 2) := by decide +kernel
theorem dX5_head_38 : decode cX5_head 38 = .ok (.iload 4, 2) := by decide +kernel
theorem dX5_head_40 : decode cX5_head 40 = .ok (.aload_n 0, 1) := by decide +kernel
theorem dX5_head_41 : decode cX5_head 41 = .ok (.getfield 26, 3) := by decide +kernel
theorem dX5_head_44 : decode cX5_head 44 = .ok (.getfield 93, 3) := by decide +kernel
theorem dX5_head_47 : decode cX5_head 47 = .ok (.if_icmp .gt 105, 3) := by decide +kernel
theorem dX5_head_50 : decode cX5_head 50 = .ok (.iload_n 2, 1) := by decide +kernel
theorem dX5_head_51 : decode cX5_head 51 = .ok (.aload_n 0, 1) := by decide +kernel
theorem dX5_head_52 : decode cX5_head 52 = .ok (.iload 4, 2) := by decide +kernel
theorem dX5_head_54 : decode cX5_head 54 = .ok (.aload_n 0, 1) := by decide +kernel
theorem dX5_head_55 : decode cX5_head 55 = .ok (.getfield 26, 3) := by decide +kernel
theorem dX5_head_58 : decode cX5_head 58 = .ok (.getfield 96, 3) := by decide +kernel
theorem dX5_head_61 : decode cX5_head 61 = .ok (.iload 4, 2) := by decide +kernel
theorem dX5_head_63 : decode cX5_head 63 = .ok (.iconst 1, 1) := by decide +kernel
theorem dX5_head_64 : decode cX5_head 64 = .ok (.isub, 1) := by decide +kernel
theorem dX5_head_65 : decode cX5_head 65 = .ok (.iaload, 1) := by decide +kernel
theorem dX5_head_66 : decode cX5_head 66 = .ok (.invokevirtual 99, 3) := by decide +kernel
theorem dX5_head_69 : decode cX5_head 69 = .ok (.iand, 1) := by decide +kernel
theorem dX5_head_70 : decode cX5_head 70 = .ok (.istore_n 2, 1) := by decide +kernel
theorem dX5_head_71 : decode cX5_head 71 = .ok (.iload_n 1, 1) := by decide +kernel
theorem dX5_head_72 : decode cX5_head 72 = .ok (.aload_n 0, 1) := by decide +kernel
theorem dX5_head_73 : decode cX5_head 73 = .ok (.getfield 26, 3) := by decide +kernel
theorem dX5_head_76 : decode cX5_head 76 = .ok (.getfield 103, 3) := by decide +kernel
theorem dX5_head_79 : decode cX5_head 79 = .ok (.iload 4, 2) := by decide +kernel
theorem dX5_head_81 : decode cX5_head 81 = .ok (.baload, 1) := by decide +kernel
theorem dX5_head_82 : decode cX5_head 82 = .ok (.ior, 1) := by decide +kernel
theorem dX5_head_83 : decode cX5_head 83 = .ok (.istore_n 1, 1) := by decide +kernel
theorem dX5_head_84 : decode cX5_head 84 = .ok (.iconst 1, 1) := by decide +kernel
theorem dX5_head_85 : decode cX5_head 85 = .ok (.istore 5, 2) := by decide +kernel
theorem dX5_head_87 : decode cX5_head 87 = .ok (.iload 5, 2) := by decide +kernel
theorem dX5_head_89 : decode cX5_head 89 = .ok (.iload 4, 2) := by decide +kernel
theorem dX5_head_91 : decode cX5_head 91 = .ok (.if_icmp .ge 55, 3) := by decide +kernel
theorem dX5_head_94 : decode cX5_head 94 = .ok (.aload_n 0, 1) := by decide +kernel
theorem dX5_head_95 : decode cX5_head 95 = .ok (.getfield 26, 3) := by decide +kernel
theorem dX5_head_98 : decode cX5_head 98 = .ok (.getfield 107, 3) := by decide +kernel
theorem dX5_head_101 : decode cX5_head 101 = .ok (.iload 5, 2) := by decide +kernel
theorem dX5_head_103 : decode cX5_head 103 = .ok (.iconst 1, 1) := by decide +kernel
theorem dX5_head_104 : decode cX5_head 104 = .ok (.isub, 1) := by decide +kernel
theorem dX5_head_105 : decode cX5_head 105 = .ok (.laload, 1) := by decide +kernel
theorem dX5_head_106 : decode cX5_head 106 = .ok (.aload_n 0, 1) := by decide +kernel
theorem dX5_head_107 : decode cX5_head 107 = .ok (.getfield 26, 3) := by decide +kernel
theorem dX5_head_110 : decode cX5_head 110 = .ok (.getfield 107, 3) := by decide +kernel
theorem dX5_head_113 : decode cX5_head 113 = .ok (.iload 4, 2) := by decide +kernel
theorem dX5_head_115 : decode cX5_head 115 = .ok (.iconst 1, 1) := by decide +kernel
theorem dX5_head_116 : decode cX5_head 116 = .ok (.isub, 1) := by decide +kernel
theorem dX5_head_117 : decode cX5_head 117 = .ok (.laload, 1) := by decide +kernel
theorem dX5_head_118 : decode cX5_head 118 = .ok (.lcmp, 1) := by decide +kernel
theorem dX5_head_119 : decode cX5_head 119 = .ok (.ifCond .ne 21, 3) := by decide +kernel
theorem dX5_head_122 : decode cX5_head 122 = .ok (.aload_n 0, 1) := by decide +kernel
theorem dX5_head_123 : decode cX5_head 123 = .ok (.iconst 5, 1) := by decide +kernel
theorem dX5_head_124 : decode cX5_head 124 = .ok (.aload_n 0, 1) := by decide +kernel
theorem dX5_head_125 : decode cX5_head 125 = .ok (.getfield 26, 3) := by decide +kernel
theorem dX5_head_128 : decode cX5_head 128 = .ok (.getfield 111, 3) := by decide +kernel
theorem dX5_head_131 : decode cX5_head 131 = .ok (.iload 4, 2) := by decide +kernel
theorem dX5_head_133 : decode cX5_head 133 = .ok (.iconst 1, 1) := by decide +kernel
theorem dX5_head_134 : decode cX5_head 134 = .ok (.isub, 1) := by decide +kernel
theorem dX5_head_135 : decode cX5_head 135 = .ok (.iaload, 1) := by decide +kernel
theorem dX5_head_136 : decode cX5_head 136 = .ok (.invokevirtual 114, 3) := by decide +kernel
theorem dX5_head_139 : decode cX5_head 139 = .ok (.istore_n 3, 1) := by decide +kernel
theorem dX5_head_140 : decode cX5_head 140 = .ok (.iinc 5 1, 3) := by decide +kernel
theorem dX5_head_143 : decode cX5_head 143 = .ok (.goto (-56), 3) := by decide +kernel
theorem dX5_head_146 : decode cX5_head 146 = .ok (.iinc 4 1, 3) := by decide +kernel
theorem dX5_head_149 : decode cX5_head 149 = .ok (.goto (-111), 3) := by decide +kernel
theorem dX5_head_152 : decode cX5_head 152 = .ok (.aload_n 0, 1) := by decide +kernel
theorem dX5_head_153 : decode cX5_head 153 = .ok (.iconst 0, 1) := by decide +kernel
theorem dX5_head_154 : decode cX5_head 154 = .ok (.aload_n 0, 1) := by decide +kernel
theorem dX5_head_155 : decode cX5_head 155 = .ok (.getfield 26, 3) := by decide +kernel
theorem dX5_head_158 : decode cX5_head 158 = .ok (.getfield 118, 3) := by decide +kernel
theorem dX5_head_161 : decode cX5_head 161 = .ok (.invokevirtual 99, 3) := by decide +kernel
theorem dX5_head_164 : decode cX5_head 164 = .ok (.istore 4, 2) := by decide +kernel
theorem dX5_head_166 : decode cX5_head 166 = .ok (.aload_n 0, 1) := by decide +kernel
theorem dX5_head_167 : decode cX5_head 167 = .ok (.getfield 26, 3) := by decide +kernel
theorem dX5_head_170 : decode cX5_head 170 = .ok (.getfield 84, 3) := by decide +kernel
theorem dX5_head_173 : decode cX5_head 173 = .ok (.ifCond .le 24, 3) := by decide +kernel
theorem dX5_head_176 : decode cX5_head 176 = .ok (.iload_n 2, 1) := by decide +kernel
theorem dX5_head_177 : decode cX5_head 177 = .ok (.ifCond .eq 20, 3) := by decide +kernel
theorem dX5_head_180 : decode cX5_head 180 = .ok (.iload_n 1, 1) := by decide +kernel
theorem dX5_head_181 : decode cX5_head 181 = .ok (.ifCond .ne 16, 3) := by decide +kernel
theorem dX5_head_184 : decode cX5_head 184 = .ok (.aload_n 0, 1) := by decide +kernel
theorem dX5_head_185 : decode cX5_head 185 = .ok (.iconst 4, 1) := by decide +kernel
theorem dX5_head_186 : decode cX5_head 186 = .ok (.aload_n 0, 1) := by decide +kernel
theorem dX5_head_187 : decode cX5_head 187 = .ok (.getfield 26, 3) := by decide +kernel
theorem dX5_head_190 : decode cX5_head 190 = .ok (.getfield 121, 3) := by decide +kernel
theorem dX5_head_193 : decode cX5_head 193 = .ok (.invokevirtual 114, 3) := by decide +kernel
theorem dX5_head_196 : decode cX5_head 196 = .ok (.istore_n 3, 1) := by decide +kernel
theorem dX5_head_197 : decode cX5_head 197 = .ok (.iload_n 2, 1) := by decide +kernel
theorem dX5_head_198 : decode cX5_head 198 = .ok (.ifCond .eq 23, 3) := by decide +kernel
theorem dX5_head_201 : decode cX5_head 201 = .ok (.aload_n 0, 1) := by decide +kernel
theorem dX5_head_202 : decode cX5_head 202 = .ok (.invokevirtual 124, 3) := by decide +kernel
theorem dX5_head_205 : decode cX5_head 205 = .ok (.ifCond .eq 16, 3) := by decide +kernel
theorem dX5_head_208 : decode cX5_head 208 = .ok (.aload_n 0, 1) := by decide +kernel
theorem dX5_head_209 : decode cX5_head 209 = .ok (.iconst 5, 1) := by decide +kernel
theorem dX5_head_210 : decode cX5_head 210 = .ok (.aload_n 0, 1) := by decide +kernel
theorem dX5_head_211 : decode cX5_head 211 = .ok (.getfield 26, 3) := by decide +kernel
theorem dX5_head_214 : decode cX5_head 214 = .ok (.getfield 128, 3) := by decide +kernel
theorem dX5_head_217 : decode cX5_head 217 = .ok (.invokevirtual 114, 3) := by decide +kernel
theorem dX5_head_220 : decode cX5_head 220 = .ok (.istore_n 3, 1) := by decide +kernel
theorem dX5_head_221 : decode cX5_head 221 = .ok (.return_, 1) := by decide +kernel
/-! AlgebraHouse$Judge.head()V -/
def P_X5_head_87 (Q : Int → MM → Prop) (K38 : Int → Int → Int → MM → Prop) : Nat → Int → Int → Int → Int → MM → Prop
  | 0, _, _, _, _, _ => False
  | n + 1, x1, x2, x4, x5, m => (RI x5) ∧ (RI x4) ∧ (if x4 ≤ x5 then K38 x1 x2 (x4 + 1) m else (isTx (m 372 1)) ∧ (0 ≤ (x5 - 1) ∧ (x5 - 1) < 3) ∧ (0 ≤ (x4 - 1) ∧ (x4 - 1) < 3) ∧ (RL (m ((m 372 1) + 10) (x5 - 1))) ∧ (RL (m ((m 372 1) + 10) (x4 - 1))) ∧ (if (m ((m 372 1) + 10) (x5 - 1)) = (m ((m 372 1) + 10) (x4 - 1)) then P_X5_fail 5 (m ((m 372 1) + 12) (x4 - 1)) m (fun r1 m1 => P_X5_head_87 Q K38 n x1 x2 x4 (x5 + 1) m1) else P_X5_head_87 Q K38 n x1 x2 x4 (x5 + 1) m))
def P_X5_head_197 (Q : Int → MM → Prop) (x2 : Int) (m : MM) : Prop := (RI x2) ∧ (if x2 = 0 then Q 0 m else P_X5_isThere m (fun r1 m1 => (RI r1) ∧ (if r1 = 0 then Q 0 m1 else (isTx (m1 372 1)) ∧ P_X5_fail 5 (m1 (m1 372 1) 20) m1 (fun r2 m2 => Q 0 m2))))
def P_X5_head_152 (Q : Int → MM → Prop) (x1 : Int) (x2 : Int) (m : MM) : Prop := (isTx (m 372 1)) ∧ P_X5_shape 0 (m (m 372 1) 6) m (fun r1 m1 => (isTx (m1 372 1)) ∧ (RI (m1 (m1 372 1) 22)) ∧ (if (m1 (m1 372 1) 22) ≤ 0 then P_X5_head_197 Q x2 m1 else (RI x2) ∧ (if x2 = 0 then P_X5_head_197 Q x2 m1 else (RI x1) ∧ (if x1 = 0 then P_X5_fail 4 (m1 (m1 372 1) 21) m1 (fun r2 m2 => P_X5_head_197 Q x2 m2) else P_X5_head_197 Q x2 m1))))
def P_X5_head_38 (Q : Int → MM → Prop) : Nat → Int → Int → Int → MM → Prop
  | 0, _, _, _, _ => False
  | n + 1, x1, x2, x4, m => (isTx (m 372 1)) ∧ (RI x4) ∧ (RI (m (m 372 1) 5)) ∧ (if (m (m 372 1) 5) < x4 then P_X5_head_152 Q x1 x2 m else (0 ≤ (x4 - 1) ∧ (x4 - 1) < 3) ∧ P_X5_shape x4 (m ((m 372 1) + 11) (x4 - 1)) m (fun r1 m1 => (isTx (m1 372 1)) ∧ (0 ≤ x4 ∧ x4 < 4) ∧ ∃ nn, P_X5_head_87 Q (fun z0 z1 z2 z3 => P_X5_head_38 Q n z0 z1 z2 z3) nn (iOr x1 (m1 ((m1 372 1) + 13) x4)) (iAnd x2 r1) x4 1 m1))
def P_X5_head_26 (Q : Int → MM → Prop) (s1 : Int) (m : MM) : Prop := ∀ m1 : MM, m1 = up m 372 3 s1 → ∃ nn, P_X5_head_38 Q nn 0 1 1 m1
def P_X5_head (m : MM) (Q : Int → MM → Prop) : Prop := ∀ m1 : MM, m1 = up m 372 4 1 → (isTx (m1 372 1)) ∧ (RI (m1 (m1 372 1) 22)) ∧ (if (m1 (m1 372 1) 22) ≤ 0 then P_X5_head_26 Q (-1) m1 else P_X11_of 0 0 0 m1 (fun r1 m2 => P_X5_head_26 Q r1 m2))
theorem pl_X5_head_87 {f : Nat} {Q : Int → MM → Prop} {T : MM → Prop} (hf : 44 ≤ f) {K38 : Int → Int → Int → MM → Prop} (hK38 : ∀ (x1 : Int) (x2 : Int) (x4 : Int) (m : MM), K38 x1 x2 x4 m → B f M_X5_head 38 [vR 372, vI x1, vI x2, vU, vI x4, vU] [] m Q T) : ∀ (n : Nat) (x1 : Int) (x2 : Int) (x4 : Int) (x5 : Int) (m : MM), P_X5_head_87 Q K38 n x1 x2 x4 x5 m → B f M_X5_head 87 [vR 372, vI x1, vI x2, vU, vI x4, vI x5] [] m Q T := by
  intro n
  induction n with
  | zero => intro x1 x2 x4 x5 m h; exact h.elim
  | succ n ih =>
    intro x1 x2 x4 x5 m h
    have h : (RI x5) ∧ (RI x4) ∧ (if x4 ≤ x5 then K38 x1 x2 (x4 + 1) m else (isTx (m 372 1)) ∧ (0 ≤ (x5 - 1) ∧ (x5 - 1) < 3) ∧ (0 ≤ (x4 - 1) ∧ (x4 - 1) < 3) ∧ (RL (m ((m 372 1) + 10) (x5 - 1))) ∧ (RL (m ((m 372 1) + 10) (x4 - 1))) ∧ (if (m ((m 372 1) + 10) (x5 - 1)) = (m ((m 372 1) + 10) (x4 - 1)) then P_X5_fail 5 (m ((m 372 1) + 12) (x4 - 1)) m (fun r1 m1 => P_X5_head_87 Q K38 n x1 x2 x4 (x5 + 1) m1) else P_X5_head_87 Q K38 n x1 x2 x4 (x5 + 1) m)) := h
    refine b_iload dX5_head_87 rfl ?_
    refine b_iload dX5_head_89 rfl ?_
    obtain ⟨g1, h⟩ := h
    obtain ⟨g2, h⟩ := h
    refine b_icmp_ge 146 dX5_head_91 g1 g2 (by decide) (fun c1 => ?_) (fun c1 => ?_)
    · have h := ifT c1 h
      refine b_iinc (ls' := [vR 372, vI x1, vI x2, vU, vI (x4 + 1), vI x5]) dX5_head_146 rfl rfl ?_
      refine b_goto 38 dX5_head_149 (by decide) ?_
      refine b_fgt [true, true, true, false, true, false] (ls' := [vR 372, vI x1, vI x2, vU, vI (x4 + 1), vU]) rfl rfl ?_
      exact hK38 _ _ _ _ h
    · have h := ifF c1 h
      refine b_aload_n dX5_head_94 rfl ?_
      refine b_getM dX5_head_95 fk_X5_26 ly_372 ?_
      obtain ⟨g3, h⟩ := h
      refine b_getR dX5_head_98 fk_X5_107 (tx_ly0 g3) (tx_gg17 g3) ?_
      refine b_iload dX5_head_101 rfl ?_
      refine b_iconst dX5_head_103 ?_
      refine b_isub dX5_head_104 ?_
      obtain ⟨g4, h⟩ := h
      refine b_lald dX5_head_105 (tx_ly10 g3) g4 ?_
      refine b_aload_n dX5_head_106 rfl ?_
      refine b_getM dX5_head_107 fk_X5_26 ly_372 ?_
      refine b_getR dX5_head_110 fk_X5_107 (tx_ly0 g3) (tx_gg17 g3) ?_
      refine b_iload dX5_head_113 rfl ?_
      refine b_iconst dX5_head_115 ?_
      refine b_isub dX5_head_116 ?_
      obtain ⟨g5, h⟩ := h
      refine b_lald dX5_head_117 (tx_ly10 g3) g5 ?_
      obtain ⟨g6, h⟩ := h
      obtain ⟨g7, h⟩ := h
      refine b_lc_ne 140 dX5_head_118 dX5_head_119 g6 g7 (by decide) (fun c2 => ?_) (fun c2 => ?_)
      · have h := ifF c2 h
        refine b_iinc (ls' := [vR 372, vI x1, vI x2, vU, vI x4, vI (x5 + 1)]) dX5_head_140 rfl rfl ?_
        refine b_goto 87 dX5_head_143 (by decide) ?_
        exact ih _ _ _ _ _ h
      · have h := ifT (Decidable.of_not_not c2) h
        refine b_aload_n dX5_head_122 rfl ?_
        refine b_iconst dX5_head_123 ?_
        refine b_aload_n dX5_head_124 rfl ?_
        refine b_getM dX5_head_125 fk_X5_26 ly_372 ?_
        refine b_getR dX5_head_128 fk_X5_111 (tx_ly0 g3) (tx_gg19 g3) ?_
        refine b_iload dX5_head_131 rfl ?_
        refine b_iconst dX5_head_133 ?_
        refine b_isub dX5_head_134 ?_
        refine b_iald dX5_head_135 (tx_ly12 g3) g5 ?_
        refine b_cVi (as := [vI 5, vI (m ((m 372 1) + 12) (x4 - 1))]) (st := []) dX5_head_136 mf_X5_fail qs37 lk_X5_114 ly_372 rfl (p_X5_fail (f := 1) (Nat.le_refl _) _ _ _ h) (by omega) rfl rfl (Nat.le_of_ble_eq_true rfl) (by decide) rfl (fun _ => rfl) (fun r1 m1 h => ?_) (fun _ h => h)
        refine b_istore_n (ls' := [vR 372, vI x1, vI x2, vI r1, vI x4, vI x5]) dX5_head_139 (Nat.le_of_ble_eq_true rfl) rfl ?_
        refine b_iinc (ls' := [vR 372, vI x1, vI x2, vI r1, vI x4, vI (x5 + 1)]) dX5_head_140 rfl rfl ?_
        refine b_goto 87 dX5_head_143 (by decide) ?_
        refine b_fgt [true, true, true, false, true, true] (ls' := [vR 372, vI x1, vI x2, vU, vI x4, vI (x5 + 1)]) rfl rfl ?_
        exact ih _ _ _ _ _ h
theorem pl_X5_head_197 {f : Nat} {Q : Int → MM → Prop} {T : MM → Prop} (hf : 44 ≤ f) : ∀ (x2 : Int) (m : MM), P_X5_head_197 Q x2 m → B f M_X5_head 197 [vR 372, vU, vI x2, vU, vU, vU] [] m Q T := by
  intro x2 m h
  have h : (RI x2) ∧ (if x2 = 0 then Q 0 m else P_X5_isThere m (fun r1 m1 => (RI r1) ∧ (if r1 = 0 then Q 0 m1 else (isTx (m1 372 1)) ∧ P_X5_fail 5 (m1 (m1 372 1) 20) m1 (fun r2 m2 => Q 0 m2)))) := h
  refine b_iload_n dX5_head_197 rfl ?_
  obtain ⟨g1, h⟩ := h
  refine b_if_eq 221 dX5_head_198 g1 (by decide) (fun c1 => ?_) (fun c1 => ?_)
  · have h := ifT c1 h
    exact b_vret dX5_head_221 rfl h
  · have h := ifF c1 h
    refine b_aload_n dX5_head_201 rfl ?_
    refine b_cVi (as := []) (st := []) dX5_head_202 mf_X5_isThere qs39 lk_X5_124 ly_372 rfl (p_X5_isThere (f := 1) (Nat.le_refl _) _ h) (by omega) rfl rfl (Nat.le_of_ble_eq_true rfl) (by decide) rfl (fun _ => rfl) (fun r1 m1 h => ?_) (fun _ h => h)
    obtain ⟨g2, h⟩ := h
    refine b_if_eq 221 dX5_head_205 g2 (by decide) (fun c2 => ?_) (fun c2 => ?_)
    · have h := ifT c2 h
      exact b_vret dX5_head_221 rfl h
    · have h := ifF c2 h
      refine b_aload_n dX5_head_208 rfl ?_
      refine b_iconst dX5_head_209 ?_
      refine b_aload_n dX5_head_210 rfl ?_
      refine b_getM dX5_head_211 fk_X5_26 ly_372 ?_
      obtain ⟨g3, h⟩ := h
      refine b_getI dX5_head_214 fk_X5_128 (tx_ly0 g3) ?_
      refine b_cVi (as := [vI 5, vI (m1 (m1 372 1) 20)]) (st := []) dX5_head_217 mf_X5_fail qs37 lk_X5_114 ly_372 rfl (p_X5_fail (f := 1) (Nat.le_refl _) _ _ _ h) (by omega) rfl rfl (Nat.le_of_ble_eq_true rfl) (by decide) rfl (fun _ => rfl) (fun r2 m2 h => ?_) (fun _ h => h)
      refine b_istore_n (ls' := [vR 372, vU, vI x2, vI r2, vU, vU]) dX5_head_220 (Nat.le_of_ble_eq_true rfl) rfl ?_
      exact b_vret dX5_head_221 rfl h
theorem pl_X5_head_152 {f : Nat} {Q : Int → MM → Prop} {T : MM → Prop} (hf : 44 ≤ f) : ∀ (x1 : Int) (x2 : Int) (m : MM), P_X5_head_152 Q x1 x2 m → B f M_X5_head 152 [vR 372, vI x1, vI x2, vU, vU, vU] [] m Q T := by
  intro x1 x2 m h
  have h : (isTx (m 372 1)) ∧ P_X5_shape 0 (m (m 372 1) 6) m (fun r1 m1 => (isTx (m1 372 1)) ∧ (RI (m1 (m1 372 1) 22)) ∧ (if (m1 (m1 372 1) 22) ≤ 0 then P_X5_head_197 Q x2 m1 else (RI x2) ∧ (if x2 = 0 then P_X5_head_197 Q x2 m1 else (RI x1) ∧ (if x1 = 0 then P_X5_fail 4 (m1 (m1 372 1) 21) m1 (fun r2 m2 => P_X5_head_197 Q x2 m2) else P_X5_head_197 Q x2 m1)))) := h
  refine b_aload_n dX5_head_152 rfl ?_
  refine b_iconst dX5_head_153 ?_
  refine b_aload_n dX5_head_154 rfl ?_
  refine b_getM dX5_head_155 fk_X5_26 ly_372 ?_
  obtain ⟨g1, h⟩ := h
  refine b_getI dX5_head_158 fk_X5_118 (tx_ly0 g1) ?_
  refine b_cVi (as := [vI 0, vI (m (m 372 1) 6)]) (st := []) dX5_head_161 mf_X5_shape qs36 lk_X5_99 ly_372 rfl (p_X5_shape (f := 43) (Nat.le_refl _) _ _ _ h) (by omega) rfl rfl (Nat.le_of_ble_eq_true rfl) (by decide) rfl (fun _ => rfl) (fun r1 m1 h => ?_) (fun _ h => h)
  refine b_istore (ls' := [vR 372, vI x1, vI x2, vU, vI r1, vU]) dX5_head_164 (Nat.le_of_ble_eq_true rfl) rfl ?_
  refine b_aload_n dX5_head_166 rfl ?_
  refine b_getM dX5_head_167 fk_X5_26 ly_372 ?_
  obtain ⟨g2, h⟩ := h
  refine b_getI dX5_head_170 fk_X5_84 (tx_ly0 g2) ?_
  obtain ⟨g3, h⟩ := h
  refine b_if_le 197 dX5_head_173 g3 (by decide) (fun c1 => ?_) (fun c1 => ?_)
  · have h := ifT c1 h
    refine b_fgt [true, false, true, false, false, false] (ls' := [vR 372, vU, vI x2, vU, vU, vU]) rfl rfl ?_
    exact pl_X5_head_197 hf _ _ h
  · have h := ifF c1 h
    refine b_iload_n dX5_head_176 rfl ?_
    obtain ⟨g4, h⟩ := h
    refine b_if_eq 197 dX5_head_177 g4 (by decide) (fun c2 => ?_) (fun c2 => ?_)
    · have h := ifT c2 h
      refine b_fgt [true, false, true, false, false, false] (ls' := [vR 372, vU, vI x2, vU, vU, vU]) rfl rfl ?_
      exact pl_X5_head_197 hf _ _ h
    · have h := ifF c2 h
      refine b_iload_n dX5_head_180 rfl ?_
      obtain ⟨g5, h⟩ := h
      refine b_if_ne 197 dX5_head_181 g5 (by decide) (fun c3 => ?_) (fun c3 => ?_)
      · have h := ifF c3 h
        refine b_fgt [true, false, true, false, false, false] (ls' := [vR 372, vU, vI x2, vU, vU, vU]) rfl rfl ?_
        exact pl_X5_head_197 hf _ _ h
      · have h := ifT (Decidable.of_not_not c3) h
        refine b_aload_n dX5_head_184 rfl ?_
        refine b_iconst dX5_head_185 ?_
        refine b_aload_n dX5_head_186 rfl ?_
        refine b_getM dX5_head_187 fk_X5_26 ly_372 ?_
        refine b_getI dX5_head_190 fk_X5_121 (tx_ly0 g2) ?_
        refine b_cVi (as := [vI 4, vI (m1 (m1 372 1) 21)]) (st := []) dX5_head_193 mf_X5_fail qs37 lk_X5_114 ly_372 rfl (p_X5_fail (f := 1) (Nat.le_refl _) _ _ _ h) (by omega) rfl rfl (Nat.le_of_ble_eq_true rfl) (by decide) rfl (fun _ => rfl) (fun r2 m2 h => ?_) (fun _ h => h)
        refine b_istore_n (ls' := [vR 372, vI x1, vI x2, vI r2, vI r1, vU]) dX5_head_196 (Nat.le_of_ble_eq_true rfl) rfl ?_
        refine b_fgt [true, false, true, false, false, false] (ls' := [vR 372, vU, vI x2, vU, vU, vU]) rfl rfl ?_
        exact pl_X5_head_197 hf _ _ h
theorem pl_X5_head_38 {f : Nat} {Q : Int → MM → Prop} {T : MM → Prop} (hf : 44 ≤ f) : ∀ (n : Nat) (x1 : Int) (x2 : Int) (x4 : Int) (m : MM), P_X5_head_38 Q n x1 x2 x4 m → B f M_X5_head 38 [vR 372, vI x1, vI x2, vU, vI x4, vU] [] m Q T := by
  intro n
  induction n with
  | zero => intro x1 x2 x4 m h; exact h.elim
  | succ n ih =>
    intro x1 x2 x4 m h
    have h : (isTx (m 372 1)) ∧ (RI x4) ∧ (RI (m (m 372 1) 5)) ∧ (if (m (m 372 1) 5) < x4 then P_X5_head_152 Q x1 x2 m else (0 ≤ (x4 - 1) ∧ (x4 - 1) < 3) ∧ P_X5_shape x4 (m ((m 372 1) + 11) (x4 - 1)) m (fun r1 m1 => (isTx (m1 372 1)) ∧ (0 ≤ x4 ∧ x4 < 4) ∧ ∃ nn, P_X5_head_87 Q (fun z0 z1 z2 z3 => P_X5_head_38 Q n z0 z1 z2 z3) nn (iOr x1 (m1 ((m1 372 1) + 13) x4)) (iAnd x2 r1) x4 1 m1)) := h
    refine b_iload dX5_head_38 rfl ?_
    refine b_aload_n dX5_head_40 rfl ?_
    refine b_getM dX5_head_41 fk_X5_26 ly_372 ?_
    obtain ⟨g1, h⟩ := h
    refine b_getI dX5_head_44 fk_X5_93 (tx_ly0 g1) ?_
    obtain ⟨g2, h⟩ := h
    obtain ⟨g3, h⟩ := h
    refine b_icmp_gt 152 dX5_head_47 g2 g3 (by decide) (fun c1 => ?_) (fun c1 => ?_)
    · have h := ifT c1 h
      refine b_fgt [true, true, true, false, false, false] (ls' := [vR 372, vI x1, vI x2, vU, vU, vU]) rfl rfl ?_
      exact pl_X5_head_152 hf _ _ _ h
    · have h := ifF c1 h
      refine b_iload_n dX5_head_50 rfl ?_
      refine b_aload_n dX5_head_51 rfl ?_
      refine b_iload dX5_head_52 rfl ?_
      refine b_aload_n dX5_head_54 rfl ?_
      refine b_getM dX5_head_55 fk_X5_26 ly_372 ?_
      refine b_getR dX5_head_58 fk_X5_96 (tx_ly0 g1) (tx_gg18 g1) ?_
      refine b_iload dX5_head_61 rfl ?_
      refine b_iconst dX5_head_63 ?_
      refine b_isub dX5_head_64 ?_
      obtain ⟨g4, h⟩ := h
      refine b_iald dX5_head_65 (tx_ly11 g1) g4 ?_
      refine b_cVi (as := [vI x4, vI (m ((m 372 1) + 11) (x4 - 1))]) (st := [vI x2]) dX5_head_66 mf_X5_shape qs36 lk_X5_99 ly_372 rfl (p_X5_shape (f := 43) (Nat.le_refl _) _ _ _ h) (by omega) rfl rfl (Nat.le_of_ble_eq_true rfl) (by decide) rfl (fun _ => rfl) (fun r1 m1 h => ?_) (fun _ h => h)
      refine b_iand dX5_head_69 ?_
      refine b_istore_n (ls' := [vR 372, vI x1, vI (iAnd x2 r1), vU, vI x4, vU]) dX5_head_70 (Nat.le_of_ble_eq_true rfl) rfl ?_
      refine b_iload_n dX5_head_71 rfl ?_
      refine b_aload_n dX5_head_72 rfl ?_
      refine b_getM dX5_head_73 fk_X5_26 ly_372 ?_
      obtain ⟨g5, h⟩ := h
      refine b_getR dX5_head_76 fk_X5_103 (tx_ly0 g5) (tx_gg23 g5) ?_
      refine b_iload dX5_head_79 rfl ?_
      obtain ⟨g6, h⟩ := h
      refine b_zald dX5_head_81 (tx_ly13 g5) g6 ?_
      refine b_ior dX5_head_82 ?_
      refine b_istore_n (ls' := [vR 372, vI (iOr x1 (m1 ((m1 372 1) + 13) x4)), vI (iAnd x2 r1), vU, vI x4, vU]) dX5_head_83 (Nat.le_of_ble_eq_true rfl) rfl ?_
      refine b_iconst dX5_head_84 ?_
      refine b_istore (ls' := [vR 372, vI (iOr x1 (m1 ((m1 372 1) + 13) x4)), vI (iAnd x2 r1), vU, vI x4, vI 1]) dX5_head_85 (Nat.le_of_ble_eq_true rfl) rfl ?_
      obtain ⟨nn, h⟩ := h
      exact pl_X5_head_87 hf (fun _ _ _ _ h => ih _ _ _ _ h) nn _ _ _ _ _ h
theorem pl_X5_head_26 {f : Nat} {Q : Int → MM → Prop} {T : MM → Prop} (hf : 44 ≤ f) : ∀ (s1 : Int) (m : MM), P_X5_head_26 Q s1 m → B f M_X5_head 26 [vR 372, vU, vU, vU, vU, vU] [vI s1, vR 372] m Q T := by
  intro s1 m h
  have h : ∀ m1 : MM, m1 = up m 372 3 s1 → ∃ nn, P_X5_head_38 Q nn 0 1 1 m1 := h
  refine b_putI dX5_head_26 fk_X5_30 ly_372 (fun m1 em1 => ?_)
  have h := h m1 em1
  refine b_iconst dX5_head_29 ?_
  refine b_istore_n (ls' := [vR 372, vI 0, vU, vU, vU, vU]) dX5_head_30 (Nat.le_of_ble_eq_true rfl) rfl ?_
  refine b_iconst dX5_head_31 ?_
  refine b_istore_n (ls' := [vR 372, vI 0, vI 1, vU, vU, vU]) dX5_head_32 (Nat.le_of_ble_eq_true rfl) rfl ?_
  refine b_iconst dX5_head_33 ?_
  refine b_istore_n (ls' := [vR 372, vI 0, vI 1, vI 0, vU, vU]) dX5_head_34 (Nat.le_of_ble_eq_true rfl) rfl ?_
  refine b_iconst dX5_head_35 ?_
  refine b_istore (ls' := [vR 372, vI 0, vI 1, vI 0, vI 1, vU]) dX5_head_36 (Nat.le_of_ble_eq_true rfl) rfl ?_
  refine b_fgt [true, true, true, false, true, false] (ls' := [vR 372, vI 0, vI 1, vU, vI 1, vU]) rfl rfl ?_
  obtain ⟨nn, h⟩ := h
  exact pl_X5_head_38 hf nn _ _ _ _ h
theorem p_X5_head {f : Nat} {Q : Int → MM → Prop} {T : MM → Prop} (hf : 44 ≤ f) (m : MM) (h : P_X5_head m Q) : CC f M_X5_head [vR 372] m Q T := by
  refine CC.of (plainFor_of_name (by decide)) (Nat.le_of_ble_eq_true rfl) (ls := [vR 372, vU, vU, vU, vU, vU]) rfl ?_
  have h : ∀ m1 : MM, m1 = up m 372 4 1 → (isTx (m1 372 1)) ∧ (RI (m1 (m1 372 1) 22)) ∧ (if (m1 (m1 372 1) 22) ≤ 0 then P_X5_head_26 Q (-1) m1 else P_X11_of 0 0 0 m1 (fun r1 m2 => P_X5_head_26 Q r1 m2)) := h
  refine b_aload_n dX5_head_0 rfl ?_
  refine b_iconst dX5_head_1 ?_
  refine b_putZ dX5_head_2 fk_X5_33 ly_372 (Or.inr rfl) (fun m1 em1 => ?_)
  have h := h m1 em1
  refine b_aload_n dX5_head_5 rfl ?_
  refine b_aload_n dX5_head_6 rfl ?_
  refine b_getM dX5_head_7 fk_X5_26 ly_372 ?_
  obtain ⟨g1, h⟩ := h
  refine b_getI dX5_head_10 fk_X5_84 (tx_ly0 g1) ?_
  obtain ⟨g2, h⟩ := h
  refine b_if_le 25 dX5_head_13 g2 (by decide) (fun c1 => ?_) (fun c1 => ?_)
  · have h := ifT c1 h
    refine b_iconst dX5_head_25 ?_
    exact pl_X5_head_26 hf _ _ h
  · have h := ifF c1 h
    refine b_iconst dX5_head_16 ?_
    refine b_iconst dX5_head_17 ?_
    refine b_iconst dX5_head_18 ?_
    refine b_cSi (as := [vI 0, vI 0, vI 0]) (st := [vR 372]) dX5_head_19 mf_X11_of lk_X5_89 (p_X11_of (f := 1) (Nat.le_refl _) _ _ _ _ h) (by omega) rfl rfl (Nat.le_of_ble_eq_true rfl) (by decide) rfl (fun _ => rfl) (fun r1 m2 h => ?_) (fun _ h => h)
    refine b_goto 26 dX5_head_22 (by decide) ?_
    exact pl_X5_head_26 hf _ _ h
theorem dX5_looks_0 : decode cX5_looks 0 = .ok (.aload_n 0, 1) := by decide +kernel
theorem dX5_looks_1 : decode cX5_looks 1 = .ok (.invokevirtual 54, 3) := by decide +kernel
theorem dX5_looks_4 : decode cX5_looks 4 = .ok (.aload_n 0, 1) := by decide +kernel
theorem dX5_looks_5 : decode cX5_looks 5 = .ok (.aload_n 1, 1) := by decide +kernel
theorem dX5_looks_6 : decode cX5_looks 6 = .ok (.putfield 26, 3) := by decide +kernel
theorem dX5_looks_9 : decode cX5_looks 9 = .ok (.aload_n 1, 1) := by decide +kernel
theorem dX5_looks_10 : decode cX5_looks 10 = .ok (.getfield 57, 3) := by decide +kernel
theorem dX5_looks_13 : decode cX5_looks 13 = .ok (.iconst 2, 1) := by decide +kernel
theorem dX5_looks_14 : decode cX5_looks 14 = .ok (.if_icmp .ne 21, 3) := by decide +kernel
theorem dX5_looks_17 : decode cX5_looks 17 = .ok (.aload_n 0, 1) := by decide +kernel
theorem dX5_looks_18 : decode cX5_looks 18 = .ok (.invokevirtual 60, 3) := by decide +kernel
theorem dX5_looks_21 : decode cX5_looks 21 = .ok (.aload_n 0, 1) := by decide +kernel
theorem dX5_looks_22 : decode cX5_looks 22 = .ok (.getfield 19, 3) := by decide +kernel
theorem dX5_looks_25 : decode cX5_looks 25 = .ok (.ifCond .ne 18, 3) := by decide +kernel
theorem dX5_looks_28 : decode cX5_looks 28 = .ok (.aload_n 0, 1) := by decide +kernel
theorem dX5_looks_29 : decode cX5_looks 29 = .ok (.invokevirtual 63, 3) := by decide +kernel
theorem dX5_looks_32 : decode cX5_looks 32 = .ok (.goto 11, 3) := by decide +kernel
theorem dX5_looks_35 : decode cX5_looks 35 = .ok (.aload_n 0, 1) := by decide +kernel
theorem dX5_looks_36 : decode cX5_looks 36 = .ok (.aload_n 1, 1) := by decide +kernel
theorem dX5_looks_37 : decode cX5_looks 37 = .ok (.iconst (-1), 1) := by decide +kernel
theorem dX5_looks_38 : decode cX5_looks 38 = .ok (.iconst (-1), 1) := by decide +kernel
theorem dX5_looks_39 : decode cX5_looks 39 = .ok (.invokevirtual 66, 3) := by decide +kernel
theorem dX5_looks_42 : decode cX5_looks 42 = .ok (.istore_n 2, 1) := by decide +kernel
theorem dX5_looks_43 : decode cX5_looks 43 = .ok (.aload_n 1, 1) := by decide +kernel
theorem dX5_looks_44 : decode cX5_looks 44 = .ok (.getfield 57, 3) := by decide +kernel
theorem dX5_looks_47 : decode cX5_looks 47 = .ok (.iconst 2, 1) := by decide +kernel
theorem dX5_looks_48 : decode cX5_looks 48 = .ok (.if_icmp .ne 23, 3) := by decide +kernel
theorem dX5_looks_51 : decode cX5_looks 51 = .ok (.aload_n 0, 1) := by decide +kernel
theorem dX5_looks_52 : decode cX5_looks 52 = .ok (.getfield 15, 3) := by decide +kernel
theorem dX5_looks_55 : decode cX5_looks 55 = .ok (.getfield 37, 3) := by decide +kernel
theorem dX5_looks_58 : decode cX5_looks 58 = .ok (.bipush 20, 2) := by decide +kernel
theorem dX5_looks_60 : decode cX5_looks 60 = .ok (.if_icmp .ne 7, 3) := by decide +kernel
theorem dX5_looks_63 : decode cX5_looks 63 = .ok (.iconst 1, 1) := by decide +kernel
theorem dX5_looks_64 : decode cX5_looks 64 = .ok (.goto 60, 3) := by decide +kernel
theorem dX5_looks_67 : decode cX5_looks 67 = .ok (.iconst 0, 1) := by decide +kernel
theorem dX5_looks_68 : decode cX5_looks 68 = .ok (.goto 56, 3) := by decide +kernel
theorem dX5_looks_71 : decode cX5_looks 71 = .ok (.aload_n 0, 1) := by decide +kernel
theorem dX5_looks_72 : decode cX5_looks 72 = .ok (.getfield 15, 3) := by decide +kernel
theorem dX5_looks_75 : decode cX5_looks 75 = .ok (.getfield 70, 3) := by decide +kernel
theorem dX5_looks_78 : decode cX5_looks 78 = .ok (.sipush 200, 3) := by decide +kernel
theorem dX5_looks_81 : decode cX5_looks 81 = .ok (.if_icmp .eq 38, 3) := by decide +kernel
theorem dX5_looks_84 : decode cX5_looks 84 = .ok (.aload_n 1, 1) := by decide +kernel
theorem dX5_looks_85 : decode cX5_looks 85 = .ok (.getfield 57, 3) := by decide +kernel
theorem dX5_looks_88 : decode cX5_looks 88 = .ok (.iconst 1, 1) := by decide +kernel
theorem dX5_looks_89 : decode cX5_looks 89 = .ok (.if_icmp .ne 34, 3) := by decide +kernel
theorem dX5_looks_92 : decode cX5_looks 92 = .ok (.aload_n 0, 1) := by decide +kernel
theorem dX5_looks_93 : decode cX5_looks 93 = .ok (.getfield 15, 3) := by decide +kernel
theorem dX5_looks_96 : decode cX5_looks 96 = .ok (.aload_n 1, 1) := by decide +kernel
theorem dX5_looks_97 : decode cX5_looks 97 = .ok (.getfield 73, 3) := by decide +kernel
theorem dX5_looks_100 : decode cX5_looks 100 = .ok (.invokevirtual 77, 3) := by decide +kernel
theorem dX5_looks_103 : decode cX5_looks 103 = .ok (.iconst (-1), 1) := by decide +kernel
theorem dX5_looks_104 : decode cX5_looks 104 = .ok (.if_icmp .ne 19, 3) := by decide +kernel
theorem dX5_looks_107 : decode cX5_looks 107 = .ok (.aload_n 0, 1) := by decide +kernel
theorem dX5_looks_108 : decode cX5_looks 108 = .ok (.getfield 15, 3) := by decide +kernel
theorem dX5_looks_111 : decode cX5_looks 111 = .ok (.getfield 81, 3) := by decide +kernel
theorem dX5_looks_114 : decode cX5_looks 114 = .ok (.bipush 20, 2) := by decide +kernel
theorem dX5_looks_116 : decode cX5_looks 116 = .ok (.if_icmp .ne 7, 3) := by decide +kernel
theorem dX5_looks_119 : decode cX5_looks 119 = .ok (.iconst 1, 1) := by decide +kernel
theorem dX5_looks_120 : decode cX5_looks 120 = .ok (.goto 4, 3) := by decide +kernel
theorem dX5_looks_123 : decode cX5_looks 123 = .ok (.iconst 0, 1) := by decide +kernel
theorem dX5_looks_124 : decode cX5_looks 124 = .ok (.istore_n 2, 1) := by decide +kernel
theorem dX5_looks_125 : decode cX5_looks 125 = .ok (.aload_n 0, 1) := by decide +kernel
theorem dX5_looks_126 : decode cX5_looks 126 = .ok (.getfield 19, 3) := by decide +kernel
theorem dX5_looks_129 : decode cX5_looks 129 = .ok (.ifCond .ne 18, 3) := by decide +kernel
theorem dX5_looks_132 : decode cX5_looks 132 = .ok (.iload_n 2, 1) := by decide +kernel
theorem dX5_looks_133 : decode cX5_looks 133 = .ok (.ifCond .eq 14, 3) := by decide +kernel
theorem dX5_looks_136 : decode cX5_looks 136 = .ok (.aload_n 0, 1) := by decide +kernel
theorem dX5_looks_137 : decode cX5_looks 137 = .ok (.bipush 6, 2) := by decide +kernel
theorem dX5_looks_139 : decode cX5_looks 139 = .ok (.putfield 19, 3) := by decide +kernel
theorem dX5_looks_142 : decode cX5_looks 142 = .ok (.aload_n 0, 1) := by decide +kernel
theorem dX5_looks_143 : decode cX5_looks 143 = .ok (.iconst 0, 1) := by decide +kernel
theorem dX5_looks_144 : decode cX5_looks 144 = .ok (.putfield 23, 3) := by decide +kernel
theorem dX5_looks_147 : decode cX5_looks 147 = .ok (.aload_n 0, 1) := by decide +kernel
theorem dX5_looks_148 : decode cX5_looks 148 = .ok (.getfield 19, 3) := by decide +kernel
theorem dX5_looks_151 : decode cX5_looks 151 = .ok (.ifCond .ne 7, 3) := by decide +kernel
theorem dX5_looks_154 : decode cX5_looks 154 = .ok (.iconst 1, 1) := by decide +kernel
theorem dX5_looks_155 : decode cX5_looks 155 = .ok (.goto 4, 3) := by decide +kernel
theorem dX5_looks_158 : decode cX5_looks 158 = .ok (.iconst 0, 1) := by decide +kernel
theorem dX5_looks_159 : decode cX5_looks 159 = .ok (.ireturn, 1) := by decide +kernel
/-! AlgebraHouse$Judge.looks(LAlgebraHouse$Text;)Z -/
def P_X5_looks_147 (Q : Int → MM → Prop) (m : MM) : Prop := (RI (m 372 5)) ∧ (if (m 372 5) = 0 then Q 1 m else Q 0 m)
def P_X5_looks_124 (Q : Int → MM → Prop) (s0 : Int) (m : MM) : Prop := (RI (m 372 5)) ∧ (if (m 372 5) = 0 then (RI s0) ∧ (if s0 = 0 then P_X5_looks_147 Q m else ∀ m1 : MM, m1 = up m 372 5 6 → ∀ m2 : MM, m2 = up m1 372 6 0 → P_X5_looks_147 Q m2) else P_X5_looks_147 Q m)
def P_X5_looks_119 (Q : Int → MM → Prop) (m : MM) : Prop := P_X5_looks_124 Q 1 m
def P_X5_looks_123 (Q : Int → MM → Prop) (m : MM) : Prop := P_X5_looks_124 Q 0 m
def P_X5_looks_43 (Q : Int → MM → Prop) (x1 : Int) (m : MM) : Prop := (isTx x1) ∧ (RI (m x1 1)) ∧ (if (m x1 1) = 2 then (RI (m 3 1)) ∧ (if (m 3 1) = 20 then P_X5_looks_124 Q 1 m else P_X5_looks_124 Q 0 m) else (RI (m 3 3)) ∧ (if (m 3 3) = 200 then P_X5_looks_119 Q m else (if (m x1 1) = 1 then P_X1_variable (m x1 16) m (fun r1 m1 => (RI r1) ∧ (if r1 = (-1) then (RI (m1 3 2)) ∧ (if (m1 3 2) = 20 then P_X5_looks_119 Q m1 else P_X5_looks_123 Q m1) else P_X5_looks_123 Q m1)) else P_X5_looks_123 Q m)))
def P_X5_looks (x1 : Int) (m : MM) (Q : Int → MM → Prop) : Prop := P_X5_begin m (fun r1 m1 => ∀ m2 : MM, m2 = up m1 372 1 x1 → (isTx x1) ∧ (RI (m2 x1 1)) ∧ (if (m2 x1 1) = 2 then P_X5_head m2 (fun r3 m4 => (RI (m4 372 5)) ∧ (if (m4 372 5) = 0 then P_X5_body m4 (fun r4 m5 => P_X5_looks_43 Q x1 m5) else P_X5_looks_43 Q x1 m4)) else P_X5_judge x1 (-1) (-1) m2 (fun r2 m3 => P_X5_looks_43 Q x1 m3)))
theorem pl_X5_looks_147 {f : Nat} {Q : Int → MM → Prop} {T : MM → Prop} (hf : 687 ≤ f) : ∀ (m : MM), P_X5_looks_147 Q m → B f M_X5_looks 147 [vR 372, vU, vU] [] m Q T := by
  intro m h
  have h : (RI (m 372 5)) ∧ (if (m 372 5) = 0 then Q 1 m else Q 0 m) := h
  refine b_aload_n dX5_looks_147 rfl ?_
  refine b_getI dX5_looks_148 fk_X5_19 ly_372 ?_
  obtain ⟨g1, h⟩ := h
  refine b_if_ne 158 dX5_looks_151 g1 (by decide) (fun c1 => ?_) (fun c1 => ?_)
  · have h := ifF c1 h
    refine b_iconst dX5_looks_158 ?_
    exact b_zret dX5_looks_159 rfl (Or.inl rfl) h
  · have h := ifT (Decidable.of_not_not c1) h
    refine b_iconst dX5_looks_154 ?_
    refine b_goto 159 dX5_looks_155 (by decide) ?_
    exact b_zret dX5_looks_159 rfl (Or.inr rfl) h
theorem pl_X5_looks_124 {f : Nat} {Q : Int → MM → Prop} {T : MM → Prop} (hf : 687 ≤ f) : ∀ (s0 : Int) (m : MM), P_X5_looks_124 Q s0 m → B f M_X5_looks 124 [vR 372, vU, vU] [vI s0] m Q T := by
  intro s0 m h
  have h : (RI (m 372 5)) ∧ (if (m 372 5) = 0 then (RI s0) ∧ (if s0 = 0 then P_X5_looks_147 Q m else ∀ m1 : MM, m1 = up m 372 5 6 → ∀ m2 : MM, m2 = up m1 372 6 0 → P_X5_looks_147 Q m2) else P_X5_looks_147 Q m) := h
  refine b_istore_n (ls' := [vR 372, vU, vI s0]) dX5_looks_124 (Nat.le_of_ble_eq_true rfl) rfl ?_
  refine b_aload_n dX5_looks_125 rfl ?_
  refine b_getI dX5_looks_126 fk_X5_19 ly_372 ?_
  obtain ⟨g1, h⟩ := h
  refine b_if_ne 147 dX5_looks_129 g1 (by decide) (fun c1 => ?_) (fun c1 => ?_)
  · have h := ifF c1 h
    refine b_fgt [true, false, false] (ls' := [vR 372, vU, vU]) rfl rfl ?_
    exact pl_X5_looks_147 hf _ h
  · have h := ifT (Decidable.of_not_not c1) h
    refine b_iload_n dX5_looks_132 rfl ?_
    obtain ⟨g2, h⟩ := h
    refine b_if_eq 147 dX5_looks_133 g2 (by decide) (fun c2 => ?_) (fun c2 => ?_)
    · have h := ifT c2 h
      refine b_fgt [true, false, false] (ls' := [vR 372, vU, vU]) rfl rfl ?_
      exact pl_X5_looks_147 hf _ h
    · have h := ifF c2 h
      refine b_aload_n dX5_looks_136 rfl ?_
      refine b_bipush dX5_looks_137 (by decide) ?_
      refine b_putI dX5_looks_139 fk_X5_19 ly_372 (fun m1 em1 => ?_)
      have h := h m1 em1
      refine b_aload_n dX5_looks_142 rfl ?_
      refine b_iconst dX5_looks_143 ?_
      refine b_putI dX5_looks_144 fk_X5_23 ly_372 (fun m2 em2 => ?_)
      have h := h m2 em2
      refine b_fgt [true, false, false] (ls' := [vR 372, vU, vU]) rfl rfl ?_
      exact pl_X5_looks_147 hf _ h
theorem pl_X5_looks_119 {f : Nat} {Q : Int → MM → Prop} {T : MM → Prop} (hf : 687 ≤ f) : ∀ (m : MM), P_X5_looks_119 Q m → B f M_X5_looks 119 [vR 372, vU, vU] [] m Q T := by
  intro m h
  have h : P_X5_looks_124 Q 1 m := h
  refine b_iconst dX5_looks_119 ?_
  refine b_goto 124 dX5_looks_120 (by decide) ?_
  exact pl_X5_looks_124 hf _ _ h
theorem pl_X5_looks_123 {f : Nat} {Q : Int → MM → Prop} {T : MM → Prop} (hf : 687 ≤ f) : ∀ (m : MM), P_X5_looks_123 Q m → B f M_X5_looks 123 [vR 372, vU, vU] [] m Q T := by
  intro m h
  have h : P_X5_looks_124 Q 0 m := h
  refine b_iconst dX5_looks_123 ?_
  exact pl_X5_looks_124 hf _ _ h
theorem pl_X5_looks_43 {f : Nat} {Q : Int → MM → Prop} {T : MM → Prop} (hf : 687 ≤ f) : ∀ (x1 : Int) (m : MM), P_X5_looks_43 Q x1 m → B f M_X5_looks 43 [vR 372, vR x1, vU] [] m Q T := by
  intro x1 m h
  have h : (isTx x1) ∧ (RI (m x1 1)) ∧ (if (m x1 1) = 2 then (RI (m 3 1)) ∧ (if (m 3 1) = 20 then P_X5_looks_124 Q 1 m else P_X5_looks_124 Q 0 m) else (RI (m 3 3)) ∧ (if (m 3 3) = 200 then P_X5_looks_119 Q m else (if (m x1 1) = 1 then P_X1_variable (m x1 16) m (fun r1 m1 => (RI r1) ∧ (if r1 = (-1) then (RI (m1 3 2)) ∧ (if (m1 3 2) = 20 then P_X5_looks_119 Q m1 else P_X5_looks_123 Q m1) else P_X5_looks_123 Q m1)) else P_X5_looks_123 Q m))) := h
  refine b_aload_n dX5_looks_43 rfl ?_
  obtain ⟨g1, h⟩ := h
  refine b_getI dX5_looks_44 fk_X5_57 (tx_ly0 g1) ?_
  refine b_iconst dX5_looks_47 ?_
  obtain ⟨g2, h⟩ := h
  refine b_icmp_ne 71 dX5_looks_48 g2 (by decide) (by decide) (fun c1 => ?_) (fun c1 => ?_)
  · have h := ifF c1 h
    refine b_aload_n dX5_looks_71 rfl ?_
    refine b_getR dX5_looks_72 fk_X5_15 ly_372 gg_372_0 ?_
    refine b_getI dX5_looks_75 fk_X5_70 ly_3 ?_
    refine b_sipush dX5_looks_78 (by decide) ?_
    obtain ⟨g3, h⟩ := h
    refine b_icmp_eq 119 dX5_looks_81 g3 (by decide) (by decide) (fun c2 => ?_) (fun c2 => ?_)
    · have h := ifT c2 h
      refine b_fgt [true, false, false] (ls' := [vR 372, vU, vU]) rfl rfl ?_
      exact pl_X5_looks_119 hf _ h
    · have h := ifF c2 h
      refine b_aload_n dX5_looks_84 rfl ?_
      refine b_getI dX5_looks_85 fk_X5_57 (tx_ly0 g1) ?_
      refine b_iconst dX5_looks_88 ?_
      refine b_icmp_ne 123 dX5_looks_89 g2 (by decide) (by decide) (fun c3 => ?_) (fun c3 => ?_)
      · have h := ifF c3 h
        refine b_fgt [true, false, false] (ls' := [vR 372, vU, vU]) rfl rfl ?_
        exact pl_X5_looks_123 hf _ h
      · have h := ifT (Decidable.of_not_not c3) h
        refine b_aload_n dX5_looks_92 rfl ?_
        refine b_getR dX5_looks_93 fk_X5_15 ly_372 gg_372_0 ?_
        refine b_aload_n dX5_looks_96 rfl ?_
        refine b_getL dX5_looks_97 fk_X5_73 (tx_ly0 g1) ?_
        refine b_cVi (as := [vL (m x1 16)]) (st := []) dX5_looks_100 mf_X1_variable q1112 lk_X5_77 ly_3 rfl (p_X1_variable (f := 1) (Nat.le_refl _) _ _ h) (by omega) rfl rfl (Nat.le_of_ble_eq_true rfl) (by decide) rfl (fun _ => rfl) (fun r1 m1 h => ?_) (fun _ h => h)
        refine b_iconst dX5_looks_103 ?_
        obtain ⟨g4, h⟩ := h
        refine b_icmp_ne 123 dX5_looks_104 g4 (by decide) (by decide) (fun c4 => ?_) (fun c4 => ?_)
        · have h := ifF c4 h
          refine b_fgt [true, false, false] (ls' := [vR 372, vU, vU]) rfl rfl ?_
          exact pl_X5_looks_123 hf _ h
        · have h := ifT (Decidable.of_not_not c4) h
          refine b_aload_n dX5_looks_107 rfl ?_
          refine b_getR dX5_looks_108 fk_X5_15 ly_372 gg_372_0 ?_
          refine b_getI dX5_looks_111 fk_X5_81 ly_3 ?_
          refine b_bipush dX5_looks_114 (by decide) ?_
          obtain ⟨g5, h⟩ := h
          refine b_icmp_ne 123 dX5_looks_116 g5 (by decide) (by decide) (fun c5 => ?_) (fun c5 => ?_)
          · have h := ifF c5 h
            refine b_fgt [true, false, false] (ls' := [vR 372, vU, vU]) rfl rfl ?_
            exact pl_X5_looks_123 hf _ h
          · have h := ifT (Decidable.of_not_not c5) h
            refine b_fgt [true, false, false] (ls' := [vR 372, vU, vU]) rfl rfl ?_
            exact pl_X5_looks_119 hf _ h
  · have h := ifT (Decidable.of_not_not c1) h
    refine b_aload_n dX5_looks_51 rfl ?_
    refine b_getR dX5_looks_52 fk_X5_15 ly_372 gg_372_0 ?_
    refine b_getI dX5_looks_55 fk_X5_37 ly_3 ?_
    refine b_bipush dX5_looks_58 (by decide) ?_
    obtain ⟨g6, h⟩ := h
    refine b_icmp_ne 67 dX5_looks_60 g6 (by decide) (by decide) (fun c6 => ?_) (fun c6 => ?_)
    · have h := ifF c6 h
      refine b_iconst dX5_looks_67 ?_
      refine b_goto 124 dX5_looks_68 (by decide) ?_
      refine b_fgt [true, false, false] (ls' := [vR 372, vU, vU]) rfl rfl ?_
      exact pl_X5_looks_124 hf _ _ h
    · have h := ifT (Decidable.of_not_not c6) h
      refine b_iconst dX5_looks_63 ?_
      refine b_goto 124 dX5_looks_64 (by decide) ?_
      refine b_fgt [true, false, false] (ls' := [vR 372, vU, vU]) rfl rfl ?_
      exact pl_X5_looks_124 hf _ _ h
theorem p_X5_looks {f : Nat} {Q : Int → MM → Prop} {T : MM → Prop} (hf : 687 ≤ f) (x1 : Int) (m : MM) (h : P_X5_looks x1 m Q) : CC f M_X5_looks [vR 372, vR x1] m Q T := by
  refine CC.of (plainFor_of_name (by decide)) (Nat.le_of_ble_eq_true rfl) (ls := [vR 372, vR x1, vU]) rfl ?_
  have h : P_X5_begin m (fun r1 m1 => ∀ m2 : MM, m2 = up m1 372 1 x1 → (isTx x1) ∧ (RI (m2 x1 1)) ∧ (if (m2 x1 1) = 2 then P_X5_head m2 (fun r3 m4 => (RI (m4 372 5)) ∧ (if (m4 372 5) = 0 then P_X5_body m4 (fun r4 m5 => P_X5_looks_43 Q x1 m5) else P_X5_looks_43 Q x1 m4)) else P_X5_judge x1 (-1) (-1) m2 (fun r2 m3 => P_X5_looks_43 Q x1 m3))) := h
  refine b_aload_n dX5_looks_0 rfl ?_
  refine b_cVv (as := []) (st := []) dX5_looks_1 mf_X5_begin q1038 lk_X5_54 ly_372 rfl (p_X5_begin (f := 1) (Nat.le_refl _) _ h) (by omega) rfl rfl (Nat.le_of_ble_eq_true rfl) (by decide) rfl (fun _ => rfl) (fun r1 m1 h => ?_) (fun _ h => h)
  refine b_aload_n dX5_looks_4 rfl ?_
  refine b_aload_n dX5_looks_5 rfl ?_
  refine b_putM dX5_looks_6 fk_X5_26 (Or.inl ⟨_, rfl⟩) ly_372 (fun m2 em2 => ?_)
  have h := h m2 em2
  refine b_aload_n dX5_looks_9 rfl ?_
  obtain ⟨g1, h⟩ := h
  refine b_getI dX5_looks_10 fk_X5_57 (tx_ly0 g1) ?_
  refine b_iconst dX5_looks_13 ?_
  obtain ⟨g2, h⟩ := h
  refine b_icmp_ne 35 dX5_looks_14 g2 (by decide) (by decide) (fun c1 => ?_) (fun c1 => ?_)
  · have h := ifF c1 h
    refine b_aload_n dX5_looks_35 rfl ?_
    refine b_aload_n dX5_looks_36 rfl ?_
    refine b_iconst dX5_looks_37 ?_
    refine b_iconst dX5_looks_38 ?_
    refine b_cVi (as := [vR x1, vI (-1), vI (-1)]) (st := []) dX5_looks_39 mf_X5_judge q1083 lk_X5_66 ly_372 rfl (p_X5_judge (f := 684) (Nat.le_refl _) _ _ _ _ h) (by omega) rfl rfl (Nat.le_of_ble_eq_true rfl) (by decide) rfl (fun _ => rfl) (fun r2 m3 h => ?_) (fun _ h => h)
    refine b_istore_n (ls' := [vR 372, vR x1, vI r2]) dX5_looks_42 (Nat.le_of_ble_eq_true rfl) rfl ?_
    refine b_fgt [true, true, false] (ls' := [vR 372, vR x1, vU]) rfl rfl ?_
    exact pl_X5_looks_43 hf _ _ h
  · have h := ifT (Decidable.of_not_not c1) h
    refine b_aload_n dX5_looks_17 rfl ?_
    refine b_cVv (as := []) (st := []) dX5_looks_18 mf_X5_head qs35 lk_X5_60 ly_372 rfl (p_X5_head (f := 44) (Nat.le_refl _) _ h) (by omega) rfl rfl (Nat.le_of_ble_eq_true rfl) (by decide) rfl (fun _ => rfl) (fun r3 m4 h => ?_) (fun _ h => h)
    refine b_aload_n dX5_looks_21 rfl ?_
    refine b_getI dX5_looks_22 fk_X5_19 ly_372 ?_
    obtain ⟨g3, h⟩ := h
    refine b_if_ne 43 dX5_looks_25 g3 (by decide) (fun c2 => ?_) (fun c2 => ?_)
    · have h := ifF c2 h
      exact pl_X5_looks_43 hf _ _ h
    · have h := ifT (Decidable.of_not_not c2) h
      refine b_aload_n dX5_looks_28 rfl ?_
      refine b_cVv (as := []) (st := []) dX5_looks_29 mf_X5_body qs40 lk_X5_63 ly_372 rfl (p_X5_body (f := 686) (Nat.le_refl _) _ h) (by omega) rfl rfl (Nat.le_of_ble_eq_true rfl) (by decide) rfl (fun _ => rfl) (fun r4 m5 h => ?_) (fun _ h => h)
      refine b_goto 43 dX5_looks_32 (by decide) ?_
      exact pl_X5_looks_43 hf _ _ h
