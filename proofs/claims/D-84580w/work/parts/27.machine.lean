set_option maxRecDepth 100000
theorem dX6_codeOf_0 : decode cX6_codeOf 0 = .ok (.iconst 0, 1) := by decide +kernel
theorem dX6_codeOf_1 : decode cX6_codeOf 1 = .ok (.istore 5, 2) := by decide +kernel
theorem dX6_codeOf_3 : decode cX6_codeOf 3 = .ok (.iload 5, 2) := by decide +kernel
theorem dX6_codeOf_5 : decode cX6_codeOf 5 = .ok (.bipush 48, 2) := by decide +kernel
theorem dX6_codeOf_7 : decode cX6_codeOf 7 = .ok (.if_icmp .ge 45, 3) := by decide +kernel
theorem dX6_codeOf_10 : decode cX6_codeOf 10 = .ok (.iload_n 1, 1) := by decide +kernel
theorem dX6_codeOf_11 : decode cX6_codeOf 11 = .ok (.iconst (-1), 1) := by decide +kernel
theorem dX6_codeOf_12 : decode cX6_codeOf 12 = .ok (.if_icmp .eq 40, 3) := by decide +kernel
theorem dX6_codeOf_15 : decode cX6_codeOf 15 = .ok (.aload_n 0, 1) := by decide +kernel
theorem dX6_codeOf_16 : decode cX6_codeOf 16 = .ok (.getfield 27, 3) := by decide +kernel
theorem dX6_codeOf_19 : decode cX6_codeOf 19 = .ok (.iload 5, 2) := by decide +kernel
theorem dX6_codeOf_21 : decode cX6_codeOf 21 = .ok (.aaload, 1) := by decide +kernel
theorem dX6_codeOf_22 : decode cX6_codeOf 22 = .ok (.getfield 75, 3) := by decide +kernel
theorem dX6_codeOf_25 : decode cX6_codeOf 25 = .ok (.iload_n 1, 1) := by decide +kernel
theorem dX6_codeOf_26 : decode cX6_codeOf 26 = .ok (.if_icmp .ne 20, 3) := by decide +kernel
theorem dX6_codeOf_29 : decode cX6_codeOf 29 = .ok (.aload_n 0, 1) := by decide +kernel
theorem dX6_codeOf_30 : decode cX6_codeOf 30 = .ok (.getfield 27, 3) := by decide +kernel
theorem dX6_codeOf_33 : decode cX6_codeOf 33 = .ok (.iload 5, 2) := by decide +kernel
theorem dX6_codeOf_35 : decode cX6_codeOf 35 = .ok (.aaload, 1) := by decide +kernel
theorem dX6_codeOf_36 : decode cX6_codeOf 36 = .ok (.getfield 79, 3) := by decide +kernel
theorem dX6_codeOf_39 : decode cX6_codeOf 39 = .ok (.iload_n 2, 1) := by decide +kernel
theorem dX6_codeOf_40 : decode cX6_codeOf 40 = .ok (.if_icmp .ne 6, 3) := by decide +kernel
theorem dX6_codeOf_43 : decode cX6_codeOf 43 = .ok (.iload 5, 2) := by decide +kernel
theorem dX6_codeOf_45 : decode cX6_codeOf 45 = .ok (.ireturn, 1) := by decide +kernel
theorem dX6_codeOf_46 : decode cX6_codeOf 46 = .ok (.iinc 5 1, 3) := by decide +kernel
theorem dX6_codeOf_49 : decode cX6_codeOf 49 = .ok (.goto (-46), 3) := by decide +kernel
theorem dX6_codeOf_52 : decode cX6_codeOf 52 = .ok (.aload_n 0, 1) := by decide +kernel
theorem dX6_codeOf_53 : decode cX6_codeOf 53 = .ok (.aload_n 0, 1) := by decide +kernel
theorem dX6_codeOf_54 : decode cX6_codeOf 54 = .ok (.getfield 82, 3) := by decide +kernel
theorem dX6_codeOf_57 : decode cX6_codeOf 57 = .ok (.iconst 1, 1) := by decide +kernel
theorem dX6_codeOf_58 : decode cX6_codeOf 58 = .ok (.iadd, 1) := by decide +kernel
theorem dX6_codeOf_59 : decode cX6_codeOf 59 = .ok (.bipush 48, 2) := by decide +kernel
theorem dX6_codeOf_61 : decode cX6_codeOf 61 = .ok (.irem, 1) := by decide +kernel
theorem dX6_codeOf_62 : decode cX6_codeOf 62 = .ok (.putfield 82, 3) := by decide +kernel
theorem dX6_codeOf_65 : decode cX6_codeOf 65 = .ok (.aload_n 0, 1) := by decide +kernel
theorem dX6_codeOf_66 : decode cX6_codeOf 66 = .ok (.getfield 27, 3) := by decide +kernel
theorem dX6_codeOf_69 : decode cX6_codeOf 69 = .ok (.aload_n 0, 1) := by decide +kernel
theorem dX6_codeOf_70 : decode cX6_codeOf 70 = .ok (.getfield 82, 3) := by decide +kernel
theorem dX6_codeOf_73 : decode cX6_codeOf 73 = .ok (.aaload, 1) := by decide +kernel
theorem dX6_codeOf_74 : decode cX6_codeOf 74 = .ok (.getfield 85, 3) := by decide +kernel
theorem dX6_codeOf_77 : decode cX6_codeOf 77 = .ok (.ifCond .gt (-25), 3) := by decide +kernel
theorem dX6_codeOf_80 : decode cX6_codeOf 80 = .ok (.aload_n 0, 1) := by decide +kernel
theorem dX6_codeOf_81 : decode cX6_codeOf 81 = .ok (.getfield 27, 3) := by decide +kernel
theorem dX6_codeOf_84 : decode cX6_codeOf 84 = .ok (.aload_n 0, 1) := by decide +kernel
theorem dX6_codeOf_85 : decode cX6_codeOf 85 = .ok (.getfield 82, 3) := by decide +kernel
theorem dX6_codeOf_88 : decode cX6_codeOf 88 = .ok (.aaload, 1) := by decide +kernel
theorem dX6_codeOf_89 : decode cX6_codeOf 89 = .ok (.astore 5, 2) := by decide +kernel
theorem dX6_codeOf_91 : decode cX6_codeOf 91 = .ok (.aload 5, 2) := by decide +kernel
theorem dX6_codeOf_93 : decode cX6_codeOf 93 = .ok (.iload_n 1, 1) := by decide +kernel
theorem dX6_codeOf_94 : decode cX6_codeOf 94 = .ok (.putfield 75, 3) := by decide +kernel
theorem dX6_codeOf_97 : decode cX6_codeOf 97 = .ok (.aload 5, 2) := by decide +kernel
theorem dX6_codeOf_99 : decode cX6_codeOf 99 = .ok (.iload_n 2, 1) := by decide +kernel
theorem dX6_codeOf_100 : decode cX6_codeOf 100 = .ok (.putfield 79, 3) := by decide +kernel
theorem dX6_codeOf_103 : decode cX6_codeOf 103 = .ok (.aload_n 0, 1) := by decide +kernel
theorem dX6_codeOf_104 : decode cX6_codeOf 104 = .ok (.getfield 60, 3) := by decide +kernel
theorem dX6_codeOf_107 : decode cX6_codeOf 107 = .ok (.invokevirtual 88, 3) := by decide +kernel
theorem dX6_codeOf_110 : decode cX6_codeOf 110 = .ok (.aload_n 0, 1) := by decide +kernel
theorem dX6_codeOf_111 : decode cX6_codeOf 111 = .ok (.getfield 60, 3) := by decide +kernel
theorem dX6_codeOf_114 : decode cX6_codeOf 114 = .ok (.aload_n 3, 1) := by decide +kernel
theorem dX6_codeOf_115 : decode cX6_codeOf 115 = .ok (.iload_n 1, 1) := by decide +kernel
theorem dX6_codeOf_116 : decode cX6_codeOf 116 = .ok (.iload_n 2, 1) := by decide +kernel
theorem dX6_codeOf_117 : decode cX6_codeOf 117 = .ok (.invokevirtual 93, 3) := by decide +kernel
theorem dX6_codeOf_120 : decode cX6_codeOf 120 = .ok (.istore 6, 2) := by decide +kernel
theorem dX6_codeOf_122 : decode cX6_codeOf 122 = .ok (.aload_n 0, 1) := by decide +kernel
theorem dX6_codeOf_123 : decode cX6_codeOf 123 = .ok (.getfield 12, 3) := by decide +kernel
theorem dX6_codeOf_126 : decode cX6_codeOf 126 = .ok (.aload_n 0, 1) := by decide +kernel
theorem dX6_codeOf_127 : decode cX6_codeOf 127 = .ok (.getfield 56, 3) := by decide +kernel
theorem dX6_codeOf_130 : decode cX6_codeOf 130 = .ok (.aload_n 3, 1) := by decide +kernel
theorem dX6_codeOf_131 : decode cX6_codeOf 131 = .ok (.aload 5, 2) := by decide +kernel
theorem dX6_codeOf_133 : decode cX6_codeOf 133 = .ok (.iload 4, 2) := by decide +kernel
theorem dX6_codeOf_135 : decode cX6_codeOf 135 = .ok (.invokevirtual 96, 3) := by decide +kernel
theorem dX6_codeOf_138 : decode cX6_codeOf 138 = .ok (.aload_n 0, 1) := by decide +kernel
theorem dX6_codeOf_139 : decode cX6_codeOf 139 = .ok (.getfield 82, 3) := by decide +kernel
theorem dX6_codeOf_142 : decode cX6_codeOf 142 = .ok (.ireturn, 1) := by decide +kernel
/-! AlgebraHouse$Machine.codeOf(IILAlgebraHouse$Text;I)I -/
def P_X6_codeOf_80 (Q : Int → MM → Prop) (x1 : Int) (x2 : Int) (x3 : Int) (x4 : Int) (m : MM) : Prop := (0 ≤ (m 376 6) ∧ (m 376 6) < 48) ∧ (isCd (389 + 4 * (m 376 6))) ∧ ∀ m1 : MM, m1 = up m (389 + 4 * (m 376 6)) 4 x1 → ∀ m2 : MM, m2 = up m1 (389 + 4 * (m 376 6)) 5 x2 → P_X5_begin m2 (fun r1 m3 => P_X5_judge x3 x1 x2 m3 (fun r2 m4 => P_X7_write x3 (389 + 4 * (m 376 6)) x4 m4 (fun r3 m5 => Q (m5 376 6) m5)))
def P_X6_codeOf_52 (Q : Int → MM → Prop) : Nat → Int → Int → Int → Int → MM → Prop
  | 0, _, _, _, _, _ => False
  | n + 1, x1, x2, x3, x4, m => (RI ((m 376 6) + 1)) ∧ ∀ m1 : MM, m1 = up m 376 6 (Int.tmod ((m 376 6) + 1) 48) → (0 ≤ (m1 376 6) ∧ (m1 376 6) < 48) ∧ (isCd (389 + 4 * (m1 376 6))) ∧ (RI (m1 (389 + 4 * (m1 376 6)) 6)) ∧ (if 0 < (m1 (389 + 4 * (m1 376 6)) 6) then P_X6_codeOf_52 Q n x1 x2 x3 x4 m1 else P_X6_codeOf_80 Q x1 x2 x3 x4 m1)
def P_X6_codeOf_3 (Q : Int → MM → Prop) : Nat → Int → Int → Int → Int → Int → MM → Prop
  | 0, _, _, _, _, _, _ => False
  | n + 1, x1, x2, x3, x4, x5, m => (RI x5) ∧ (if 48 ≤ x5 then ∃ nn, P_X6_codeOf_52 Q nn x1 x2 x3 x4 m else (RI x1) ∧ (if x1 = (-1) then ∃ nn, P_X6_codeOf_52 Q nn x1 x2 x3 x4 m else (0 ≤ x5 ∧ x5 < 48) ∧ (isCd (389 + 4 * x5)) ∧ (RI (m (389 + 4 * x5) 4)) ∧ (if (m (389 + 4 * x5) 4) = x1 then (RI (m (389 + 4 * x5) 5)) ∧ (RI x2) ∧ (if (m (389 + 4 * x5) 5) = x2 then Q x5 m else P_X6_codeOf_3 Q n x1 x2 x3 x4 (x5 + 1) m) else P_X6_codeOf_3 Q n x1 x2 x3 x4 (x5 + 1) m)))
def P_X6_codeOf (x1 : Int) (x2 : Int) (x3 : Int) (x4 : Int) (m : MM) (Q : Int → MM → Prop) : Prop := ∃ nn, P_X6_codeOf_3 Q nn x1 x2 x3 x4 0 m
theorem pl_X6_codeOf_80 {f : Nat} {Q : Int → MM → Prop} {T : MM → Prop} (hf : 685 ≤ f) : ∀ (x1 : Int) (x2 : Int) (x3 : Int) (x4 : Int) (m : MM), P_X6_codeOf_80 Q x1 x2 x3 x4 m → B f M_X6_codeOf 80 [vR 376, vI x1, vI x2, vR x3, vI x4, vU, vU] [] m Q T := by
  intro x1 x2 x3 x4 m h
  have h : (0 ≤ (m 376 6) ∧ (m 376 6) < 48) ∧ (isCd (389 + 4 * (m 376 6))) ∧ ∀ m1 : MM, m1 = up m (389 + 4 * (m 376 6)) 4 x1 → ∀ m2 : MM, m2 = up m1 (389 + 4 * (m 376 6)) 5 x2 → P_X5_begin m2 (fun r1 m3 => P_X5_judge x3 x1 x2 m3 (fun r2 m4 => P_X7_write x3 (389 + 4 * (m 376 6)) x4 m4 (fun r3 m5 => Q (m5 376 6) m5))) := h
  refine b_aload_n dX6_codeOf_80 rfl ?_
  refine b_getR dX6_codeOf_81 fk_X6_27 ly_376 gg_376_5 ?_
  refine b_aload_n dX6_codeOf_84 rfl ?_
  refine b_getI dX6_codeOf_85 fk_X6_82 ly_376 ?_
  obtain ⟨g1, h⟩ := h
  refine b_aald dX6_codeOf_88 ly_380 (Or.inr rfl) g1 (gg_codes _) ?_
  refine b_astore (ls' := [vR 376, vI x1, vI x2, vR x3, vI x4, vR (389 + 4 * (m 376 6)), vU]) dX6_codeOf_89 (Nat.le_of_ble_eq_true rfl) rfl ?_
  refine b_aload dX6_codeOf_91 rfl ?_
  refine b_iload_n dX6_codeOf_93 rfl ?_
  obtain ⟨g2, h⟩ := h
  refine b_putI dX6_codeOf_94 fk_X6_75 (cd_ly0 g2) (fun m1 em1 => ?_)
  have h := h m1 em1
  refine b_aload dX6_codeOf_97 rfl ?_
  refine b_iload_n dX6_codeOf_99 rfl ?_
  refine b_putI dX6_codeOf_100 fk_X6_79 (cd_ly0 g2) (fun m2 em2 => ?_)
  have h := h m2 em2
  refine b_aload_n dX6_codeOf_103 rfl ?_
  refine b_getR dX6_codeOf_104 fk_X6_60 ly_376 gg_376_1 ?_
  refine b_cVv (as := []) (st := []) dX6_codeOf_107 mf_X5_begin q1038 lk_X6_88 ly_372 rfl (p_X5_begin (f := 1) (Nat.le_refl _) _ h) (by omega) rfl rfl (Nat.le_of_ble_eq_true rfl) (by decide) rfl (fun _ => rfl) (fun r1 m3 h => ?_) (fun _ h => h)
  refine b_aload_n dX6_codeOf_110 rfl ?_
  refine b_getR dX6_codeOf_111 fk_X6_60 ly_376 gg_376_1 ?_
  refine b_aload_n dX6_codeOf_114 rfl ?_
  refine b_iload_n dX6_codeOf_115 rfl ?_
  refine b_iload_n dX6_codeOf_116 rfl ?_
  refine b_cVi (as := [vR x3, vI x1, vI x2]) (st := []) dX6_codeOf_117 mf_X5_judge q1083 lk_X6_93 ly_372 rfl (p_X5_judge (f := 684) (Nat.le_refl _) _ _ _ _ h) (by omega) rfl rfl (Nat.le_of_ble_eq_true rfl) (by decide) rfl (fun _ => rfl) (fun r2 m4 h => ?_) (fun _ h => h)
  refine b_istore (ls' := [vR 376, vI x1, vI x2, vR x3, vI x4, vR (389 + 4 * (m 376 6)), vI r2]) dX6_codeOf_120 (Nat.le_of_ble_eq_true rfl) rfl ?_
  refine b_aload_n dX6_codeOf_122 rfl ?_
  refine b_getR dX6_codeOf_123 fk_X6_12 ly_376 gg_376_2 ?_
  refine b_aload_n dX6_codeOf_126 rfl ?_
  refine b_getR dX6_codeOf_127 fk_X6_56 ly_376 gg_376_0 ?_
  refine b_aload_n dX6_codeOf_130 rfl ?_
  refine b_aload dX6_codeOf_131 rfl ?_
  refine b_iload dX6_codeOf_133 rfl ?_
  refine b_cVv (as := [vR 3, vR x3, vR (389 + 4 * (m 376 6)), vI x4]) (st := []) dX6_codeOf_135 mf_X7_write q1233 lk_X6_96 ly_377 rfl (p_X7_write (f := 506) (Nat.le_refl _) _ _ _ _ h) (by omega) rfl rfl (Nat.le_of_ble_eq_true rfl) (by decide) rfl (fun _ => rfl) (fun r3 m5 h => ?_) (fun _ h => h)
  refine b_aload_n dX6_codeOf_138 rfl ?_
  refine b_getI dX6_codeOf_139 fk_X6_82 ly_376 ?_
  exact b_iret dX6_codeOf_142 rfl h
theorem pl_X6_codeOf_52 {f : Nat} {Q : Int → MM → Prop} {T : MM → Prop} (hf : 685 ≤ f) : ∀ (n : Nat) (x1 : Int) (x2 : Int) (x3 : Int) (x4 : Int) (m : MM), P_X6_codeOf_52 Q n x1 x2 x3 x4 m → B f M_X6_codeOf 52 [vR 376, vI x1, vI x2, vR x3, vI x4, vU, vU] [] m Q T := by
  intro n
  induction n with
  | zero => intro x1 x2 x3 x4 m h; exact h.elim
  | succ n ih =>
    intro x1 x2 x3 x4 m h
    have h : (RI ((m 376 6) + 1)) ∧ ∀ m1 : MM, m1 = up m 376 6 (Int.tmod ((m 376 6) + 1) 48) → (0 ≤ (m1 376 6) ∧ (m1 376 6) < 48) ∧ (isCd (389 + 4 * (m1 376 6))) ∧ (RI (m1 (389 + 4 * (m1 376 6)) 6)) ∧ (if 0 < (m1 (389 + 4 * (m1 376 6)) 6) then P_X6_codeOf_52 Q n x1 x2 x3 x4 m1 else P_X6_codeOf_80 Q x1 x2 x3 x4 m1) := h
    refine b_aload_n dX6_codeOf_52 rfl ?_
    refine b_aload_n dX6_codeOf_53 rfl ?_
    refine b_getI dX6_codeOf_54 fk_X6_82 ly_376 ?_
    refine b_iconst dX6_codeOf_57 ?_
    refine b_iadd dX6_codeOf_58 ?_
    refine b_bipush dX6_codeOf_59 (by decide) ?_
    obtain ⟨g1, h⟩ := h
    refine b_irem dX6_codeOf_61 g1 (by decide) (by decide) ?_
    refine b_putI dX6_codeOf_62 fk_X6_82 ly_376 (fun m1 em1 => ?_)
    have h := h m1 em1
    refine b_aload_n dX6_codeOf_65 rfl ?_
    refine b_getR dX6_codeOf_66 fk_X6_27 ly_376 gg_376_5 ?_
    refine b_aload_n dX6_codeOf_69 rfl ?_
    refine b_getI dX6_codeOf_70 fk_X6_82 ly_376 ?_
    obtain ⟨g2, h⟩ := h
    refine b_aald dX6_codeOf_73 ly_380 (Or.inr rfl) g2 (gg_codes _) ?_
    obtain ⟨g3, h⟩ := h
    refine b_getI dX6_codeOf_74 fk_X6_85 (cd_ly0 g3) ?_
    obtain ⟨g4, h⟩ := h
    refine b_if_gt 52 dX6_codeOf_77 g4 (by decide) (fun c1 => ?_) (fun c1 => ?_)
    · have h := ifT c1 h
      exact ih _ _ _ _ _ h
    · have h := ifF c1 h
      exact pl_X6_codeOf_80 hf _ _ _ _ _ h
theorem pl_X6_codeOf_3 {f : Nat} {Q : Int → MM → Prop} {T : MM → Prop} (hf : 685 ≤ f) : ∀ (n : Nat) (x1 : Int) (x2 : Int) (x3 : Int) (x4 : Int) (x5 : Int) (m : MM), P_X6_codeOf_3 Q n x1 x2 x3 x4 x5 m → B f M_X6_codeOf 3 [vR 376, vI x1, vI x2, vR x3, vI x4, vI x5, vU] [] m Q T := by
  intro n
  induction n with
  | zero => intro x1 x2 x3 x4 x5 m h; exact h.elim
  | succ n ih =>
    intro x1 x2 x3 x4 x5 m h
    have h : (RI x5) ∧ (if 48 ≤ x5 then ∃ nn, P_X6_codeOf_52 Q nn x1 x2 x3 x4 m else (RI x1) ∧ (if x1 = (-1) then ∃ nn, P_X6_codeOf_52 Q nn x1 x2 x3 x4 m else (0 ≤ x5 ∧ x5 < 48) ∧ (isCd (389 + 4 * x5)) ∧ (RI (m (389 + 4 * x5) 4)) ∧ (if (m (389 + 4 * x5) 4) = x1 then (RI (m (389 + 4 * x5) 5)) ∧ (RI x2) ∧ (if (m (389 + 4 * x5) 5) = x2 then Q x5 m else P_X6_codeOf_3 Q n x1 x2 x3 x4 (x5 + 1) m) else P_X6_codeOf_3 Q n x1 x2 x3 x4 (x5 + 1) m))) := h
    refine b_iload dX6_codeOf_3 rfl ?_
    refine b_bipush dX6_codeOf_5 (by decide) ?_
    obtain ⟨g1, h⟩ := h
    refine b_icmp_ge 52 dX6_codeOf_7 g1 (by decide) (by decide) (fun c1 => ?_) (fun c1 => ?_)
    · have h := ifT c1 h
      refine b_fgt [true, true, true, true, true, false, false] (ls' := [vR 376, vI x1, vI x2, vR x3, vI x4, vU, vU]) rfl rfl ?_
      obtain ⟨nn, h⟩ := h
      exact pl_X6_codeOf_52 hf nn _ _ _ _ _ h
    · have h := ifF c1 h
      refine b_iload_n dX6_codeOf_10 rfl ?_
      refine b_iconst dX6_codeOf_11 ?_
      obtain ⟨g2, h⟩ := h
      refine b_icmp_eq 52 dX6_codeOf_12 g2 (by decide) (by decide) (fun c2 => ?_) (fun c2 => ?_)
      · have h := ifT c2 h
        refine b_fgt [true, true, true, true, true, false, false] (ls' := [vR 376, vI x1, vI x2, vR x3, vI x4, vU, vU]) rfl rfl ?_
        obtain ⟨nn, h⟩ := h
        exact pl_X6_codeOf_52 hf nn _ _ _ _ _ h
      · have h := ifF c2 h
        refine b_aload_n dX6_codeOf_15 rfl ?_
        refine b_getR dX6_codeOf_16 fk_X6_27 ly_376 gg_376_5 ?_
        refine b_iload dX6_codeOf_19 rfl ?_
        obtain ⟨g3, h⟩ := h
        refine b_aald dX6_codeOf_21 ly_380 (Or.inr rfl) g3 (gg_codes _) ?_
        obtain ⟨g4, h⟩ := h
        refine b_getI dX6_codeOf_22 fk_X6_75 (cd_ly0 g4) ?_
        refine b_iload_n dX6_codeOf_25 rfl ?_
        obtain ⟨g5, h⟩ := h
        refine b_icmp_ne 46 dX6_codeOf_26 g5 g2 (by decide) (fun c3 => ?_) (fun c3 => ?_)
        · have h := ifF c3 h
          refine b_iinc (ls' := [vR 376, vI x1, vI x2, vR x3, vI x4, vI (x5 + 1), vU]) dX6_codeOf_46 rfl rfl ?_
          refine b_goto 3 dX6_codeOf_49 (by decide) ?_
          exact ih _ _ _ _ _ _ h
        · have h := ifT (Decidable.of_not_not c3) h
          refine b_aload_n dX6_codeOf_29 rfl ?_
          refine b_getR dX6_codeOf_30 fk_X6_27 ly_376 gg_376_5 ?_
          refine b_iload dX6_codeOf_33 rfl ?_
          refine b_aald dX6_codeOf_35 ly_380 (Or.inr rfl) g3 (gg_codes _) ?_
          refine b_getI dX6_codeOf_36 fk_X6_79 (cd_ly0 g4) ?_
          refine b_iload_n dX6_codeOf_39 rfl ?_
          obtain ⟨g6, h⟩ := h
          obtain ⟨g7, h⟩ := h
          refine b_icmp_ne 46 dX6_codeOf_40 g6 g7 (by decide) (fun c4 => ?_) (fun c4 => ?_)
          · have h := ifF c4 h
            refine b_iinc (ls' := [vR 376, vI x1, vI x2, vR x3, vI x4, vI (x5 + 1), vU]) dX6_codeOf_46 rfl rfl ?_
            refine b_goto 3 dX6_codeOf_49 (by decide) ?_
            exact ih _ _ _ _ _ _ h
          · have h := ifT (Decidable.of_not_not c4) h
            refine b_iload dX6_codeOf_43 rfl ?_
            exact b_iret dX6_codeOf_45 rfl h
theorem p_X6_codeOf {f : Nat} {Q : Int → MM → Prop} {T : MM → Prop} (hf : 685 ≤ f) (x1 : Int) (x2 : Int) (x3 : Int) (x4 : Int) (m : MM) (h : P_X6_codeOf x1 x2 x3 x4 m Q) : CC f M_X6_codeOf [vR 376, vI x1, vI x2, vR x3, vI x4] m Q T := by
  refine CC.of (plainFor_of_name (by decide)) (Nat.le_of_ble_eq_true rfl) (ls := [vR 376, vI x1, vI x2, vR x3, vI x4, vU, vU]) rfl ?_
  have h : ∃ nn, P_X6_codeOf_3 Q nn x1 x2 x3 x4 0 m := h
  refine b_iconst dX6_codeOf_0 ?_
  refine b_istore (ls' := [vR 376, vI x1, vI x2, vR x3, vI x4, vI 0, vU]) dX6_codeOf_1 (Nat.le_of_ble_eq_true rfl) rfl ?_
  obtain ⟨nn, h⟩ := h
  exact pl_X6_codeOf_3 hf nn _ _ _ _ _ _ h
theorem dX6_enter_0 : decode cX6_enter 0 = .ok (.aload_n 0, 1) := by decide +kernel
theorem dX6_enter_1 : decode cX6_enter 1 = .ok (.getfield 35, 3) := by decide +kernel
theorem dX6_enter_4 : decode cX6_enter 4 = .ok (.aload_n 0, 1) := by decide +kernel
theorem dX6_enter_5 : decode cX6_enter 5 = .ok (.getfield 100, 3) := by decide +kernel
theorem dX6_enter_8 : decode cX6_enter 8 = .ok (.iload_n 1, 1) := by decide +kernel
theorem dX6_enter_9 : decode cX6_enter 9 = .ok (.iastore, 1) := by decide +kernel
theorem dX6_enter_10 : decode cX6_enter 10 = .ok (.aload_n 0, 1) := by decide +kernel
theorem dX6_enter_11 : decode cX6_enter 11 = .ok (.getfield 38, 3) := by decide +kernel
theorem dX6_enter_14 : decode cX6_enter 14 = .ok (.aload_n 0, 1) := by decide +kernel
theorem dX6_enter_15 : decode cX6_enter 15 = .ok (.getfield 100, 3) := by decide +kernel
theorem dX6_enter_18 : decode cX6_enter 18 = .ok (.aload_n 0, 1) := by decide +kernel
theorem dX6_enter_19 : decode cX6_enter 19 = .ok (.getfield 103, 3) := by decide +kernel
theorem dX6_enter_22 : decode cX6_enter 22 = .ok (.iastore, 1) := by decide +kernel
theorem dX6_enter_23 : decode cX6_enter 23 = .ok (.aload_n 0, 1) := by decide +kernel
theorem dX6_enter_24 : decode cX6_enter 24 = .ok (.getfield 41, 3) := by decide +kernel
theorem dX6_enter_27 : decode cX6_enter 27 = .ok (.aload_n 0, 1) := by decide +kernel
theorem dX6_enter_28 : decode cX6_enter 28 = .ok (.getfield 100, 3) := by decide +kernel
theorem dX6_enter_31 : decode cX6_enter 31 = .ok (.iload_n 2, 1) := by decide +kernel
theorem dX6_enter_32 : decode cX6_enter 32 = .ok (.iastore, 1) := by decide +kernel
theorem dX6_enter_33 : decode cX6_enter 33 = .ok (.aload_n 0, 1) := by decide +kernel
theorem dX6_enter_34 : decode cX6_enter 34 = .ok (.getfield 44, 3) := by decide +kernel
theorem dX6_enter_37 : decode cX6_enter 37 = .ok (.aload_n 0, 1) := by decide +kernel
theorem dX6_enter_38 : decode cX6_enter 38 = .ok (.getfield 100, 3) := by decide +kernel
theorem dX6_enter_41 : decode cX6_enter 41 = .ok (.iload_n 3, 1) := by decide +kernel
theorem dX6_enter_42 : decode cX6_enter 42 = .ok (.iastore, 1) := by decide +kernel
theorem dX6_enter_43 : decode cX6_enter 43 = .ok (.aload_n 0, 1) := by decide +kernel
theorem dX6_enter_44 : decode cX6_enter 44 = .ok (.dup, 1) := by decide +kernel
theorem dX6_enter_45 : decode cX6_enter 45 = .ok (.getfield 100, 3) := by decide +kernel
theorem dX6_enter_48 : decode cX6_enter 48 = .ok (.iconst 1, 1) := by decide +kernel
theorem dX6_enter_49 : decode cX6_enter 49 = .ok (.iadd, 1) := by decide +kernel
theorem dX6_enter_50 : decode cX6_enter 50 = .ok (.putfield 100, 3) := by decide +kernel
theorem dX6_enter_53 : decode cX6_enter 53 = .ok (.aload_n 0, 1) := by decide +kernel
theorem dX6_enter_54 : decode cX6_enter 54 = .ok (.getfield 27, 3) := by decide +kernel
theorem dX6_enter_57 : decode cX6_enter 57 = .ok (.iload_n 1, 1) := by decide +kernel
theorem dX6_enter_58 : decode cX6_enter 58 = .ok (.aaload, 1) := by decide +kernel
theorem dX6_enter_59 : decode cX6_enter 59 = .ok (.dup, 1) := by decide +kernel
theorem dX6_enter_60 : decode cX6_enter 60 = .ok (.getfield 85, 3) := by decide +kernel
theorem dX6_enter_63 : decode cX6_enter 63 = .ok (.iconst 1, 1) := by decide +kernel
theorem dX6_enter_64 : decode cX6_enter 64 = .ok (.iadd, 1) := by decide +kernel
theorem dX6_enter_65 : decode cX6_enter 65 = .ok (.putfield 85, 3) := by decide +kernel
theorem dX6_enter_68 : decode cX6_enter 68 = .ok (.aload_n 0, 1) := by decide +kernel
theorem dX6_enter_69 : decode cX6_enter 69 = .ok (.getfield 21, 3) := by decide +kernel
theorem dX6_enter_72 : decode cX6_enter 72 = .ok (.iload_n 3, 1) := by decide +kernel
theorem dX6_enter_73 : decode cX6_enter 73 = .ok (.putfield 106, 3) := by decide +kernel
theorem dX6_enter_76 : decode cX6_enter 76 = .ok (.aload_n 0, 1) := by decide +kernel
theorem dX6_enter_77 : decode cX6_enter 77 = .ok (.iconst 0, 1) := by decide +kernel
theorem dX6_enter_78 : decode cX6_enter 78 = .ok (.putfield 103, 3) := by decide +kernel
theorem dX6_enter_81 : decode cX6_enter 81 = .ok (.return_, 1) := by decide +kernel
/-! AlgebraHouse$Machine.enter(III)V -/
def P_X6_enter (x1 : Int) (x2 : Int) (x3 : Int) (m : MM) (Q : Int → MM → Prop) : Prop := (0 ≤ (m 376 13) ∧ (m 376 13) < 21) ∧ ∀ m1 : MM, m1 = up m 382 (m 376 13) x1 → (0 ≤ (m1 376 13) ∧ (m1 376 13) < 21) ∧ ∀ m2 : MM, m2 = up m1 383 (m1 376 13) (m1 376 14) → (0 ≤ (m2 376 13) ∧ (m2 376 13) < 21) ∧ ∀ m3 : MM, m3 = up m2 384 (m2 376 13) x2 → (0 ≤ (m3 376 13) ∧ (m3 376 13) < 21) ∧ ∀ m4 : MM, m4 = up m3 385 (m3 376 13) x3 → ∀ m5 : MM, m5 = up m4 376 13 ((m4 376 13) + 1) → (0 ≤ x1 ∧ x1 < 48) ∧ (isCd (389 + 4 * x1)) ∧ ∀ m6 : MM, m6 = up m5 (389 + 4 * x1) 6 ((m5 (389 + 4 * x1) 6) + 1) → ∀ m7 : MM, m7 = up m6 378 1 x3 → ∀ m8 : MM, m8 = up m7 376 14 0 → Q 0 m8
theorem p_X6_enter {f : Nat} {Q : Int → MM → Prop} {T : MM → Prop} (hf : 1 ≤ f) (x1 : Int) (x2 : Int) (x3 : Int) (m : MM) (h : P_X6_enter x1 x2 x3 m Q) : CC f M_X6_enter [vR 376, vI x1, vI x2, vI x3] m Q T := by
  refine CC.of (plainFor_of_name (by decide)) (Nat.le_of_ble_eq_true rfl) (ls := [vR 376, vI x1, vI x2, vI x3]) rfl ?_
  have h : (0 ≤ (m 376 13) ∧ (m 376 13) < 21) ∧ ∀ m1 : MM, m1 = up m 382 (m 376 13) x1 → (0 ≤ (m1 376 13) ∧ (m1 376 13) < 21) ∧ ∀ m2 : MM, m2 = up m1 383 (m1 376 13) (m1 376 14) → (0 ≤ (m2 376 13) ∧ (m2 376 13) < 21) ∧ ∀ m3 : MM, m3 = up m2 384 (m2 376 13) x2 → (0 ≤ (m3 376 13) ∧ (m3 376 13) < 21) ∧ ∀ m4 : MM, m4 = up m3 385 (m3 376 13) x3 → ∀ m5 : MM, m5 = up m4 376 13 ((m4 376 13) + 1) → (0 ≤ x1 ∧ x1 < 48) ∧ (isCd (389 + 4 * x1)) ∧ ∀ m6 : MM, m6 = up m5 (389 + 4 * x1) 6 ((m5 (389 + 4 * x1) 6) + 1) → ∀ m7 : MM, m7 = up m6 378 1 x3 → ∀ m8 : MM, m8 = up m7 376 14 0 → Q 0 m8 := h
  refine b_aload_n dX6_enter_0 rfl ?_
  refine b_getR dX6_enter_1 fk_X6_35 ly_376 gg_376_9 ?_
  refine b_aload_n dX6_enter_4 rfl ?_
  refine b_getI dX6_enter_5 fk_X6_100 ly_376 ?_
  refine b_iload_n dX6_enter_8 rfl ?_
  obtain ⟨g1, h⟩ := h
  refine b_iast dX6_enter_9 ly_382 g1 (fun m1 em1 => ?_)
  have h := h m1 em1
  refine b_aload_n dX6_enter_10 rfl ?_
  refine b_getR dX6_enter_11 fk_X6_38 ly_376 gg_376_10 ?_
  refine b_aload_n dX6_enter_14 rfl ?_
  refine b_getI dX6_enter_15 fk_X6_100 ly_376 ?_
  refine b_aload_n dX6_enter_18 rfl ?_
  refine b_getI dX6_enter_19 fk_X6_103 ly_376 ?_
  obtain ⟨g2, h⟩ := h
  refine b_iast dX6_enter_22 ly_383 g2 (fun m2 em2 => ?_)
  have h := h m2 em2
  refine b_aload_n dX6_enter_23 rfl ?_
  refine b_getR dX6_enter_24 fk_X6_41 ly_376 gg_376_11 ?_
  refine b_aload_n dX6_enter_27 rfl ?_
  refine b_getI dX6_enter_28 fk_X6_100 ly_376 ?_
  refine b_iload_n dX6_enter_31 rfl ?_
  obtain ⟨g3, h⟩ := h
  refine b_iast dX6_enter_32 ly_384 g3 (fun m3 em3 => ?_)
  have h := h m3 em3
  refine b_aload_n dX6_enter_33 rfl ?_
  refine b_getR dX6_enter_34 fk_X6_44 ly_376 gg_376_12 ?_
  refine b_aload_n dX6_enter_37 rfl ?_
  refine b_getI dX6_enter_38 fk_X6_100 ly_376 ?_
  refine b_iload_n dX6_enter_41 rfl ?_
  obtain ⟨g4, h⟩ := h
  refine b_iast dX6_enter_42 ly_385 g4 (fun m4 em4 => ?_)
  have h := h m4 em4
  refine b_aload_n dX6_enter_43 rfl ?_
  refine b_dup dX6_enter_44 rfl ?_
  refine b_getI dX6_enter_45 fk_X6_100 ly_376 ?_
  refine b_iconst dX6_enter_48 ?_
  refine b_iadd dX6_enter_49 ?_
  refine b_putI dX6_enter_50 fk_X6_100 ly_376 (fun m5 em5 => ?_)
  have h := h m5 em5
  refine b_aload_n dX6_enter_53 rfl ?_
  refine b_getR dX6_enter_54 fk_X6_27 ly_376 gg_376_5 ?_
  refine b_iload_n dX6_enter_57 rfl ?_
  obtain ⟨g5, h⟩ := h
  refine b_aald dX6_enter_58 ly_380 (Or.inr rfl) g5 (gg_codes _) ?_
  refine b_dup dX6_enter_59 rfl ?_
  obtain ⟨g6, h⟩ := h
  refine b_getI dX6_enter_60 fk_X6_85 (cd_ly0 g6) ?_
  refine b_iconst dX6_enter_63 ?_
  refine b_iadd dX6_enter_64 ?_
  refine b_putI dX6_enter_65 fk_X6_85 (cd_ly0 g6) (fun m6 em6 => ?_)
  have h := h m6 em6
  refine b_aload_n dX6_enter_68 rfl ?_
  refine b_getR dX6_enter_69 fk_X6_21 ly_376 gg_376_3 ?_
  refine b_iload_n dX6_enter_72 rfl ?_
  refine b_putI dX6_enter_73 fk_X6_106 ly_378 (fun m7 em7 => ?_)
  have h := h m7 em7
  refine b_aload_n dX6_enter_76 rfl ?_
  refine b_iconst dX6_enter_77 ?_
  refine b_putI dX6_enter_78 fk_X6_103 ly_376 (fun m8 em8 => ?_)
  have h := h m8 em8
  exact b_vret dX6_enter_81 rfl h
theorem dX6_call_0 : decode cX6_call 0 = .ok (.aload_n 0, 1) := by decide +kernel
theorem dX6_call_1 : decode cX6_call 1 = .ok (.getfield 56, 3) := by decide +kernel
theorem dX6_call_4 : decode cX6_call 4 = .ok (.getfield 212, 3) := by decide +kernel
theorem dX6_call_7 : decode cX6_call 7 = .ok (.iload_n 1, 1) := by decide +kernel
theorem dX6_call_8 : decode cX6_call 8 = .ok (.aaload, 1) := by decide +kernel
theorem dX6_call_9 : decode cX6_call 9 = .ok (.astore_n 3, 1) := by decide +kernel
theorem dX6_call_10 : decode cX6_call 10 = .ok (.aload_n 0, 1) := by decide +kernel
theorem dX6_call_11 : decode cX6_call 11 = .ok (.getfield 100, 3) := by decide +kernel
theorem dX6_call_14 : decode cX6_call 14 = .ok (.bipush 20, 2) := by decide +kernel
theorem dX6_call_16 : decode cX6_call 16 = .ok (.if_icmp .le 13, 3) := by decide +kernel
theorem dX6_call_19 : decode cX6_call 19 = .ok (.aload_n 0, 1) := by decide +kernel
theorem dX6_call_20 : decode cX6_call 20 = .ok (.getfield 21, 3) := by decide +kernel
theorem dX6_call_23 : decode cX6_call 23 = .ok (.bipush 7, 2) := by decide +kernel
theorem dX6_call_25 : decode cX6_call 25 = .ok (.putfield 109, 3) := by decide +kernel
theorem dX6_call_28 : decode cX6_call 28 = .ok (.return_, 1) := by decide +kernel
theorem dX6_call_29 : decode cX6_call 29 = .ok (.iconst 0, 1) := by decide +kernel
theorem dX6_call_30 : decode cX6_call 30 = .ok (.istore 4, 2) := by decide +kernel
theorem dX6_call_32 : decode cX6_call 32 = .ok (.iload_n 2, 1) := by decide +kernel
theorem dX6_call_33 : decode cX6_call 33 = .ok (.istore 5, 2) := by decide +kernel
theorem dX6_call_35 : decode cX6_call 35 = .ok (.aload_n 3, 1) := by decide +kernel
theorem dX6_call_36 : decode cX6_call 36 = .ok (.getfield 218, 3) := by decide +kernel
theorem dX6_call_39 : decode cX6_call 39 = .ok (.ifCond .le 68, 3) := by decide +kernel
theorem dX6_call_42 : decode cX6_call 42 = .ok (.iload_n 2, 1) := by decide +kernel
theorem dX6_call_43 : decode cX6_call 43 = .ok (.invokestatic 197, 3) := by decide +kernel
theorem dX6_call_46 : decode cX6_call 46 = .ok (.istore 6, 2) := by decide +kernel
theorem dX6_call_48 : decode cX6_call 48 = .ok (.iload 6, 2) := by decide +kernel
theorem dX6_call_50 : decode cX6_call 50 = .ok (.sipush 20000, 3) := by decide +kernel
theorem dX6_call_53 : decode cX6_call 53 = .ok (.if_icmp .lt 13, 3) := by decide +kernel
theorem dX6_call_56 : decode cX6_call 56 = .ok (.aload_n 0, 1) := by decide +kernel
theorem dX6_call_57 : decode cX6_call 57 = .ok (.getfield 21, 3) := by decide +kernel
theorem dX6_call_60 : decode cX6_call 60 = .ok (.getfield 106, 3) := by decide +kernel
theorem dX6_call_63 : decode cX6_call 63 = .ok (.goto 5, 3) := by decide +kernel
theorem dX6_call_66 : decode cX6_call 66 = .ok (.iload 6, 2) := by decide +kernel
theorem dX6_call_68 : decode cX6_call 68 = .ok (.istore 4, 2) := by decide +kernel
theorem dX6_call_70 : decode cX6_call 70 = .ok (.iload 6, 2) := by decide +kernel
theorem dX6_call_72 : decode cX6_call 72 = .ok (.iconst 1, 1) := by decide +kernel
theorem dX6_call_73 : decode cX6_call 73 = .ok (.if_icmp .le 34, 3) := by decide +kernel
theorem dX6_call_76 : decode cX6_call 76 = .ok (.iload 6, 2) := by decide +kernel
theorem dX6_call_78 : decode cX6_call 78 = .ok (.sipush 20000, 3) := by decide +kernel
theorem dX6_call_81 : decode cX6_call 81 = .ok (.if_icmp .ge 26, 3) := by decide +kernel
theorem dX6_call_84 : decode cX6_call 84 = .ok (.iload_n 2, 1) := by decide +kernel
theorem dX6_call_85 : decode cX6_call 85 = .ok (.iload 6, 2) := by decide +kernel
theorem dX6_call_87 : decode cX6_call 87 = .ok (.invokestatic 221, 3) := by decide +kernel
theorem dX6_call_90 : decode cX6_call 90 = .ok (.ifCond .eq 9, 3) := by decide +kernel
theorem dX6_call_93 : decode cX6_call 93 = .ok (.sipush 20000, 3) := by decide +kernel
theorem dX6_call_96 : decode cX6_call 96 = .ok (.goto 6, 3) := by decide +kernel
theorem dX6_call_99 : decode cX6_call 99 = .ok (.sipush 20001, 3) := by decide +kernel
theorem dX6_call_102 : decode cX6_call 102 = .ok (.invokestatic 225, 3) := by decide +kernel
theorem dX6_call_105 : decode cX6_call 105 = .ok (.istore 5, 2) := by decide +kernel
theorem dX6_call_107 : decode cX6_call 107 = .ok (.aload_n 3, 1) := by decide +kernel
theorem dX6_call_108 : decode cX6_call 108 = .ok (.iconst 0, 1) := by decide +kernel
theorem dX6_call_109 : decode cX6_call 109 = .ok (.iload 5, 2) := by decide +kernel
theorem dX6_call_111 : decode cX6_call 111 = .ok (.invokestatic 229, 3) := by decide +kernel
theorem dX6_call_114 : decode cX6_call 114 = .ok (.istore 6, 2) := by decide +kernel
theorem dX6_call_116 : decode cX6_call 116 = .ok (.aload_n 0, 1) := by decide +kernel
theorem dX6_call_117 : decode cX6_call 117 = .ok (.iload_n 1, 1) := by decide +kernel
theorem dX6_call_118 : decode cX6_call 118 = .ok (.iload 5, 2) := by decide +kernel
theorem dX6_call_120 : decode cX6_call 120 = .ok (.aload_n 3, 1) := by decide +kernel
theorem dX6_call_121 : decode cX6_call 121 = .ok (.iload 6, 2) := by decide +kernel
theorem dX6_call_123 : decode cX6_call 123 = .ok (.invokevirtual 128, 3) := by decide +kernel
theorem dX6_call_126 : decode cX6_call 126 = .ok (.istore 7, 2) := by decide +kernel
theorem dX6_call_128 : decode cX6_call 128 = .ok (.aload_n 0, 1) := by decide +kernel
theorem dX6_call_129 : decode cX6_call 129 = .ok (.iload 7, 2) := by decide +kernel
theorem dX6_call_131 : decode cX6_call 131 = .ok (.aload_n 0, 1) := by decide +kernel
theorem dX6_call_132 : decode cX6_call 132 = .ok (.getfield 112, 3) := by decide +kernel
theorem dX6_call_135 : decode cX6_call 135 = .ok (.aload_n 3, 1) := by decide +kernel
theorem dX6_call_136 : decode cX6_call 136 = .ok (.getfield 231, 3) := by decide +kernel
theorem dX6_call_139 : decode cX6_call 139 = .ok (.isub, 1) := by decide +kernel
theorem dX6_call_140 : decode cX6_call 140 = .ok (.iload 4, 2) := by decide +kernel
theorem dX6_call_142 : decode cX6_call 142 = .ok (.invokevirtual 132, 3) := by decide +kernel
theorem dX6_call_145 : decode cX6_call 145 = .ok (.aload_n 0, 1) := by decide +kernel
theorem dX6_call_146 : decode cX6_call 146 = .ok (.aload_n 0, 1) := by decide +kernel
theorem dX6_call_147 : decode cX6_call 147 = .ok (.getfield 118, 3) := by decide +kernel
theorem dX6_call_150 : decode cX6_call 150 = .ok (.aload_n 0, 1) := by decide +kernel
theorem dX6_call_151 : decode cX6_call 151 = .ok (.getfield 100, 3) := by decide +kernel
theorem dX6_call_154 : decode cX6_call 154 = .ok (.iconst 1, 1) := by decide +kernel
theorem dX6_call_155 : decode cX6_call 155 = .ok (.isub, 1) := by decide +kernel
theorem dX6_call_156 : decode cX6_call 156 = .ok (.invokestatic 234, 3) := by decide +kernel
theorem dX6_call_159 : decode cX6_call 159 = .ok (.putfield 118, 3) := by decide +kernel
theorem dX6_call_162 : decode cX6_call 162 = .ok (.return_, 1) := by decide +kernel
/-! AlgebraHouse$Machine.call(II)V -/
def P_X6_call_107 (Q : Int → MM → Prop) (x1 : Int) (x3 : Int) (x4 : Int) (x5 : Int) (m : MM) : Prop := P_X1_ring x3 0 x5 m (fun r1 m1 => P_X6_codeOf x1 x5 x3 r1 m1 (fun r2 m2 => (isTx x3) ∧ P_X6_enter r2 ((m2 376 8) - (m2 x3 5)) x4 m2 (fun r3 m3 => P_J4_max (m3 376 16) ((m3 376 13) - 1) m3 (fun r4 m4 => ∀ m5 : MM, m5 = up m4 376 16 r4 → Q 0 m5))))
def P_X6_call (x1 : Int) (x2 : Int) (m : MM) (Q : Int → MM → Prop) : Prop := (0 ≤ x1 ∧ x1 < 21) ∧ (RI (m 376 13)) ∧ (if (m 376 13) ≤ 20 then (isTx (8 + 17 * x1)) ∧ (RI (m (8 + 17 * x1) 22)) ∧ (if (m (8 + 17 * x1) 22) ≤ 0 then P_X6_call_107 Q x1 (8 + 17 * x1) 0 x2 m else P_X11_base x2 m (fun r1 m1 => ((RI r1)) ∧ (RI r1) ∧ (if r1 ≤ 1 then P_X6_call_107 Q x1 (8 + 17 * x1) (if r1 < 20000 then r1 else (m1 378 1) : Int) x2 m1 else (if 20000 ≤ r1 then P_X6_call_107 Q x1 (8 + 17 * x1) (if r1 < 20000 then r1 else (m1 378 1) : Int) x2 m1 else P_X11_isPrime r1 m1 (fun r2 m2 => ((RI r2)) ∧ P_X11_withBase x2 (if r2 = 0 then 20001 else 20000 : Int) m2 (fun r3 m3 => P_X6_call_107 Q x1 (8 + 17 * x1) (if r1 < 20000 then r1 else (m1 378 1) : Int) r3 m3)))))) else ∀ m4 : MM, m4 = up m 378 2 7 → Q 0 m4)
theorem pl_X6_call_107 {f : Nat} {Q : Int → MM → Prop} {T : MM → Prop} (hf : 686 ≤ f) : ∀ (x1 : Int) (x3 : Int) (x4 : Int) (x5 : Int) (m : MM), P_X6_call_107 Q x1 x3 x4 x5 m → B f M_X6_call 107 [vR 376, vI x1, vU, vR x3, vI x4, vI x5, vU, vU] [] m Q T := by
  intro x1 x3 x4 x5 m h
  have h : P_X1_ring x3 0 x5 m (fun r1 m1 => P_X6_codeOf x1 x5 x3 r1 m1 (fun r2 m2 => (isTx x3) ∧ P_X6_enter r2 ((m2 376 8) - (m2 x3 5)) x4 m2 (fun r3 m3 => P_J4_max (m3 376 16) ((m3 376 13) - 1) m3 (fun r4 m4 => ∀ m5 : MM, m5 = up m4 376 16 r4 → Q 0 m5)))) := h
  refine b_aload_n dX6_call_107 rfl ?_
  refine b_iconst dX6_call_108 ?_
  refine b_iload dX6_call_109 rfl ?_
  refine b_cSi (as := [vR x3, vI 0, vI x5]) (st := []) dX6_call_111 mf_X1_ring lk_X6_229 (p_X1_ring (f := 2) (Nat.le_refl _) _ _ _ _ h) (by omega) rfl rfl (Nat.le_of_ble_eq_true rfl) (by decide) rfl (fun _ => rfl) (fun r1 m1 h => ?_) (fun _ h => h)
  refine b_istore (ls' := [vR 376, vI x1, vU, vR x3, vI x4, vI x5, vI r1, vU]) dX6_call_114 (Nat.le_of_ble_eq_true rfl) rfl ?_
  refine b_aload_n dX6_call_116 rfl ?_
  refine b_iload_n dX6_call_117 rfl ?_
  refine b_iload dX6_call_118 rfl ?_
  refine b_aload_n dX6_call_120 rfl ?_
  refine b_iload dX6_call_121 rfl ?_
  refine b_cVi (as := [vI x1, vI x5, vR x3, vI r1]) (st := []) dX6_call_123 mf_X6_codeOf qs53 lk_X6_128 ly_376 rfl (p_X6_codeOf (f := 685) (Nat.le_refl _) _ _ _ _ _ h) (by omega) rfl rfl (Nat.le_of_ble_eq_true rfl) (by decide) rfl (fun _ => rfl) (fun r2 m2 h => ?_) (fun _ h => h)
  refine b_istore (ls' := [vR 376, vI x1, vU, vR x3, vI x4, vI x5, vI r1, vI r2]) dX6_call_126 (Nat.le_of_ble_eq_true rfl) rfl ?_
  refine b_aload_n dX6_call_128 rfl ?_
  refine b_iload dX6_call_129 rfl ?_
  refine b_aload_n dX6_call_131 rfl ?_
  refine b_getI dX6_call_132 fk_X6_112 ly_376 ?_
  refine b_aload_n dX6_call_135 rfl ?_
  obtain ⟨g1, h⟩ := h
  refine b_getI dX6_call_136 fk_X6_231 (tx_ly0 g1) ?_
  refine b_isub dX6_call_139 ?_
  refine b_iload dX6_call_140 rfl ?_
  refine b_cVv (as := [vI r2, vI ((m2 376 8) - (m2 x3 5)), vI x4]) (st := []) dX6_call_142 mf_X6_enter qs63 lk_X6_132 ly_376 rfl (p_X6_enter (f := 1) (Nat.le_refl _) _ _ _ _ h) (by omega) rfl rfl (Nat.le_of_ble_eq_true rfl) (by decide) rfl (fun _ => rfl) (fun r3 m3 h => ?_) (fun _ h => h)
  refine b_aload_n dX6_call_145 rfl ?_
  refine b_aload_n dX6_call_146 rfl ?_
  refine b_getI dX6_call_147 fk_X6_118 ly_376 ?_
  refine b_aload_n dX6_call_150 rfl ?_
  refine b_getI dX6_call_151 fk_X6_100 ly_376 ?_
  refine b_iconst dX6_call_154 ?_
  refine b_isub dX6_call_155 ?_
  refine b_cSi (as := [vI (m3 376 16), vI ((m3 376 13) - 1)]) (st := [vR 376]) dX6_call_156 mf_J4_max lk_X6_234 (p_J4_max (f := 1) (Nat.le_refl _) _ _ _ h) (by omega) rfl rfl (Nat.le_of_ble_eq_true rfl) (by decide) rfl (fun _ => rfl) (fun r4 m4 h => ?_) (fun _ h => h)
  refine b_putI dX6_call_159 fk_X6_118 ly_376 (fun m5 em5 => ?_)
  have h := h m5 em5
  exact b_vret dX6_call_162 rfl h
theorem p_X6_call {f : Nat} {Q : Int → MM → Prop} {T : MM → Prop} (hf : 686 ≤ f) (x1 : Int) (x2 : Int) (m : MM) (h : P_X6_call x1 x2 m Q) : CC f M_X6_call [vR 376, vI x1, vI x2] m Q T := by
  refine CC.of (plainFor_of_name (by decide)) (Nat.le_of_ble_eq_true rfl) (ls := [vR 376, vI x1, vI x2, vU, vU, vU, vU, vU]) rfl ?_
  have h : (0 ≤ x1 ∧ x1 < 21) ∧ (RI (m 376 13)) ∧ (if (m 376 13) ≤ 20 then (isTx (8 + 17 * x1)) ∧ (RI (m (8 + 17 * x1) 22)) ∧ (if (m (8 + 17 * x1) 22) ≤ 0 then P_X6_call_107 Q x1 (8 + 17 * x1) 0 x2 m else P_X11_base x2 m (fun r1 m1 => ((RI r1)) ∧ (RI r1) ∧ (if r1 ≤ 1 then P_X6_call_107 Q x1 (8 + 17 * x1) (if r1 < 20000 then r1 else (m1 378 1) : Int) x2 m1 else (if 20000 ≤ r1 then P_X6_call_107 Q x1 (8 + 17 * x1) (if r1 < 20000 then r1 else (m1 378 1) : Int) x2 m1 else P_X11_isPrime r1 m1 (fun r2 m2 => ((RI r2)) ∧ P_X11_withBase x2 (if r2 = 0 then 20001 else 20000 : Int) m2 (fun r3 m3 => P_X6_call_107 Q x1 (8 + 17 * x1) (if r1 < 20000 then r1 else (m1 378 1) : Int) r3 m3)))))) else ∀ m4 : MM, m4 = up m 378 2 7 → Q 0 m4) := h
  refine b_aload_n dX6_call_0 rfl ?_
  refine b_getR dX6_call_1 fk_X6_56 ly_376 gg_376_0 ?_
  refine b_getR dX6_call_4 fk_X6_212 ly_3 gg_3_0 ?_
  refine b_iload_n dX6_call_7 rfl ?_
  obtain ⟨g1, h⟩ := h
  refine b_aald dX6_call_8 ly_4 (Or.inl rfl) g1 (gg_told _) ?_
  refine b_astore_n (ls' := [vR 376, vI x1, vI x2, vR (8 + 17 * x1), vU, vU, vU, vU]) dX6_call_9 (Nat.le_of_ble_eq_true rfl) rfl ?_
  refine b_aload_n dX6_call_10 rfl ?_
  refine b_getI dX6_call_11 fk_X6_100 ly_376 ?_
  refine b_bipush dX6_call_14 (by decide) ?_
  obtain ⟨g2, h⟩ := h
  refine b_icmp_le 29 dX6_call_16 g2 (by decide) (by decide) (fun c1 => ?_) (fun c1 => ?_)
  · have h := ifT c1 h
    refine b_iconst dX6_call_29 ?_
    refine b_istore (ls' := [vR 376, vI x1, vI x2, vR (8 + 17 * x1), vI 0, vU, vU, vU]) dX6_call_30 (Nat.le_of_ble_eq_true rfl) rfl ?_
    refine b_iload_n dX6_call_32 rfl ?_
    refine b_istore (ls' := [vR 376, vI x1, vI x2, vR (8 + 17 * x1), vI 0, vI x2, vU, vU]) dX6_call_33 (Nat.le_of_ble_eq_true rfl) rfl ?_
    refine b_aload_n dX6_call_35 rfl ?_
    obtain ⟨g3, h⟩ := h
    refine b_getI dX6_call_36 fk_X6_218 (tx_ly0 g3) ?_
    obtain ⟨g4, h⟩ := h
    refine b_if_le 107 dX6_call_39 g4 (by decide) (fun c2 => ?_) (fun c2 => ?_)
    · have h := ifT c2 h
      refine b_fgt [true, true, false, true, true, true, false, false] (ls' := [vR 376, vI x1, vU, vR (8 + 17 * x1), vI 0, vI x2, vU, vU]) rfl rfl ?_
      exact pl_X6_call_107 hf _ _ _ _ _ h
    · have h := ifF c2 h
      refine b_iload_n dX6_call_42 rfl ?_
      refine b_cSi (as := [vI x2]) (st := []) dX6_call_43 mf_X11_base lk_X6_197 (p_X11_base (f := 1) (Nat.le_refl _) _ _ h) (by omega) rfl rfl (Nat.le_of_ble_eq_true rfl) (by decide) rfl (fun _ => rfl) (fun r1 m1 h => ?_) (fun _ h => h)
      refine b_istore (ls' := [vR 376, vI x1, vI x2, vR (8 + 17 * x1), vI 0, vI x2, vI r1, vU]) dX6_call_46 (Nat.le_of_ble_eq_true rfl) rfl ?_
      refine b_iload dX6_call_48 rfl ?_
      refine b_sipush dX6_call_50 (by decide) ?_
      obtain ⟨hs, h⟩ := h
      have K : B f M_X6_call 68 [vR 376, vI x1, vI x2, vR (8 + 17 * x1), vI 0, vI x2, vI r1, vU] [vI (if r1 < 20000 then r1 else (m1 378 1) : Int)] m1 Q T := by
        clear hs
        refine b_istore (ls' := [vR 376, vI x1, vI x2, vR (8 + 17 * x1), vI (if r1 < 20000 then r1 else (m1 378 1) : Int), vI x2, vI r1, vU]) dX6_call_68 (Nat.le_of_ble_eq_true rfl) rfl ?_
        refine b_iload dX6_call_70 rfl ?_
        refine b_iconst dX6_call_72 ?_
        obtain ⟨g6, h⟩ := h
        refine b_icmp_le 107 dX6_call_73 g6 (by decide) (by decide) (fun c3 => ?_) (fun c3 => ?_)
        · have h := ifT c3 h
          refine b_fgt [true, true, false, true, true, true, false, false] (ls' := [vR 376, vI x1, vU, vR (8 + 17 * x1), vI (if r1 < 20000 then r1 else (m1 378 1) : Int), vI x2, vU, vU]) rfl rfl ?_
          exact pl_X6_call_107 hf _ _ _ _ _ h
        · have h := ifF c3 h
          refine b_iload dX6_call_76 rfl ?_
          refine b_sipush dX6_call_78 (by decide) ?_
          refine b_icmp_ge 107 dX6_call_81 g6 (by decide) (by decide) (fun c4 => ?_) (fun c4 => ?_)
          · have h := ifT c4 h
            refine b_fgt [true, true, false, true, true, true, false, false] (ls' := [vR 376, vI x1, vU, vR (8 + 17 * x1), vI (if r1 < 20000 then r1 else (m1 378 1) : Int), vI x2, vU, vU]) rfl rfl ?_
            exact pl_X6_call_107 hf _ _ _ _ _ h
          · have h := ifF c4 h
            refine b_iload_n dX6_call_84 rfl ?_
            refine b_iload dX6_call_85 rfl ?_
            refine b_cSi (as := [vI r1]) (st := [vI x2]) dX6_call_87 mf_X11_isPrime lk_X6_221 (p_X11_isPrime (f := 1) (Nat.le_refl _) _ _ h) (by omega) rfl rfl (Nat.le_of_ble_eq_true rfl) (by decide) rfl (fun _ => rfl) (fun r2 m2 h => ?_) (fun _ h => h)
            obtain ⟨hs, h⟩ := h
            have K : B f M_X6_call 102 [vR 376, vI x1, vI x2, vR (8 + 17 * x1), vI (if r1 < 20000 then r1 else (m1 378 1) : Int), vI x2, vI r1, vU] [vI (if r2 = 0 then 20001 else 20000 : Int), vI x2] m2 Q T := by
              clear hs
              refine b_cSi (as := [vI x2, vI (if r2 = 0 then 20001 else 20000 : Int)]) (st := []) dX6_call_102 mf_X11_withBase lk_X6_225 (p_X11_withBase (f := 1) (Nat.le_refl _) _ _ _ h) (by omega) rfl rfl (Nat.le_of_ble_eq_true rfl) (by decide) rfl (fun _ => rfl) (fun r3 m3 h => ?_) (fun _ h => h)
              refine b_istore (ls' := [vR 376, vI x1, vI x2, vR (8 + 17 * x1), vI (if r1 < 20000 then r1 else (m1 378 1) : Int), vI r3, vI r1, vU]) dX6_call_105 (Nat.le_of_ble_eq_true rfl) rfl ?_
              refine b_fgt [true, true, false, true, true, true, false, false] (ls' := [vR 376, vI x1, vU, vR (8 + 17 * x1), vI (if r1 < 20000 then r1 else (m1 378 1) : Int), vI r3, vU, vU]) rfl rfl ?_
              exact pl_X6_call_107 hf _ _ _ _ _ h
            have g7 := hs
            refine b_if_eq 99 dX6_call_90 g7 (by decide) (fun c5 => ?_) (fun c5 => ?_)
            ·
              refine b_sipush dX6_call_99 (by decide) ?_
              rw [if_pos c5] at K
              exact K
            ·
              refine b_sipush dX6_call_93 (by decide) ?_
              refine b_goto 102 dX6_call_96 (by decide) ?_
              rw [if_neg c5] at K
              exact K
      have g5 := hs
      refine b_icmp_lt 66 dX6_call_53 g5 (by decide) (by decide) (fun c6 => ?_) (fun c6 => ?_)
      ·
        refine b_iload dX6_call_66 rfl ?_
        rw [if_pos c6] at K
        exact K
      ·
        refine b_aload_n dX6_call_56 rfl ?_
        refine b_getR dX6_call_57 fk_X6_21 ly_376 gg_376_3 ?_
        refine b_getI dX6_call_60 fk_X6_106 ly_378 ?_
        refine b_goto 68 dX6_call_63 (by decide) ?_
        rw [if_neg c6] at K
        exact K
  · have h := ifF c1 h
    refine b_aload_n dX6_call_19 rfl ?_
    refine b_getR dX6_call_20 fk_X6_21 ly_376 gg_376_3 ?_
    refine b_bipush dX6_call_23 (by decide) ?_
    refine b_putI dX6_call_25 fk_X6_109 ly_378 (fun m4 em4 => ?_)
    have h := h m4 em4
    exact b_vret dX6_call_28 rfl h
theorem dX6_ends_0 : decode cX6_ends 0 = .ok (.aload_n 0, 1) := by decide +kernel
theorem dX6_ends_1 : decode cX6_ends 1 = .ok (.dup, 1) := by decide +kernel
theorem dX6_ends_2 : decode cX6_ends 2 = .ok (.getfield 100, 3) := by decide +kernel
theorem dX6_ends_5 : decode cX6_ends 5 = .ok (.iconst 1, 1) := by decide +kernel
theorem dX6_ends_6 : decode cX6_ends 6 = .ok (.isub, 1) := by decide +kernel
theorem dX6_ends_7 : decode cX6_ends 7 = .ok (.putfield 100, 3) := by decide +kernel
theorem dX6_ends_10 : decode cX6_ends 10 = .ok (.aload_n 0, 1) := by decide +kernel
theorem dX6_ends_11 : decode cX6_ends 11 = .ok (.getfield 27, 3) := by decide +kernel
theorem dX6_ends_14 : decode cX6_ends 14 = .ok (.aload_n 0, 1) := by decide +kernel
theorem dX6_ends_15 : decode cX6_ends 15 = .ok (.getfield 35, 3) := by decide +kernel
theorem dX6_ends_18 : decode cX6_ends 18 = .ok (.aload_n 0, 1) := by decide +kernel
theorem dX6_ends_19 : decode cX6_ends 19 = .ok (.getfield 100, 3) := by decide +kernel
theorem dX6_ends_22 : decode cX6_ends 22 = .ok (.iaload, 1) := by decide +kernel
theorem dX6_ends_23 : decode cX6_ends 23 = .ok (.aaload, 1) := by decide +kernel
theorem dX6_ends_24 : decode cX6_ends 24 = .ok (.dup, 1) := by decide +kernel
theorem dX6_ends_25 : decode cX6_ends 25 = .ok (.getfield 85, 3) := by decide +kernel
theorem dX6_ends_28 : decode cX6_ends 28 = .ok (.iconst 1, 1) := by decide +kernel
theorem dX6_ends_29 : decode cX6_ends 29 = .ok (.isub, 1) := by decide +kernel
theorem dX6_ends_30 : decode cX6_ends 30 = .ok (.putfield 85, 3) := by decide +kernel
theorem dX6_ends_33 : decode cX6_ends 33 = .ok (.aload_n 0, 1) := by decide +kernel
theorem dX6_ends_34 : decode cX6_ends 34 = .ok (.getfield 41, 3) := by decide +kernel
theorem dX6_ends_37 : decode cX6_ends 37 = .ok (.aload_n 0, 1) := by decide +kernel
theorem dX6_ends_38 : decode cX6_ends 38 = .ok (.getfield 100, 3) := by decide +kernel
theorem dX6_ends_41 : decode cX6_ends 41 = .ok (.iaload, 1) := by decide +kernel
theorem dX6_ends_42 : decode cX6_ends 42 = .ok (.istore_n 2, 1) := by decide +kernel
theorem dX6_ends_43 : decode cX6_ends 43 = .ok (.aload_n 0, 1) := by decide +kernel
theorem dX6_ends_44 : decode cX6_ends 44 = .ok (.getfield 31, 3) := by decide +kernel
theorem dX6_ends_47 : decode cX6_ends 47 = .ok (.iload_n 2, 1) := by decide +kernel
theorem dX6_ends_48 : decode cX6_ends 48 = .ok (.iaload, 1) := by decide +kernel
theorem dX6_ends_49 : decode cX6_ends 49 = .ok (.istore_n 3, 1) := by decide +kernel
theorem dX6_ends_50 : decode cX6_ends 50 = .ok (.aload_n 0, 1) := by decide +kernel
theorem dX6_ends_51 : decode cX6_ends 51 = .ok (.getfield 73, 3) := by decide +kernel
theorem dX6_ends_54 : decode cX6_ends 54 = .ok (.aload_n 0, 1) := by decide +kernel
theorem dX6_ends_55 : decode cX6_ends 55 = .ok (.getfield 31, 3) := by decide +kernel
theorem dX6_ends_58 : decode cX6_ends 58 = .ok (.aload_n 0, 1) := by decide +kernel
theorem dX6_ends_59 : decode cX6_ends 59 = .ok (.getfield 112, 3) := by decide +kernel
theorem dX6_ends_62 : decode cX6_ends 62 = .ok (.iconst 1, 1) := by decide +kernel
theorem dX6_ends_63 : decode cX6_ends 63 = .ok (.isub, 1) := by decide +kernel
theorem dX6_ends_64 : decode cX6_ends 64 = .ok (.iaload, 1) := by decide +kernel
theorem dX6_ends_65 : decode cX6_ends 65 = .ok (.aload_n 0, 1) := by decide +kernel
theorem dX6_ends_66 : decode cX6_ends 66 = .ok (.getfield 73, 3) := by decide +kernel
theorem dX6_ends_69 : decode cX6_ends 69 = .ok (.iload_n 3, 1) := by decide +kernel
theorem dX6_ends_70 : decode cX6_ends 70 = .ok (.iload_n 1, 1) := by decide +kernel
theorem dX6_ends_71 : decode cX6_ends 71 = .ok (.invokestatic 164, 3) := by decide +kernel
theorem dX6_ends_74 : decode cX6_ends 74 = .ok (.invokestatic 178, 3) := by decide +kernel
theorem dX6_ends_77 : decode cX6_ends 77 = .ok (.aload_n 0, 1) := by decide +kernel
theorem dX6_ends_78 : decode cX6_ends 78 = .ok (.iload_n 2, 1) := by decide +kernel
theorem dX6_ends_79 : decode cX6_ends 79 = .ok (.iconst 1, 1) := by decide +kernel
theorem dX6_ends_80 : decode cX6_ends 80 = .ok (.iadd, 1) := by decide +kernel
theorem dX6_ends_81 : decode cX6_ends 81 = .ok (.putfield 112, 3) := by decide +kernel
theorem dX6_ends_84 : decode cX6_ends 84 = .ok (.aload_n 0, 1) := by decide +kernel
theorem dX6_ends_85 : decode cX6_ends 85 = .ok (.getfield 31, 3) := by decide +kernel
theorem dX6_ends_88 : decode cX6_ends 88 = .ok (.aload_n 0, 1) := by decide +kernel
theorem dX6_ends_89 : decode cX6_ends 89 = .ok (.getfield 112, 3) := by decide +kernel
theorem dX6_ends_92 : decode cX6_ends 92 = .ok (.iload_n 3, 1) := by decide +kernel
theorem dX6_ends_93 : decode cX6_ends 93 = .ok (.iload_n 1, 1) := by decide +kernel
theorem dX6_ends_94 : decode cX6_ends 94 = .ok (.invokestatic 164, 3) := by decide +kernel
theorem dX6_ends_97 : decode cX6_ends 97 = .ok (.iadd, 1) := by decide +kernel
theorem dX6_ends_98 : decode cX6_ends 98 = .ok (.iastore, 1) := by decide +kernel
theorem dX6_ends_99 : decode cX6_ends 99 = .ok (.aload_n 0, 1) := by decide +kernel
theorem dX6_ends_100 : decode cX6_ends 100 = .ok (.getfield 100, 3) := by decide +kernel
theorem dX6_ends_103 : decode cX6_ends 103 = .ok (.ifCond .ne 4, 3) := by decide +kernel
theorem dX6_ends_106 : decode cX6_ends 106 = .ok (.return_, 1) := by decide +kernel
theorem dX6_ends_107 : decode cX6_ends 107 = .ok (.aload_n 0, 1) := by decide +kernel
theorem dX6_ends_108 : decode cX6_ends 108 = .ok (.aload_n 0, 1) := by decide +kernel
theorem dX6_ends_109 : decode cX6_ends 109 = .ok (.getfield 38, 3) := by decide +kernel
theorem dX6_ends_112 : decode cX6_ends 112 = .ok (.aload_n 0, 1) := by decide +kernel
theorem dX6_ends_113 : decode cX6_ends 113 = .ok (.getfield 100, 3) := by decide +kernel
theorem dX6_ends_116 : decode cX6_ends 116 = .ok (.iaload, 1) := by decide +kernel
theorem dX6_ends_117 : decode cX6_ends 117 = .ok (.putfield 103, 3) := by decide +kernel
theorem dX6_ends_120 : decode cX6_ends 120 = .ok (.aload_n 0, 1) := by decide +kernel
theorem dX6_ends_121 : decode cX6_ends 121 = .ok (.getfield 21, 3) := by decide +kernel
theorem dX6_ends_124 : decode cX6_ends 124 = .ok (.aload_n 0, 1) := by decide +kernel
theorem dX6_ends_125 : decode cX6_ends 125 = .ok (.getfield 44, 3) := by decide +kernel
theorem dX6_ends_128 : decode cX6_ends 128 = .ok (.aload_n 0, 1) := by decide +kernel
theorem dX6_ends_129 : decode cX6_ends 129 = .ok (.getfield 100, 3) := by decide +kernel
theorem dX6_ends_132 : decode cX6_ends 132 = .ok (.iconst 1, 1) := by decide +kernel
theorem dX6_ends_133 : decode cX6_ends 133 = .ok (.isub, 1) := by decide +kernel
theorem dX6_ends_134 : decode cX6_ends 134 = .ok (.iaload, 1) := by decide +kernel
theorem dX6_ends_135 : decode cX6_ends 135 = .ok (.putfield 106, 3) := by decide +kernel
theorem dX6_ends_138 : decode cX6_ends 138 = .ok (.return_, 1) := by decide +kernel
/-! AlgebraHouse$Machine.ends(I)V -/
def P_X6_ends (x1 : Int) (m : MM) (Q : Int → MM → Prop) : Prop := ∀ m1 : MM, m1 = up m 376 13 ((m 376 13) - 1) → (0 ≤ (m1 376 13) ∧ (m1 376 13) < 21) ∧ (0 ≤ (m1 382 (m1 376 13)) ∧ (m1 382 (m1 376 13)) < 48) ∧ (isCd (389 + 4 * (m1 382 (m1 376 13)))) ∧ ∀ m2 : MM, m2 = up m1 (389 + 4 * (m1 382 (m1 376 13))) 6 ((m1 (389 + 4 * (m1 382 (m1 376 13))) 6) - 1) → (0 ≤ (m2 376 13) ∧ (m2 376 13) < 21) ∧ (0 ≤ (m2 384 (m2 376 13)) ∧ (m2 384 (m2 376 13)) < 1701) ∧ (0 ≤ ((m2 376 8) - 1) ∧ ((m2 376 8) - 1) < 1701) ∧ P_X11_cells x1 m2 (fun r1 m3 => (0 ≤ r1) ∧ (inR 379 0 (m2 381 ((m2 376 8) - 1)) r1) ∧ (inR 379 0 (m2 381 (m2 384 (m2 376 13))) r1) ∧ ∀ m4 : MM, m4 = cpm m3 379 (m2 381 ((m2 376 8) - 1)) 379 (m2 381 (m2 384 (m2 376 13))) r1 → ∀ m5 : MM, m5 = up m4 376 8 ((m2 384 (m2 376 13)) + 1) → P_X11_cells x1 m5 (fun r2 m6 => (0 ≤ (m5 376 8) ∧ (m5 376 8) < 1701) ∧ ∀ m7 : MM, m7 = up m6 381 (m5 376 8) ((m2 381 (m2 384 (m2 376 13))) + r2) → (RI (m7 376 13)) ∧ (if (m7 376 13) = 0 then Q 0 m7 else (0 ≤ (m7 376 13) ∧ (m7 376 13) < 21) ∧ ∀ m8 : MM, m8 = up m7 376 14 (m7 383 (m7 376 13)) → (0 ≤ ((m8 376 13) - 1) ∧ ((m8 376 13) - 1) < 21) ∧ ∀ m9 : MM, m9 = up m8 378 1 (m8 385 ((m8 376 13) - 1)) → Q 0 m9)))
theorem p_X6_ends {f : Nat} {Q : Int → MM → Prop} {T : MM → Prop} (hf : 4 ≤ f) (x1 : Int) (m : MM) (h : P_X6_ends x1 m Q) : CC f M_X6_ends [vR 376, vI x1] m Q T := by
  refine CC.of (plainFor_of_name (by decide)) (Nat.le_of_ble_eq_true rfl) (ls := [vR 376, vI x1, vU, vU]) rfl ?_
  have h : ∀ m1 : MM, m1 = up m 376 13 ((m 376 13) - 1) → (0 ≤ (m1 376 13) ∧ (m1 376 13) < 21) ∧ (0 ≤ (m1 382 (m1 376 13)) ∧ (m1 382 (m1 376 13)) < 48) ∧ (isCd (389 + 4 * (m1 382 (m1 376 13)))) ∧ ∀ m2 : MM, m2 = up m1 (389 + 4 * (m1 382 (m1 376 13))) 6 ((m1 (389 + 4 * (m1 382 (m1 376 13))) 6) - 1) → (0 ≤ (m2 376 13) ∧ (m2 376 13) < 21) ∧ (0 ≤ (m2 384 (m2 376 13)) ∧ (m2 384 (m2 376 13)) < 1701) ∧ (0 ≤ ((m2 376 8) - 1) ∧ ((m2 376 8) - 1) < 1701) ∧ P_X11_cells x1 m2 (fun r1 m3 => (0 ≤ r1) ∧ (inR 379 0 (m2 381 ((m2 376 8) - 1)) r1) ∧ (inR 379 0 (m2 381 (m2 384 (m2 376 13))) r1) ∧ ∀ m4 : MM, m4 = cpm m3 379 (m2 381 ((m2 376 8) - 1)) 379 (m2 381 (m2 384 (m2 376 13))) r1 → ∀ m5 : MM, m5 = up m4 376 8 ((m2 384 (m2 376 13)) + 1) → P_X11_cells x1 m5 (fun r2 m6 => (0 ≤ (m5 376 8) ∧ (m5 376 8) < 1701) ∧ ∀ m7 : MM, m7 = up m6 381 (m5 376 8) ((m2 381 (m2 384 (m2 376 13))) + r2) → (RI (m7 376 13)) ∧ (if (m7 376 13) = 0 then Q 0 m7 else (0 ≤ (m7 376 13) ∧ (m7 376 13) < 21) ∧ ∀ m8 : MM, m8 = up m7 376 14 (m7 383 (m7 376 13)) → (0 ≤ ((m8 376 13) - 1) ∧ ((m8 376 13) - 1) < 21) ∧ ∀ m9 : MM, m9 = up m8 378 1 (m8 385 ((m8 376 13) - 1)) → Q 0 m9))) := h
  refine b_aload_n dX6_ends_0 rfl ?_
  refine b_dup dX6_ends_1 rfl ?_
  refine b_getI dX6_ends_2 fk_X6_100 ly_376 ?_
  refine b_iconst dX6_ends_5 ?_
  refine b_isub dX6_ends_6 ?_
  refine b_putI dX6_ends_7 fk_X6_100 ly_376 (fun m1 em1 => ?_)
  have h := h m1 em1
  refine b_aload_n dX6_ends_10 rfl ?_
  refine b_getR dX6_ends_11 fk_X6_27 ly_376 gg_376_5 ?_
  refine b_aload_n dX6_ends_14 rfl ?_
  refine b_getR dX6_ends_15 fk_X6_35 ly_376 gg_376_9 ?_
  refine b_aload_n dX6_ends_18 rfl ?_
  refine b_getI dX6_ends_19 fk_X6_100 ly_376 ?_
  obtain ⟨g1, h⟩ := h
  refine b_iald dX6_ends_22 ly_382 g1 ?_
  obtain ⟨g2, h⟩ := h
  refine b_aald dX6_ends_23 ly_380 (Or.inr rfl) g2 (gg_codes _) ?_
  refine b_dup dX6_ends_24 rfl ?_
  obtain ⟨g3, h⟩ := h
  refine b_getI dX6_ends_25 fk_X6_85 (cd_ly0 g3) ?_
  refine b_iconst dX6_ends_28 ?_
  refine b_isub dX6_ends_29 ?_
  refine b_putI dX6_ends_30 fk_X6_85 (cd_ly0 g3) (fun m2 em2 => ?_)
  have h := h m2 em2
  refine b_aload_n dX6_ends_33 rfl ?_
  refine b_getR dX6_ends_34 fk_X6_41 ly_376 gg_376_11 ?_
  refine b_aload_n dX6_ends_37 rfl ?_
  refine b_getI dX6_ends_38 fk_X6_100 ly_376 ?_
  obtain ⟨g4, h⟩ := h
  refine b_iald dX6_ends_41 ly_384 g4 ?_
  refine b_istore_n (ls' := [vR 376, vI x1, vI (m2 384 (m2 376 13)), vU]) dX6_ends_42 (Nat.le_of_ble_eq_true rfl) rfl ?_
  refine b_aload_n dX6_ends_43 rfl ?_
  refine b_getR dX6_ends_44 fk_X6_31 ly_376 gg_376_7 ?_
  refine b_iload_n dX6_ends_47 rfl ?_
  obtain ⟨g5, h⟩ := h
  refine b_iald dX6_ends_48 ly_381 g5 ?_
  refine b_istore_n (ls' := [vR 376, vI x1, vI (m2 384 (m2 376 13)), vI (m2 381 (m2 384 (m2 376 13)))]) dX6_ends_49 (Nat.le_of_ble_eq_true rfl) rfl ?_
  refine b_aload_n dX6_ends_50 rfl ?_
  refine b_getR dX6_ends_51 fk_X6_73 ly_376 gg_376_4 ?_
  refine b_aload_n dX6_ends_54 rfl ?_
  refine b_getR dX6_ends_55 fk_X6_31 ly_376 gg_376_7 ?_
  refine b_aload_n dX6_ends_58 rfl ?_
  refine b_getI dX6_ends_59 fk_X6_112 ly_376 ?_
  refine b_iconst dX6_ends_62 ?_
  refine b_isub dX6_ends_63 ?_
  obtain ⟨g6, h⟩ := h
  refine b_iald dX6_ends_64 ly_381 g6 ?_
  refine b_aload_n dX6_ends_65 rfl ?_
  refine b_getR dX6_ends_66 fk_X6_73 ly_376 gg_376_4 ?_
  refine b_iload_n dX6_ends_69 rfl ?_
  refine b_iload_n dX6_ends_70 rfl ?_
  refine b_cSi (as := [vI x1]) (st := [vI (m2 381 (m2 384 (m2 376 13))), vR 379, vI (m2 381 ((m2 376 8) - 1)), vR 379]) dX6_ends_71 mf_X11_cells lk_X6_164 (p_X11_cells (f := 3) (Nat.le_refl _) _ _ h) (by omega) rfl rfl (Nat.le_of_ble_eq_true rfl) (by decide) rfl (fun _ => rfl) (fun r1 m3 h => ?_) (fun _ h => h)
  obtain ⟨g7, h⟩ := h
  obtain ⟨g8, h⟩ := h
  obtain ⟨g9, h⟩ := h
  refine b_copyi dX6_ends_74 lk_X6_178 g7 g8 g9 (by omega) (Nat.le_of_ble_eq_true rfl) rfl (fun m4 em4 => ?_)
  have h := h m4 em4
  refine b_aload_n dX6_ends_77 rfl ?_
  refine b_iload_n dX6_ends_78 rfl ?_
  refine b_iconst dX6_ends_79 ?_
  refine b_iadd dX6_ends_80 ?_
  refine b_putI dX6_ends_81 fk_X6_112 ly_376 (fun m5 em5 => ?_)
  have h := h m5 em5
  refine b_aload_n dX6_ends_84 rfl ?_
  refine b_getR dX6_ends_85 fk_X6_31 ly_376 gg_376_7 ?_
  refine b_aload_n dX6_ends_88 rfl ?_
  refine b_getI dX6_ends_89 fk_X6_112 ly_376 ?_
  refine b_iload_n dX6_ends_92 rfl ?_
  refine b_iload_n dX6_ends_93 rfl ?_
  refine b_cSi (as := [vI x1]) (st := [vI (m2 381 (m2 384 (m2 376 13))), vI (m5 376 8), vR 381]) dX6_ends_94 mf_X11_cells lk_X6_164 (p_X11_cells (f := 3) (Nat.le_refl _) _ _ h) (by omega) rfl rfl (Nat.le_of_ble_eq_true rfl) (by decide) rfl (fun _ => rfl) (fun r2 m6 h => ?_) (fun _ h => h)
  refine b_iadd dX6_ends_97 ?_
  obtain ⟨g10, h⟩ := h
  refine b_iast dX6_ends_98 ly_381 g10 (fun m7 em7 => ?_)
  have h := h m7 em7
  refine b_aload_n dX6_ends_99 rfl ?_
  refine b_getI dX6_ends_100 fk_X6_100 ly_376 ?_
  obtain ⟨g11, h⟩ := h
  refine b_if_ne 107 dX6_ends_103 g11 (by decide) (fun c1 => ?_) (fun c1 => ?_)
  · have h := ifF c1 h
    refine b_aload_n dX6_ends_107 rfl ?_
    refine b_aload_n dX6_ends_108 rfl ?_
    refine b_getR dX6_ends_109 fk_X6_38 ly_376 gg_376_10 ?_
    refine b_aload_n dX6_ends_112 rfl ?_
    refine b_getI dX6_ends_113 fk_X6_100 ly_376 ?_
    obtain ⟨g12, h⟩ := h
    refine b_iald dX6_ends_116 ly_383 g12 ?_
    refine b_putI dX6_ends_117 fk_X6_103 ly_376 (fun m8 em8 => ?_)
    have h := h m8 em8
    refine b_aload_n dX6_ends_120 rfl ?_
    refine b_getR dX6_ends_121 fk_X6_21 ly_376 gg_376_3 ?_
    refine b_aload_n dX6_ends_124 rfl ?_
    refine b_getR dX6_ends_125 fk_X6_44 ly_376 gg_376_12 ?_
    refine b_aload_n dX6_ends_128 rfl ?_
    refine b_getI dX6_ends_129 fk_X6_100 ly_376 ?_
    refine b_iconst dX6_ends_132 ?_
    refine b_isub dX6_ends_133 ?_
    obtain ⟨g13, h⟩ := h
    refine b_iald dX6_ends_134 ly_385 g13 ?_
    refine b_putI dX6_ends_135 fk_X6_106 ly_378 (fun m9 em9 => ?_)
    have h := h m9 em9
    exact b_vret dX6_ends_138 rfl h
  · have h := ifT (Decidable.of_not_not c1) h
    exact b_vret dX6_ends_106 rfl h
theorem dX6_number_0 : decode cX6_number 0 = .ok (.iload_n 1, 1) := by decide +kernel
theorem dX6_number_1 : decode cX6_number 1 = .ok (.invokestatic 148, 3) := by decide +kernel
theorem dX6_number_4 : decode cX6_number 4 = .ok (.iload_n 1, 1) := by decide +kernel
theorem dX6_number_5 : decode cX6_number 5 = .ok (.invokestatic 154, 3) := by decide +kernel
theorem dX6_number_8 : decode cX6_number 8 = .ok (.imul, 1) := by decide +kernel
theorem dX6_number_9 : decode cX6_number 9 = .ok (.ireturn, 1) := by decide +kernel
/-! AlgebraHouse$Machine.number(I)I -/
def P_X6_number (x1 : Int) (m : MM) (Q : Int → MM → Prop) : Prop := P_X11_entries x1 m (fun r1 m1 => P_X11_coefficients x1 m1 (fun r2 m2 => Q (r1 * r2) m2))
theorem p_X6_number {f : Nat} {Q : Int → MM → Prop} {T : MM → Prop} (hf : 3 ≤ f) (x1 : Int) (m : MM) (h : P_X6_number x1 m Q) : CC f M_X6_number [vR 376, vI x1] m Q T := by
  refine CC.of (plainFor_of_name (by decide)) (Nat.le_of_ble_eq_true rfl) (ls := [vR 376, vI x1]) rfl ?_
  have h : P_X11_entries x1 m (fun r1 m1 => P_X11_coefficients x1 m1 (fun r2 m2 => Q (r1 * r2) m2)) := h
  refine b_iload_n dX6_number_0 rfl ?_
  refine b_cSi (as := [vI x1]) (st := []) dX6_number_1 mf_X11_entries lk_X6_148 (p_X11_entries (f := 2) (Nat.le_refl _) _ _ h) (by omega) rfl rfl (Nat.le_of_ble_eq_true rfl) (by decide) rfl (fun _ => rfl) (fun r1 m1 h => ?_) (fun _ h => h)
  refine b_iload_n dX6_number_4 rfl ?_
  refine b_cSi (as := [vI x1]) (st := [vI r1]) dX6_number_5 mf_X11_coefficients lk_X6_154 (p_X11_coefficients (f := 2) (Nat.le_refl _) _ _ h) (by omega) rfl rfl (Nat.le_of_ble_eq_true rfl) (by decide) rfl (fun _ => rfl) (fun r2 m2 h => ?_) (fun _ h => h)
  refine b_imul dX6_number_8 ?_
  exact b_iret dX6_number_9 rfl h
theorem dX6_atValue_0 : decode cX6_atValue 0 = .ok (.iload_n 1, 1) := by decide +kernel
theorem dX6_atValue_1 : decode cX6_atValue 1 = .ok (.iconst 4, 1) := by decide +kernel
theorem dX6_atValue_2 : decode cX6_atValue 2 = .ok (.isub, 1) := by decide +kernel
theorem dX6_atValue_3 : decode cX6_atValue 3 = .ok (.istore 5, 2) := by decide +kernel
theorem dX6_atValue_5 : decode cX6_atValue 5 = .ok (.iload 5, 2) := by decide +kernel
theorem dX6_atValue_7 : decode cX6_atValue 7 = .ok (.invokestatic 154, 3) := by decide +kernel
theorem dX6_atValue_10 : decode cX6_atValue 10 = .ok (.istore 6, 2) := by decide +kernel
theorem dX6_atValue_12 : decode cX6_atValue 12 = .ok (.aload_n 0, 1) := by decide +kernel
theorem dX6_atValue_13 : decode cX6_atValue 13 = .ok (.iload_n 2, 1) := by decide +kernel
theorem dX6_atValue_14 : decode cX6_atValue 14 = .ok (.invokevirtual 158, 3) := by decide +kernel
theorem dX6_atValue_17 : decode cX6_atValue 17 = .ok (.istore 7, 2) := by decide +kernel
theorem dX6_atValue_19 : decode cX6_atValue 19 = .ok (.aload_n 0, 1) := by decide +kernel
theorem dX6_atValue_20 : decode cX6_atValue 20 = .ok (.getfield 21, 3) := by decide +kernel
theorem dX6_atValue_23 : decode cX6_atValue 23 = .ok (.ldc 239, 2) := by decide +kernel
theorem dX6_atValue_25 : decode cX6_atValue 25 = .ok (.iload 7, 2) := by decide +kernel
theorem dX6_atValue_27 : decode cX6_atValue 27 = .ok (.invokevirtual 175, 3) := by decide +kernel
theorem dX6_atValue_30 : decode cX6_atValue 30 = .ok (.bipush 6, 2) := by decide +kernel
theorem dX6_atValue_32 : decode cX6_atValue 32 = .ok (.istore 8, 2) := by decide +kernel
theorem dX6_atValue_34 : decode cX6_atValue 34 = .ok (.iload 8, 2) := by decide +kernel
theorem dX6_atValue_36 : decode cX6_atValue 36 = .ok (.ifCond .lt 109, 3) := by decide +kernel
theorem dX6_atValue_39 : decode cX6_atValue 39 = .ok (.aload_n 0, 1) := by decide +kernel
theorem dX6_atValue_40 : decode cX6_atValue 40 = .ok (.getfield 21, 3) := by decide +kernel
theorem dX6_atValue_43 : decode cX6_atValue 43 = .ok (.getfield 109, 3) := by decide +kernel
theorem dX6_atValue_46 : decode cX6_atValue 46 = .ok (.ifCond .ne 99, 3) := by decide +kernel
theorem dX6_atValue_49 : decode cX6_atValue 49 = .ok (.aload_n 0, 1) := by decide +kernel
theorem dX6_atValue_50 : decode cX6_atValue 50 = .ok (.getfield 21, 3) := by decide +kernel
theorem dX6_atValue_53 : decode cX6_atValue 53 = .ok (.iload_n 2, 1) := by decide +kernel
theorem dX6_atValue_54 : decode cX6_atValue 54 = .ok (.ldc 239, 2) := by decide +kernel
theorem dX6_atValue_56 : decode cX6_atValue 56 = .ok (.iload 4, 2) := by decide +kernel
theorem dX6_atValue_58 : decode cX6_atValue 58 = .ok (.ldc_w 275, 3) := by decide +kernel
theorem dX6_atValue_61 : decode cX6_atValue 61 = .ok (.invokevirtual 243, 3) := by decide +kernel
theorem dX6_atValue_64 : decode cX6_atValue 64 = .ok (.aload_n 0, 1) := by decide +kernel
theorem dX6_atValue_65 : decode cX6_atValue 65 = .ok (.getfield 21, 3) := by decide +kernel
theorem dX6_atValue_68 : decode cX6_atValue 68 = .ok (.getfield 109, 3) := by decide +kernel
theorem dX6_atValue_71 : decode cX6_atValue 71 = .ok (.ifCond .eq 4, 3) := by decide +kernel
theorem dX6_atValue_74 : decode cX6_atValue 74 = .ok (.return_, 1) := by decide +kernel
theorem dX6_atValue_75 : decode cX6_atValue 75 = .ok (.aload_n 0, 1) := by decide +kernel
theorem dX6_atValue_76 : decode cX6_atValue 76 = .ok (.getfield 31, 3) := by decide +kernel
theorem dX6_atValue_79 : decode cX6_atValue 79 = .ok (.aload_n 0, 1) := by decide +kernel
theorem dX6_atValue_80 : decode cX6_atValue 80 = .ok (.getfield 112, 3) := by decide +kernel
theorem dX6_atValue_83 : decode cX6_atValue 83 = .ok (.iaload, 1) := by decide +kernel
theorem dX6_atValue_84 : decode cX6_atValue 84 = .ok (.istore 9, 2) := by decide +kernel
theorem dX6_atValue_86 : decode cX6_atValue 86 = .ok (.aload_n 0, 1) := by decide +kernel
theorem dX6_atValue_87 : decode cX6_atValue 87 = .ok (.getfield 21, 3) := by decide +kernel
theorem dX6_atValue_90 : decode cX6_atValue 90 = .ok (.iload_n 3, 1) := by decide +kernel
theorem dX6_atValue_91 : decode cX6_atValue 91 = .ok (.iconst 2, 1) := by decide +kernel
theorem dX6_atValue_92 : decode cX6_atValue 92 = .ok (.iload 6, 2) := by decide +kernel
theorem dX6_atValue_94 : decode cX6_atValue 94 = .ok (.imul, 1) := by decide +kernel
theorem dX6_atValue_95 : decode cX6_atValue 95 = .ok (.iload 8, 2) := by decide +kernel
theorem dX6_atValue_97 : decode cX6_atValue 97 = .ok (.imul, 1) := by decide +kernel
theorem dX6_atValue_98 : decode cX6_atValue 98 = .ok (.iadd, 1) := by decide +kernel
theorem dX6_atValue_99 : decode cX6_atValue 99 = .ok (.iload 9, 2) := by decide +kernel
theorem dX6_atValue_101 : decode cX6_atValue 101 = .ok (.iload 6, 2) := by decide +kernel
theorem dX6_atValue_103 : decode cX6_atValue 103 = .ok (.invokevirtual 161, 3) := by decide +kernel
theorem dX6_atValue_106 : decode cX6_atValue 106 = .ok (.aload_n 0, 1) := by decide +kernel
theorem dX6_atValue_107 : decode cX6_atValue 107 = .ok (.getfield 21, 3) := by decide +kernel
theorem dX6_atValue_110 : decode cX6_atValue 110 = .ok (.iload 5, 2) := by decide +kernel
theorem dX6_atValue_112 : decode cX6_atValue 112 = .ok (.iload_n 2, 1) := by decide +kernel
theorem dX6_atValue_113 : decode cX6_atValue 113 = .ok (.iload 9, 2) := by decide +kernel
theorem dX6_atValue_115 : decode cX6_atValue 115 = .ok (.invokevirtual 184, 3) := by decide +kernel
theorem dX6_atValue_118 : decode cX6_atValue 118 = .ok (.aload_n 0, 1) := by decide +kernel
theorem dX6_atValue_119 : decode cX6_atValue 119 = .ok (.getfield 21, 3) := by decide +kernel
theorem dX6_atValue_122 : decode cX6_atValue 122 = .ok (.iload_n 2, 1) := by decide +kernel
theorem dX6_atValue_123 : decode cX6_atValue 123 = .ok (.invokestatic 197, 3) := by decide +kernel
theorem dX6_atValue_126 : decode cX6_atValue 126 = .ok (.ldc_w 275, 3) := by decide +kernel
theorem dX6_atValue_129 : decode cX6_atValue 129 = .ok (.iload 9, 2) := by decide +kernel
theorem dX6_atValue_131 : decode cX6_atValue 131 = .ok (.ldc 239, 2) := by decide +kernel
theorem dX6_atValue_133 : decode cX6_atValue 133 = .ok (.iload 7, 2) := by decide +kernel
theorem dX6_atValue_135 : decode cX6_atValue 135 = .ok (.iconst 0, 1) := by decide +kernel
theorem dX6_atValue_136 : decode cX6_atValue 136 = .ok (.invokevirtual 255, 3) := by decide +kernel
theorem dX6_atValue_139 : decode cX6_atValue 139 = .ok (.iinc 8 (-1), 3) := by decide +kernel
theorem dX6_atValue_142 : decode cX6_atValue 142 = .ok (.goto (-108), 3) := by decide +kernel
theorem dX6_atValue_145 : decode cX6_atValue 145 = .ok (.aload_n 0, 1) := by decide +kernel
theorem dX6_atValue_146 : decode cX6_atValue 146 = .ok (.getfield 21, 3) := by decide +kernel
theorem dX6_atValue_149 : decode cX6_atValue 149 = .ok (.ldc 239, 2) := by decide +kernel
theorem dX6_atValue_151 : decode cX6_atValue 151 = .ok (.ldc 157, 2) := by decide +kernel
theorem dX6_atValue_153 : decode cX6_atValue 153 = .ok (.iload 7, 2) := by decide +kernel
theorem dX6_atValue_155 : decode cX6_atValue 155 = .ok (.invokevirtual 161, 3) := by decide +kernel
theorem dX6_atValue_158 : decode cX6_atValue 158 = .ok (.return_, 1) := by decide +kernel
/-! AlgebraHouse$Machine.atValue(IIII)V -/
def P_X6_atValue_145 (Q : Int → MM → Prop) (x7 : Int) (m : MM) : Prop := P_X8_copy 1156302 1155420 x7 m (fun r1 m1 => Q 0 m1)
def P_X6_atValue_34 (Q : Int → MM → Prop) : Nat → Int → Int → Int → Int → Int → Int → Int → MM → Prop
  | 0, _, _, _, _, _, _, _, _ => False
  | n + 1, x2, x3, x4, x5, x6, x7, x8, m => (RI x8) ∧ (if x8 < 0 then P_X6_atValue_145 Q x7 m else (RI (m 378 2)) ∧ (if (m 378 2) = 0 then P_X8_multiply x2 1156302 x4 1157776 m (fun r1 m1 => (RI (m1 378 2)) ∧ (if (m1 378 2) = 0 then (0 ≤ (m1 376 8) ∧ (m1 376 8) < 1701) ∧ P_X8_copy (x3 + ((2 * x6) * x8)) (m1 381 (m1 376 8)) x6 m1 (fun r2 m2 => P_X8_turn x5 x2 (m1 381 (m1 376 8)) m2 (fun r3 m3 => P_X11_base x2 m3 (fun r4 m4 => P_X8_addAll r4 1157776 (m1 381 (m1 376 8)) 1156302 x7 0 m4 (fun r5 m5 => P_X6_atValue_34 Q n x2 x3 x4 x5 x6 x7 (x8 + (-1)) m5)))) else Q 0 m1)) else P_X6_atValue_145 Q x7 m))
def P_X6_atValue (x1 : Int) (x2 : Int) (x3 : Int) (x4 : Int) (m : MM) (Q : Int → MM → Prop) : Prop := P_X11_coefficients (x1 - 4) m (fun r1 m1 => P_X6_number x2 m1 (fun r2 m2 => P_X8_clear 1156302 r2 m2 (fun r3 m3 => ∃ nn, P_X6_atValue_34 Q nn x2 x3 x4 (x1 - 4) r1 r2 6 m3)))
theorem pl_X6_atValue_145 {f : Nat} {Q : Int → MM → Prop} {T : MM → Prop} (hf : 8 ≤ f) : ∀ (x7 : Int) (m : MM), P_X6_atValue_145 Q x7 m → B f M_X6_atValue 145 [vR 376, vU, vU, vU, vU, vU, vU, vI x7, vU, vU] [] m Q T := by
  intro x7 m h
  have h : P_X8_copy 1156302 1155420 x7 m (fun r1 m1 => Q 0 m1) := h
  refine b_aload_n dX6_atValue_145 rfl ?_
  refine b_getR dX6_atValue_146 fk_X6_21 ly_376 gg_376_3 ?_
  refine b_ldc (1156302) dX6_atValue_149 q1368 (by decide) ?_
  refine b_ldc (1155420) dX6_atValue_151 q1374 (by decide) ?_
  refine b_iload dX6_atValue_153 rfl ?_
  refine b_cVv (as := [vI 1156302, vI 1155420, vI x7]) (st := []) dX6_atValue_155 mf_X8_copy q1320 lk_X6_161 ly_378 rfl (p_X8_copy (f := 2) (Nat.le_refl _) _ _ _ _ h) (by omega) rfl rfl (Nat.le_of_ble_eq_true rfl) (by decide) rfl (fun _ => rfl) (fun r1 m1 h => ?_) (fun _ h => h)
  exact b_vret dX6_atValue_158 rfl h
theorem pl_X6_atValue_34 {f : Nat} {Q : Int → MM → Prop} {T : MM → Prop} (hf : 8 ≤ f) : ∀ (n : Nat) (x2 : Int) (x3 : Int) (x4 : Int) (x5 : Int) (x6 : Int) (x7 : Int) (x8 : Int) (m : MM), P_X6_atValue_34 Q n x2 x3 x4 x5 x6 x7 x8 m → B f M_X6_atValue 34 [vR 376, vU, vI x2, vI x3, vI x4, vI x5, vI x6, vI x7, vI x8, vU] [] m Q T := by
  intro n
  induction n with
  | zero => intro x2 x3 x4 x5 x6 x7 x8 m h; exact h.elim
  | succ n ih =>
    intro x2 x3 x4 x5 x6 x7 x8 m h
    have h : (RI x8) ∧ (if x8 < 0 then P_X6_atValue_145 Q x7 m else (RI (m 378 2)) ∧ (if (m 378 2) = 0 then P_X8_multiply x2 1156302 x4 1157776 m (fun r1 m1 => (RI (m1 378 2)) ∧ (if (m1 378 2) = 0 then (0 ≤ (m1 376 8) ∧ (m1 376 8) < 1701) ∧ P_X8_copy (x3 + ((2 * x6) * x8)) (m1 381 (m1 376 8)) x6 m1 (fun r2 m2 => P_X8_turn x5 x2 (m1 381 (m1 376 8)) m2 (fun r3 m3 => P_X11_base x2 m3 (fun r4 m4 => P_X8_addAll r4 1157776 (m1 381 (m1 376 8)) 1156302 x7 0 m4 (fun r5 m5 => P_X6_atValue_34 Q n x2 x3 x4 x5 x6 x7 (x8 + (-1)) m5)))) else Q 0 m1)) else P_X6_atValue_145 Q x7 m)) := h
    refine b_iload dX6_atValue_34 rfl ?_
    obtain ⟨g1, h⟩ := h
    refine b_if_lt 145 dX6_atValue_36 g1 (by decide) (fun c1 => ?_) (fun c1 => ?_)
    · have h := ifT c1 h
      refine b_fgt [true, false, false, false, false, false, false, true, false, false] (ls' := [vR 376, vU, vU, vU, vU, vU, vU, vI x7, vU, vU]) rfl rfl ?_
      exact pl_X6_atValue_145 hf _ _ h
    · have h := ifF c1 h
      refine b_aload_n dX6_atValue_39 rfl ?_
      refine b_getR dX6_atValue_40 fk_X6_21 ly_376 gg_376_3 ?_
      refine b_getI dX6_atValue_43 fk_X6_109 ly_378 ?_
      obtain ⟨g2, h⟩ := h
      refine b_if_ne 145 dX6_atValue_46 g2 (by decide) (fun c2 => ?_) (fun c2 => ?_)
      · have h := ifF c2 h
        refine b_fgt [true, false, false, false, false, false, false, true, false, false] (ls' := [vR 376, vU, vU, vU, vU, vU, vU, vI x7, vU, vU]) rfl rfl ?_
        exact pl_X6_atValue_145 hf _ _ h
      · have h := ifT (Decidable.of_not_not c2) h
        refine b_aload_n dX6_atValue_49 rfl ?_
        refine b_getR dX6_atValue_50 fk_X6_21 ly_376 gg_376_3 ?_
        refine b_iload_n dX6_atValue_53 rfl ?_
        refine b_ldc (1156302) dX6_atValue_54 q1368 (by decide) ?_
        refine b_iload dX6_atValue_56 rfl ?_
        refine b_ldcw (1157776) dX6_atValue_58 q1463 (by decide) ?_
        refine b_cVv (as := [vI x2, vI 1156302, vI x4, vI 1157776]) (st := []) dX6_atValue_61 mf_X8_multiply q1377 lk_X6_243 ly_378 rfl (p_X8_multiply (f := 7) (Nat.le_refl _) _ _ _ _ _ h) (by omega) rfl rfl (Nat.le_of_ble_eq_true rfl) (by decide) rfl (fun _ => rfl) (fun r1 m1 h => ?_) (fun _ h => h)
        refine b_aload_n dX6_atValue_64 rfl ?_
        refine b_getR dX6_atValue_65 fk_X6_21 ly_376 gg_376_3 ?_
        refine b_getI dX6_atValue_68 fk_X6_109 ly_378 ?_
        obtain ⟨g3, h⟩ := h
        refine b_if_eq 75 dX6_atValue_71 g3 (by decide) (fun c3 => ?_) (fun c3 => ?_)
        · have h := ifT c3 h
          refine b_aload_n dX6_atValue_75 rfl ?_
          refine b_getR dX6_atValue_76 fk_X6_31 ly_376 gg_376_7 ?_
          refine b_aload_n dX6_atValue_79 rfl ?_
          refine b_getI dX6_atValue_80 fk_X6_112 ly_376 ?_
          obtain ⟨g4, h⟩ := h
          refine b_iald dX6_atValue_83 ly_381 g4 ?_
          refine b_istore (ls' := [vR 376, vU, vI x2, vI x3, vI x4, vI x5, vI x6, vI x7, vI x8, vI (m1 381 (m1 376 8))]) dX6_atValue_84 (Nat.le_of_ble_eq_true rfl) rfl ?_
          refine b_aload_n dX6_atValue_86 rfl ?_
          refine b_getR dX6_atValue_87 fk_X6_21 ly_376 gg_376_3 ?_
          refine b_iload_n dX6_atValue_90 rfl ?_
          refine b_iconst dX6_atValue_91 ?_
          refine b_iload dX6_atValue_92 rfl ?_
          refine b_imul dX6_atValue_94 ?_
          refine b_iload dX6_atValue_95 rfl ?_
          refine b_imul dX6_atValue_97 ?_
          refine b_iadd dX6_atValue_98 ?_
          refine b_iload dX6_atValue_99 rfl ?_
          refine b_iload dX6_atValue_101 rfl ?_
          refine b_cVv (as := [vI (x3 + ((2 * x6) * x8)), vI (m1 381 (m1 376 8)), vI x6]) (st := []) dX6_atValue_103 mf_X8_copy q1320 lk_X6_161 ly_378 rfl (p_X8_copy (f := 2) (Nat.le_refl _) _ _ _ _ h) (by omega) rfl rfl (Nat.le_of_ble_eq_true rfl) (by decide) rfl (fun _ => rfl) (fun r2 m2 h => ?_) (fun _ h => h)
          refine b_aload_n dX6_atValue_106 rfl ?_
          refine b_getR dX6_atValue_107 fk_X6_21 ly_376 gg_376_3 ?_
          refine b_iload dX6_atValue_110 rfl ?_
          refine b_iload_n dX6_atValue_112 rfl ?_
          refine b_iload dX6_atValue_113 rfl ?_
          refine b_cVv (as := [vI x5, vI x2, vI (m1 381 (m1 376 8))]) (st := []) dX6_atValue_115 mf_X8_turn q1313 lk_X6_184 ly_378 rfl (p_X8_turn (f := 3) (Nat.le_refl _) _ _ _ _ h) (by omega) rfl rfl (Nat.le_of_ble_eq_true rfl) (by decide) rfl (fun _ => rfl) (fun r3 m3 h => ?_) (fun _ h => h)
          refine b_aload_n dX6_atValue_118 rfl ?_
          refine b_getR dX6_atValue_119 fk_X6_21 ly_376 gg_376_3 ?_
          refine b_iload_n dX6_atValue_122 rfl ?_
          refine b_cSi (as := [vI x2]) (st := [vR 378]) dX6_atValue_123 mf_X11_base lk_X6_197 (p_X11_base (f := 1) (Nat.le_refl _) _ _ h) (by omega) rfl rfl (Nat.le_of_ble_eq_true rfl) (by decide) rfl (fun _ => rfl) (fun r4 m4 h => ?_) (fun _ h => h)
          refine b_ldcw (1157776) dX6_atValue_126 q1463 (by decide) ?_
          refine b_iload dX6_atValue_129 rfl ?_
          refine b_ldc (1156302) dX6_atValue_131 q1368 (by decide) ?_
          refine b_iload dX6_atValue_133 rfl ?_
          refine b_iconst dX6_atValue_135 ?_
          refine b_cVv (as := [vI r4, vI 1157776, vI (m1 381 (m1 376 8)), vI 1156302, vI x7, vI 0]) (st := []) dX6_atValue_136 mf_X8_addAll q1426 lk_X6_255 ly_378 rfl (p_X8_addAll (f := 5) (Nat.le_refl _) _ _ _ _ _ _ _ h) (by omega) rfl rfl (Nat.le_of_ble_eq_true rfl) (by decide) rfl (fun _ => rfl) (fun r5 m5 h => ?_) (fun _ h => h)
          refine b_iinc (ls' := [vR 376, vU, vI x2, vI x3, vI x4, vI x5, vI x6, vI x7, vI (x8 + (-1)), vI (m1 381 (m1 376 8))]) dX6_atValue_139 rfl rfl ?_
          refine b_goto 34 dX6_atValue_142 (by decide) ?_
          refine b_fgt [true, false, true, true, true, true, true, true, true, false] (ls' := [vR 376, vU, vI x2, vI x3, vI x4, vI x5, vI x6, vI x7, vI (x8 + (-1)), vU]) rfl rfl ?_
          exact ih _ _ _ _ _ _ _ _ h
        · have h := ifF c3 h
          exact b_vret dX6_atValue_74 rfl h
theorem p_X6_atValue {f : Nat} {Q : Int → MM → Prop} {T : MM → Prop} (hf : 8 ≤ f) (x1 : Int) (x2 : Int) (x3 : Int) (x4 : Int) (m : MM) (h : P_X6_atValue x1 x2 x3 x4 m Q) : CC f M_X6_atValue [vR 376, vI x1, vI x2, vI x3, vI x4] m Q T := by
  refine CC.of (plainFor_of_name (by decide)) (Nat.le_of_ble_eq_true rfl) (ls := [vR 376, vI x1, vI x2, vI x3, vI x4, vU, vU, vU, vU, vU]) rfl ?_
  have h : P_X11_coefficients (x1 - 4) m (fun r1 m1 => P_X6_number x2 m1 (fun r2 m2 => P_X8_clear 1156302 r2 m2 (fun r3 m3 => ∃ nn, P_X6_atValue_34 Q nn x2 x3 x4 (x1 - 4) r1 r2 6 m3))) := h
  refine b_iload_n dX6_atValue_0 rfl ?_
  refine b_iconst dX6_atValue_1 ?_
  refine b_isub dX6_atValue_2 ?_
  refine b_istore (ls' := [vR 376, vI x1, vI x2, vI x3, vI x4, vI (x1 - 4), vU, vU, vU, vU]) dX6_atValue_3 (Nat.le_of_ble_eq_true rfl) rfl ?_
  refine b_iload dX6_atValue_5 rfl ?_
  refine b_cSi (as := [vI (x1 - 4)]) (st := []) dX6_atValue_7 mf_X11_coefficients lk_X6_154 (p_X11_coefficients (f := 2) (Nat.le_refl _) _ _ h) (by omega) rfl rfl (Nat.le_of_ble_eq_true rfl) (by decide) rfl (fun _ => rfl) (fun r1 m1 h => ?_) (fun _ h => h)
  refine b_istore (ls' := [vR 376, vI x1, vI x2, vI x3, vI x4, vI (x1 - 4), vI r1, vU, vU, vU]) dX6_atValue_10 (Nat.le_of_ble_eq_true rfl) rfl ?_
  refine b_aload_n dX6_atValue_12 rfl ?_
  refine b_iload_n dX6_atValue_13 rfl ?_
  refine b_cVi (as := [vI x2]) (st := []) dX6_atValue_14 mf_X6_number qs69 lk_X6_158 ly_376 rfl (p_X6_number (f := 3) (Nat.le_refl _) _ _ h) (by omega) rfl rfl (Nat.le_of_ble_eq_true rfl) (by decide) rfl (fun _ => rfl) (fun r2 m2 h => ?_) (fun _ h => h)
  refine b_istore (ls' := [vR 376, vI x1, vI x2, vI x3, vI x4, vI (x1 - 4), vI r1, vI r2, vU, vU]) dX6_atValue_17 (Nat.le_of_ble_eq_true rfl) rfl ?_
  refine b_aload_n dX6_atValue_19 rfl ?_
  refine b_getR dX6_atValue_20 fk_X6_21 ly_376 gg_376_3 ?_
  refine b_ldc (1156302) dX6_atValue_23 q1368 (by decide) ?_
  refine b_iload dX6_atValue_25 rfl ?_
  refine b_cVv (as := [vI 1156302, vI r2]) (st := []) dX6_atValue_27 mf_X8_clear q1305 lk_X6_175 ly_378 rfl (p_X8_clear (f := 1) (Nat.le_refl _) _ _ _ h) (by omega) rfl rfl (Nat.le_of_ble_eq_true rfl) (by decide) rfl (fun _ => rfl) (fun r3 m3 h => ?_) (fun _ h => h)
  refine b_bipush dX6_atValue_30 (by decide) ?_
  refine b_istore (ls' := [vR 376, vI x1, vI x2, vI x3, vI x4, vI (x1 - 4), vI r1, vI r2, vI 6, vU]) dX6_atValue_32 (Nat.le_of_ble_eq_true rfl) rfl ?_
  refine b_fgt [true, false, true, true, true, true, true, true, true, false] (ls' := [vR 376, vU, vI x2, vI x3, vI x4, vI (x1 - 4), vI r1, vI r2, vI 6, vU]) rfl rfl ?_
  obtain ⟨nn, h⟩ := h
  exact pl_X6_atValue_34 hf nn _ _ _ _ _ _ _ _ h
theorem dX6_characteristic_0 : decode cX6_characteristic 0 = .ok (.iload_n 1, 1) := by decide +kernel
theorem dX6_characteristic_1 : decode cX6_characteristic 1 = .ok (.invokestatic 336, 3) := by decide +kernel
theorem dX6_characteristic_4 : decode cX6_characteristic 4 = .ok (.istore_n 3, 1) := by decide +kernel
theorem dX6_characteristic_5 : decode cX6_characteristic 5 = .ok (.iload_n 1, 1) := by decide +kernel
theorem dX6_characteristic_6 : decode cX6_characteristic 6 = .ok (.iconst 4, 1) := by decide +kernel
theorem dX6_characteristic_7 : decode cX6_characteristic 7 = .ok (.iadd, 1) := by decide +kernel
theorem dX6_characteristic_8 : decode cX6_characteristic 8 = .ok (.istore 4, 2) := by decide +kernel
theorem dX6_characteristic_10 : decode cX6_characteristic 10 = .ok (.aload_n 0, 1) := by decide +kernel
theorem dX6_characteristic_11 : decode cX6_characteristic 11 = .ok (.getfield 21, 3) := by decide +kernel
theorem dX6_characteristic_14 : decode cX6_characteristic 14 = .ok (.ldc_w 275, 3) := by decide +kernel
theorem dX6_characteristic_17 : decode cX6_characteristic 17 = .ok (.bipush 7, 2) := by decide +kernel
theorem dX6_characteristic_19 : decode cX6_characteristic 19 = .ok (.iload_n 3, 1) := by decide +kernel
theorem dX6_characteristic_20 : decode cX6_characteristic 20 = .ok (.imul, 1) := by decide +kernel
theorem dX6_characteristic_21 : decode cX6_characteristic 21 = .ok (.iload_n 3, 1) := by decide +kernel
theorem dX6_characteristic_22 : decode cX6_characteristic 22 = .ok (.imul, 1) := by decide +kernel
theorem dX6_characteristic_23 : decode cX6_characteristic 23 = .ok (.invokevirtual 175, 3) := by decide +kernel
theorem dX6_characteristic_26 : decode cX6_characteristic 26 = .ok (.iconst 0, 1) := by decide +kernel
theorem dX6_characteristic_27 : decode cX6_characteristic 27 = .ok (.istore 5, 2) := by decide +kernel
theorem dX6_characteristic_29 : decode cX6_characteristic 29 = .ok (.iload 5, 2) := by decide +kernel
theorem dX6_characteristic_31 : decode cX6_characteristic 31 = .ok (.iload_n 3, 1) := by decide +kernel
theorem dX6_characteristic_32 : decode cX6_characteristic 32 = .ok (.iload_n 3, 1) := by decide +kernel
theorem dX6_characteristic_33 : decode cX6_characteristic 33 = .ok (.imul, 1) := by decide +kernel
theorem dX6_characteristic_34 : decode cX6_characteristic 34 = .ok (.if_icmp .ge 69, 3) := by decide +kernel
theorem dX6_characteristic_37 : decode cX6_characteristic 37 = .ok (.ldc_w 275, 3) := by decide +kernel
theorem dX6_characteristic_40 : decode cX6_characteristic 40 = .ok (.bipush 14, 2) := by decide +kernel
theorem dX6_characteristic_42 : decode cX6_characteristic 42 = .ok (.iload 5, 2) := by decide +kernel
theorem dX6_characteristic_44 : decode cX6_characteristic 44 = .ok (.imul, 1) := by decide +kernel
theorem dX6_characteristic_45 : decode cX6_characteristic 45 = .ok (.iadd, 1) := by decide +kernel
theorem dX6_characteristic_46 : decode cX6_characteristic 46 = .ok (.istore 6, 2) := by decide +kernel
theorem dX6_characteristic_48 : decode cX6_characteristic 48 = .ok (.aload_n 0, 1) := by decide +kernel
theorem dX6_characteristic_49 : decode cX6_characteristic 49 = .ok (.getfield 21, 3) := by decide +kernel
theorem dX6_characteristic_52 : decode cX6_characteristic 52 = .ok (.iload_n 2, 1) := by decide +kernel
theorem dX6_characteristic_53 : decode cX6_characteristic 53 = .ok (.iconst 2, 1) := by decide +kernel
theorem dX6_characteristic_54 : decode cX6_characteristic 54 = .ok (.iload 5, 2) := by decide +kernel
theorem dX6_characteristic_56 : decode cX6_characteristic 56 = .ok (.imul, 1) := by decide +kernel
theorem dX6_characteristic_57 : decode cX6_characteristic 57 = .ok (.iadd, 1) := by decide +kernel
theorem dX6_characteristic_58 : decode cX6_characteristic 58 = .ok (.iload 6, 2) := by decide +kernel
theorem dX6_characteristic_60 : decode cX6_characteristic 60 = .ok (.iconst 1, 1) := by decide +kernel
theorem dX6_characteristic_61 : decode cX6_characteristic 61 = .ok (.invokevirtual 161, 3) := by decide +kernel
theorem dX6_characteristic_64 : decode cX6_characteristic 64 = .ok (.aload_n 0, 1) := by decide +kernel
theorem dX6_characteristic_65 : decode cX6_characteristic 65 = .ok (.getfield 21, 3) := by decide +kernel
theorem dX6_characteristic_68 : decode cX6_characteristic 68 = .ok (.iload_n 1, 1) := by decide +kernel
theorem dX6_characteristic_69 : decode cX6_characteristic 69 = .ok (.invokestatic 197, 3) := by decide +kernel
theorem dX6_characteristic_72 : decode cX6_characteristic 72 = .ok (.iload 6, 2) := by decide +kernel
theorem dX6_characteristic_74 : decode cX6_characteristic 74 = .ok (.iconst 1, 1) := by decide +kernel
theorem dX6_characteristic_75 : decode cX6_characteristic 75 = .ok (.invokevirtual 200, 3) := by decide +kernel
theorem dX6_characteristic_78 : decode cX6_characteristic 78 = .ok (.iload 5, 2) := by decide +kernel
theorem dX6_characteristic_80 : decode cX6_characteristic 80 = .ok (.iload_n 3, 1) := by decide +kernel
theorem dX6_characteristic_81 : decode cX6_characteristic 81 = .ok (.iconst 1, 1) := by decide +kernel
theorem dX6_characteristic_82 : decode cX6_characteristic 82 = .ok (.iadd, 1) := by decide +kernel
theorem dX6_characteristic_83 : decode cX6_characteristic 83 = .ok (.irem, 1) := by decide +kernel
theorem dX6_characteristic_84 : decode cX6_characteristic 84 = .ok (.ifCond .ne 13, 3) := by decide +kernel
theorem dX6_characteristic_87 : decode cX6_characteristic 87 = .ok (.aload_n 0, 1) := by decide +kernel
theorem dX6_characteristic_88 : decode cX6_characteristic 88 = .ok (.getfield 73, 3) := by decide +kernel
theorem dX6_characteristic_91 : decode cX6_characteristic 91 = .ok (.iload 6, 2) := by decide +kernel
theorem dX6_characteristic_93 : decode cX6_characteristic 93 = .ok (.iconst 2, 1) := by decide +kernel
theorem dX6_characteristic_94 : decode cX6_characteristic 94 = .ok (.iadd, 1) := by decide +kernel
theorem dX6_characteristic_95 : decode cX6_characteristic 95 = .ok (.iconst 1, 1) := by decide +kernel
theorem dX6_characteristic_96 : decode cX6_characteristic 96 = .ok (.iastore, 1) := by decide +kernel
theorem dX6_characteristic_97 : decode cX6_characteristic 97 = .ok (.iinc 5 1, 3) := by decide +kernel
theorem dX6_characteristic_100 : decode cX6_characteristic 100 = .ok (.goto (-71), 3) := by decide +kernel
theorem dX6_characteristic_103 : decode cX6_characteristic 103 = .ok (.aload_n 0, 1) := by decide +kernel
theorem dX6_characteristic_104 : decode cX6_characteristic 104 = .ok (.getfield 21, 3) := by decide +kernel
theorem dX6_characteristic_107 : decode cX6_characteristic 107 = .ok (.iload 4, 2) := by decide +kernel
theorem dX6_characteristic_109 : decode cX6_characteristic 109 = .ok (.ldc_w 275, 3) := by decide +kernel
theorem dX6_characteristic_112 : decode cX6_characteristic 112 = .ok (.ldc 157, 2) := by decide +kernel
theorem dX6_characteristic_114 : decode cX6_characteristic 114 = .ok (.invokevirtual 301, 3) := by decide +kernel
theorem dX6_characteristic_117 : decode cX6_characteristic 117 = .ok (.return_, 1) := by decide +kernel
/-! AlgebraHouse$Machine.characteristic(II)V -/
def P_X6_characteristic_103 (Q : Int → MM → Prop) (x4 : Int) (m : MM) : Prop := P_X8_determinant x4 1157776 1155420 m (fun r1 m1 => Q 0 m1)
def P_X6_characteristic_29 (Q : Int → MM → Prop) : Nat → Int → Int → Int → Int → Int → MM → Prop
  | 0, _, _, _, _, _, _ => False
  | n + 1, x1, x2, x3, x4, x5, m => (RI x5) ∧ (RI (x3 * x3)) ∧ (if (x3 * x3) ≤ x5 then P_X6_characteristic_103 Q x4 m else P_X8_copy (x2 + (2 * x5)) (1157776 + (14 * x5)) 1 m (fun r1 m1 => P_X11_base x1 m1 (fun r2 m2 => P_X8_less r2 (1157776 + (14 * x5)) 1 m2 (fun r3 m3 => (RI (x3 + 1)) ∧ ((x3 + 1) ≠ 0) ∧ (RI (Int.tmod x5 (x3 + 1))) ∧ (if (Int.tmod x5 (x3 + 1)) = 0 then (0 ≤ ((1157776 + (14 * x5)) + 2) ∧ ((1157776 + (14 * x5)) + 2) < 1159540) ∧ ∀ m4 : MM, m4 = up m3 379 ((1157776 + (14 * x5)) + 2) 1 → P_X6_characteristic_29 Q n x1 x2 x3 x4 (x5 + 1) m4 else P_X6_characteristic_29 Q n x1 x2 x3 x4 (x5 + 1) m3)))))
def P_X6_characteristic (x1 : Int) (x2 : Int) (m : MM) (Q : Int → MM → Prop) : Prop := P_X11_size x1 m (fun r1 m1 => P_X8_clear 1157776 ((7 * r1) * r1) m1 (fun r2 m2 => ∃ nn, P_X6_characteristic_29 Q nn x1 x2 r1 (x1 + 4) 0 m2))
theorem pl_X6_characteristic_103 {f : Nat} {Q : Int → MM → Prop} {T : MM → Prop} (hf : 14 ≤ f) : ∀ (x4 : Int) (m : MM), P_X6_characteristic_103 Q x4 m → B f M_X6_characteristic 103 [vR 376, vU, vU, vU, vI x4, vU, vU] [] m Q T := by
  intro x4 m h
  have h : P_X8_determinant x4 1157776 1155420 m (fun r1 m1 => Q 0 m1) := h
  refine b_aload_n dX6_characteristic_103 rfl ?_
  refine b_getR dX6_characteristic_104 fk_X6_21 ly_376 gg_376_3 ?_
  refine b_iload dX6_characteristic_107 rfl ?_
  refine b_ldcw (1157776) dX6_characteristic_109 q1463 (by decide) ?_
  refine b_ldc (1155420) dX6_characteristic_112 q1374 (by decide) ?_
  refine b_cVv (as := [vI x4, vI 1157776, vI 1155420]) (st := []) dX6_characteristic_114 mf_X8_determinant q1481 lk_X6_301 ly_378 rfl (p_X8_determinant (f := 13) (Nat.le_refl _) _ _ _ _ h) (by omega) rfl rfl (Nat.le_of_ble_eq_true rfl) (by decide) rfl (fun _ => rfl) (fun r1 m1 h => ?_) (fun _ h => h)
  exact b_vret dX6_characteristic_117 rfl h
theorem pl_X6_characteristic_29 {f : Nat} {Q : Int → MM → Prop} {T : MM → Prop} (hf : 14 ≤ f) : ∀ (n : Nat) (x1 : Int) (x2 : Int) (x3 : Int) (x4 : Int) (x5 : Int) (m : MM), P_X6_characteristic_29 Q n x1 x2 x3 x4 x5 m → B f M_X6_characteristic 29 [vR 376, vI x1, vI x2, vI x3, vI x4, vI x5, vU] [] m Q T := by
  intro n
  induction n with
  | zero => intro x1 x2 x3 x4 x5 m h; exact h.elim
  | succ n ih =>
    intro x1 x2 x3 x4 x5 m h
    have h : (RI x5) ∧ (RI (x3 * x3)) ∧ (if (x3 * x3) ≤ x5 then P_X6_characteristic_103 Q x4 m else P_X8_copy (x2 + (2 * x5)) (1157776 + (14 * x5)) 1 m (fun r1 m1 => P_X11_base x1 m1 (fun r2 m2 => P_X8_less r2 (1157776 + (14 * x5)) 1 m2 (fun r3 m3 => (RI (x3 + 1)) ∧ ((x3 + 1) ≠ 0) ∧ (RI (Int.tmod x5 (x3 + 1))) ∧ (if (Int.tmod x5 (x3 + 1)) = 0 then (0 ≤ ((1157776 + (14 * x5)) + 2) ∧ ((1157776 + (14 * x5)) + 2) < 1159540) ∧ ∀ m4 : MM, m4 = up m3 379 ((1157776 + (14 * x5)) + 2) 1 → P_X6_characteristic_29 Q n x1 x2 x3 x4 (x5 + 1) m4 else P_X6_characteristic_29 Q n x1 x2 x3 x4 (x5 + 1) m3))))) := h
    refine b_iload dX6_characteristic_29 rfl ?_
    refine b_iload_n dX6_characteristic_31 rfl ?_
    refine b_iload_n dX6_characteristic_32 rfl ?_
    refine b_imul dX6_characteristic_33 ?_
    obtain ⟨g1, h⟩ := h
    obtain ⟨g2, h⟩ := h
    refine b_icmp_ge 103 dX6_characteristic_34 g1 g2 (by decide) (fun c1 => ?_) (fun c1 => ?_)
    · have h := ifT c1 h
      refine b_fgt [true, false, false, false, true, false, false] (ls' := [vR 376, vU, vU, vU, vI x4, vU, vU]) rfl rfl ?_
      exact pl_X6_characteristic_103 hf _ _ h
    · have h := ifF c1 h
      refine b_ldcw (1157776) dX6_characteristic_37 q1463 (by decide) ?_
      refine b_bipush dX6_characteristic_40 (by decide) ?_
      refine b_iload dX6_characteristic_42 rfl ?_
      refine b_imul dX6_characteristic_44 ?_
      refine b_iadd dX6_characteristic_45 ?_
      refine b_istore (ls' := [vR 376, vI x1, vI x2, vI x3, vI x4, vI x5, vI (1157776 + (14 * x5))]) dX6_characteristic_46 (Nat.le_of_ble_eq_true rfl) rfl ?_
      refine b_aload_n dX6_characteristic_48 rfl ?_
      refine b_getR dX6_characteristic_49 fk_X6_21 ly_376 gg_376_3 ?_
      refine b_iload_n dX6_characteristic_52 rfl ?_
      refine b_iconst dX6_characteristic_53 ?_
      refine b_iload dX6_characteristic_54 rfl ?_
      refine b_imul dX6_characteristic_56 ?_
      refine b_iadd dX6_characteristic_57 ?_
      refine b_iload dX6_characteristic_58 rfl ?_
      refine b_iconst dX6_characteristic_60 ?_
      refine b_cVv (as := [vI (x2 + (2 * x5)), vI (1157776 + (14 * x5)), vI 1]) (st := []) dX6_characteristic_61 mf_X8_copy q1320 lk_X6_161 ly_378 rfl (p_X8_copy (f := 2) (Nat.le_refl _) _ _ _ _ h) (by omega) rfl rfl (Nat.le_of_ble_eq_true rfl) (by decide) rfl (fun _ => rfl) (fun r1 m1 h => ?_) (fun _ h => h)
      refine b_aload_n dX6_characteristic_64 rfl ?_
      refine b_getR dX6_characteristic_65 fk_X6_21 ly_376 gg_376_3 ?_
      refine b_iload_n dX6_characteristic_68 rfl ?_
      refine b_cSi (as := [vI x1]) (st := [vR 378]) dX6_characteristic_69 mf_X11_base lk_X6_197 (p_X11_base (f := 1) (Nat.le_refl _) _ _ h) (by omega) rfl rfl (Nat.le_of_ble_eq_true rfl) (by decide) rfl (fun _ => rfl) (fun r2 m2 h => ?_) (fun _ h => h)
      refine b_iload dX6_characteristic_72 rfl ?_
      refine b_iconst dX6_characteristic_74 ?_
      refine b_cVv (as := [vI r2, vI (1157776 + (14 * x5)), vI 1]) (st := []) dX6_characteristic_75 mf_X8_less q1362 lk_X6_200 ly_378 rfl (p_X8_less (f := 2) (Nat.le_refl _) _ _ _ _ h) (by omega) rfl rfl (Nat.le_of_ble_eq_true rfl) (by decide) rfl (fun _ => rfl) (fun r3 m3 h => ?_) (fun _ h => h)
      refine b_iload dX6_characteristic_78 rfl ?_
      refine b_iload_n dX6_characteristic_80 rfl ?_
      refine b_iconst dX6_characteristic_81 ?_
      refine b_iadd dX6_characteristic_82 ?_
      obtain ⟨g3, h⟩ := h
      obtain ⟨g4, h⟩ := h
      refine b_irem dX6_characteristic_83 g1 g3 g4 ?_
      obtain ⟨g5, h⟩ := h
      refine b_if_ne 97 dX6_characteristic_84 g5 (by decide) (fun c2 => ?_) (fun c2 => ?_)
      · have h := ifF c2 h
        refine b_iinc (ls' := [vR 376, vI x1, vI x2, vI x3, vI x4, vI (x5 + 1), vI (1157776 + (14 * x5))]) dX6_characteristic_97 rfl rfl ?_
        refine b_goto 29 dX6_characteristic_100 (by decide) ?_
        refine b_fgt [true, true, true, true, true, true, false] (ls' := [vR 376, vI x1, vI x2, vI x3, vI x4, vI (x5 + 1), vU]) rfl rfl ?_
        exact ih _ _ _ _ _ _ h
      · have h := ifT (Decidable.of_not_not c2) h
        refine b_aload_n dX6_characteristic_87 rfl ?_
        refine b_getR dX6_characteristic_88 fk_X6_73 ly_376 gg_376_4 ?_
        refine b_iload dX6_characteristic_91 rfl ?_
        refine b_iconst dX6_characteristic_93 ?_
        refine b_iadd dX6_characteristic_94 ?_
        refine b_iconst dX6_characteristic_95 ?_
        obtain ⟨g6, h⟩ := h
        refine b_iast dX6_characteristic_96 ly_379 g6 (fun m4 em4 => ?_)
        have h := h m4 em4
        refine b_iinc (ls' := [vR 376, vI x1, vI x2, vI x3, vI x4, vI (x5 + 1), vI (1157776 + (14 * x5))]) dX6_characteristic_97 rfl rfl ?_
        refine b_goto 29 dX6_characteristic_100 (by decide) ?_
        refine b_fgt [true, true, true, true, true, true, false] (ls' := [vR 376, vI x1, vI x2, vI x3, vI x4, vI (x5 + 1), vU]) rfl rfl ?_
        exact ih _ _ _ _ _ _ h
theorem p_X6_characteristic {f : Nat} {Q : Int → MM → Prop} {T : MM → Prop} (hf : 14 ≤ f) (x1 : Int) (x2 : Int) (m : MM) (h : P_X6_characteristic x1 x2 m Q) : CC f M_X6_characteristic [vR 376, vI x1, vI x2] m Q T := by
  refine CC.of (plainFor_of_name (by decide)) (Nat.le_of_ble_eq_true rfl) (ls := [vR 376, vI x1, vI x2, vU, vU, vU, vU]) rfl ?_
  have h : P_X11_size x1 m (fun r1 m1 => P_X8_clear 1157776 ((7 * r1) * r1) m1 (fun r2 m2 => ∃ nn, P_X6_characteristic_29 Q nn x1 x2 r1 (x1 + 4) 0 m2)) := h
  refine b_iload_n dX6_characteristic_0 rfl ?_
  refine b_cSi (as := [vI x1]) (st := []) dX6_characteristic_1 mf_X11_size lk_X6_336 (p_X11_size (f := 1) (Nat.le_refl _) _ _ h) (by omega) rfl rfl (Nat.le_of_ble_eq_true rfl) (by decide) rfl (fun _ => rfl) (fun r1 m1 h => ?_) (fun _ h => h)
  refine b_istore_n (ls' := [vR 376, vI x1, vI x2, vI r1, vU, vU, vU]) dX6_characteristic_4 (Nat.le_of_ble_eq_true rfl) rfl ?_
  refine b_iload_n dX6_characteristic_5 rfl ?_
  refine b_iconst dX6_characteristic_6 ?_
  refine b_iadd dX6_characteristic_7 ?_
  refine b_istore (ls' := [vR 376, vI x1, vI x2, vI r1, vI (x1 + 4), vU, vU]) dX6_characteristic_8 (Nat.le_of_ble_eq_true rfl) rfl ?_
  refine b_aload_n dX6_characteristic_10 rfl ?_
  refine b_getR dX6_characteristic_11 fk_X6_21 ly_376 gg_376_3 ?_
  refine b_ldcw (1157776) dX6_characteristic_14 q1463 (by decide) ?_
  refine b_bipush dX6_characteristic_17 (by decide) ?_
  refine b_iload_n dX6_characteristic_19 rfl ?_
  refine b_imul dX6_characteristic_20 ?_
  refine b_iload_n dX6_characteristic_21 rfl ?_
  refine b_imul dX6_characteristic_22 ?_
  refine b_cVv (as := [vI 1157776, vI ((7 * r1) * r1)]) (st := []) dX6_characteristic_23 mf_X8_clear q1305 lk_X6_175 ly_378 rfl (p_X8_clear (f := 1) (Nat.le_refl _) _ _ _ h) (by omega) rfl rfl (Nat.le_of_ble_eq_true rfl) (by decide) rfl (fun _ => rfl) (fun r2 m2 h => ?_) (fun _ h => h)
  refine b_iconst dX6_characteristic_26 ?_
  refine b_istore (ls' := [vR 376, vI x1, vI x2, vI r1, vI (x1 + 4), vI 0, vU]) dX6_characteristic_27 (Nat.le_of_ble_eq_true rfl) rfl ?_
  obtain ⟨nn, h⟩ := h
  exact pl_X6_characteristic_29 hf nn _ _ _ _ _ _ h
theorem dX6_integer_0 : decode cX6_integer 0 = .ok (.aload_n 0, 1) := by decide +kernel
theorem dX6_integer_1 : decode cX6_integer 1 = .ok (.getfield 73, 3) := by decide +kernel
theorem dX6_integer_4 : decode cX6_integer 4 = .ok (.ldc 157, 2) := by decide +kernel
theorem dX6_integer_6 : decode cX6_integer 6 = .ok (.iload_n 1, 1) := by decide +kernel
theorem dX6_integer_7 : decode cX6_integer 7 = .ok (.iastore, 1) := by decide +kernel
theorem dX6_integer_8 : decode cX6_integer 8 = .ok (.aload_n 0, 1) := by decide +kernel
theorem dX6_integer_9 : decode cX6_integer 9 = .ok (.getfield 73, 3) := by decide +kernel
theorem dX6_integer_12 : decode cX6_integer 12 = .ok (.ldc 167, 2) := by decide +kernel
theorem dX6_integer_14 : decode cX6_integer 14 = .ok (.iconst 1, 1) := by decide +kernel
theorem dX6_integer_15 : decode cX6_integer 15 = .ok (.iastore, 1) := by decide +kernel
theorem dX6_integer_16 : decode cX6_integer 16 = .ok (.return_, 1) := by decide +kernel
/-! AlgebraHouse$Machine.integer(I)V -/
def P_X6_integer (x1 : Int) (m : MM) (Q : Int → MM → Prop) : Prop := ∀ m1 : MM, m1 = up m 379 1155420 x1 → ∀ m2 : MM, m2 = up m1 379 1155421 1 → Q 0 m2
theorem p_X6_integer {f : Nat} {Q : Int → MM → Prop} {T : MM → Prop} (hf : 1 ≤ f) (x1 : Int) (m : MM) (h : P_X6_integer x1 m Q) : CC f M_X6_integer [vR 376, vI x1] m Q T := by
  refine CC.of (plainFor_of_name (by decide)) (Nat.le_of_ble_eq_true rfl) (ls := [vR 376, vI x1]) rfl ?_
  have h : ∀ m1 : MM, m1 = up m 379 1155420 x1 → ∀ m2 : MM, m2 = up m1 379 1155421 1 → Q 0 m2 := h
  refine b_aload_n dX6_integer_0 rfl ?_
  refine b_getR dX6_integer_1 fk_X6_73 ly_376 gg_376_4 ?_
  refine b_ldc (1155420) dX6_integer_4 q1374 (by decide) ?_
  refine b_iload_n dX6_integer_6 rfl ?_
  refine b_iast dX6_integer_7 ly_379 (by decide) (fun m1 em1 => ?_)
  have h := h m1 em1
  refine b_aload_n dX6_integer_8 rfl ?_
  refine b_getR dX6_integer_9 fk_X6_73 ly_376 gg_376_4 ?_
  refine b_ldc (1155421) dX6_integer_12 q1444 (by decide) ?_
  refine b_iconst dX6_integer_14 ?_
  refine b_iast dX6_integer_15 ly_379 (by decide) (fun m2 em2 => ?_)
  have h := h m2 em2
  exact b_vret dX6_integer_16 rfl h
theorem dX6_common_0 : decode cX6_common 0 = .ok (.iload_n 1, 1) := by decide +kernel
theorem dX6_common_1 : decode cX6_common 1 = .ok (.invokestatic 268, 3) := by decide +kernel
theorem dX6_common_4 : decode cX6_common 4 = .ok (.ifCond .ne 26, 3) := by decide +kernel
theorem dX6_common_7 : decode cX6_common 7 = .ok (.aload_n 0, 1) := by decide +kernel
theorem dX6_common_8 : decode cX6_common 8 = .ok (.aload_n 0, 1) := by decide +kernel
theorem dX6_common_9 : decode cX6_common 9 = .ok (.getfield 73, 3) := by decide +kernel
theorem dX6_common_12 : decode cX6_common 12 = .ok (.iload_n 2, 1) := by decide +kernel
theorem dX6_common_13 : decode cX6_common 13 = .ok (.iaload, 1) := by decide +kernel
theorem dX6_common_14 : decode cX6_common 14 = .ok (.i2l, 1) := by decide +kernel
theorem dX6_common_15 : decode cX6_common 15 = .ok (.aload_n 0, 1) := by decide +kernel
theorem dX6_common_16 : decode cX6_common 16 = .ok (.getfield 73, 3) := by decide +kernel
theorem dX6_common_19 : decode cX6_common 19 = .ok (.iload_n 3, 1) := by decide +kernel
theorem dX6_common_20 : decode cX6_common 20 = .ok (.iaload, 1) := by decide +kernel
theorem dX6_common_21 : decode cX6_common 21 = .ok (.i2l, 1) := by decide +kernel
theorem dX6_common_22 : decode cX6_common 22 = .ok (.invokestatic 325, 3) := by decide +kernel
theorem dX6_common_25 : decode cX6_common 25 = .ok (.l2i, 1) := by decide +kernel
theorem dX6_common_26 : decode cX6_common 26 = .ok (.invokevirtual 292, 3) := by decide +kernel
theorem dX6_common_29 : decode cX6_common 29 = .ok (.return_, 1) := by decide +kernel
theorem dX6_common_30 : decode cX6_common 30 = .ok (.iload_n 1, 1) := by decide +kernel
theorem dX6_common_31 : decode cX6_common 31 = .ok (.invokestatic 197, 3) := by decide +kernel
theorem dX6_common_34 : decode cX6_common 34 = .ok (.istore 4, 2) := by decide +kernel
theorem dX6_common_36 : decode cX6_common 36 = .ok (.aload_n 0, 1) := by decide +kernel
theorem dX6_common_37 : decode cX6_common 37 = .ok (.getfield 21, 3) := by decide +kernel
theorem dX6_common_40 : decode cX6_common 40 = .ok (.getfield 109, 3) := by decide +kernel
theorem dX6_common_43 : decode cX6_common 43 = .ok (.ifCond .ne 52, 3) := by decide +kernel
theorem dX6_common_46 : decode cX6_common 46 = .ok (.aload_n 0, 1) := by decide +kernel
theorem dX6_common_47 : decode cX6_common 47 = .ok (.getfield 21, 3) := by decide +kernel
theorem dX6_common_50 : decode cX6_common 50 = .ok (.iload_n 3, 1) := by decide +kernel
theorem dX6_common_51 : decode cX6_common 51 = .ok (.invokevirtual 328, 3) := by decide +kernel
theorem dX6_common_54 : decode cX6_common 54 = .ok (.ifCond .lt 41, 3) := by decide +kernel
theorem dX6_common_57 : decode cX6_common 57 = .ok (.aload_n 0, 1) := by decide +kernel
theorem dX6_common_58 : decode cX6_common 58 = .ok (.getfield 21, 3) := by decide +kernel
theorem dX6_common_61 : decode cX6_common 61 = .ok (.iload 4, 2) := by decide +kernel
theorem dX6_common_63 : decode cX6_common 63 = .ok (.iload_n 2, 1) := by decide +kernel
theorem dX6_common_64 : decode cX6_common 64 = .ok (.iload_n 3, 1) := by decide +kernel
theorem dX6_common_65 : decode cX6_common 65 = .ok (.invokevirtual 271, 3) := by decide +kernel
theorem dX6_common_68 : decode cX6_common 68 = .ok (.aload_n 0, 1) := by decide +kernel
theorem dX6_common_69 : decode cX6_common 69 = .ok (.getfield 21, 3) := by decide +kernel
theorem dX6_common_72 : decode cX6_common 72 = .ok (.iload_n 3, 1) := by decide +kernel
theorem dX6_common_73 : decode cX6_common 73 = .ok (.iload_n 2, 1) := by decide +kernel
theorem dX6_common_74 : decode cX6_common 74 = .ok (.bipush 7, 2) := by decide +kernel
theorem dX6_common_76 : decode cX6_common 76 = .ok (.invokevirtual 161, 3) := by decide +kernel
theorem dX6_common_79 : decode cX6_common 79 = .ok (.aload_n 0, 1) := by decide +kernel
theorem dX6_common_80 : decode cX6_common 80 = .ok (.getfield 21, 3) := by decide +kernel
theorem dX6_common_83 : decode cX6_common 83 = .ok (.ldc_w 275, 3) := by decide +kernel
theorem dX6_common_86 : decode cX6_common 86 = .ok (.iload_n 3, 1) := by decide +kernel
theorem dX6_common_87 : decode cX6_common 87 = .ok (.bipush 7, 2) := by decide +kernel
theorem dX6_common_89 : decode cX6_common 89 = .ok (.invokevirtual 161, 3) := by decide +kernel
theorem dX6_common_92 : decode cX6_common 92 = .ok (.goto (-56), 3) := by decide +kernel
theorem dX6_common_95 : decode cX6_common 95 = .ok (.aload_n 0, 1) := by decide +kernel
theorem dX6_common_96 : decode cX6_common 96 = .ok (.getfield 21, 3) := by decide +kernel
theorem dX6_common_99 : decode cX6_common 99 = .ok (.iload_n 2, 1) := by decide +kernel
theorem dX6_common_100 : decode cX6_common 100 = .ok (.invokevirtual 328, 3) := by decide +kernel
theorem dX6_common_103 : decode cX6_common 103 = .ok (.istore 5, 2) := by decide +kernel
theorem dX6_common_105 : decode cX6_common 105 = .ok (.aload_n 0, 1) := by decide +kernel
theorem dX6_common_106 : decode cX6_common 106 = .ok (.getfield 21, 3) := by decide +kernel
theorem dX6_common_109 : decode cX6_common 109 = .ok (.iload_n 2, 1) := by decide +kernel
theorem dX6_common_110 : decode cX6_common 110 = .ok (.ldc 157, 2) := by decide +kernel
theorem dX6_common_112 : decode cX6_common 112 = .ok (.bipush 7, 2) := by decide +kernel
theorem dX6_common_114 : decode cX6_common 114 = .ok (.invokevirtual 161, 3) := by decide +kernel
theorem dX6_common_117 : decode cX6_common 117 = .ok (.iconst 0, 1) := by decide +kernel
theorem dX6_common_118 : decode cX6_common 118 = .ok (.istore 6, 2) := by decide +kernel
theorem dX6_common_120 : decode cX6_common 120 = .ok (.iload 6, 2) := by decide +kernel
theorem dX6_common_122 : decode cX6_common 122 = .ok (.bipush 7, 2) := by decide +kernel
theorem dX6_common_124 : decode cX6_common 124 = .ok (.if_icmp .ge 52, 3) := by decide +kernel
theorem dX6_common_127 : decode cX6_common 127 = .ok (.iload 5, 2) := by decide +kernel
theorem dX6_common_129 : decode cX6_common 129 = .ok (.ifCond .lt 47, 3) := by decide +kernel
theorem dX6_common_132 : decode cX6_common 132 = .ok (.aload_n 0, 1) := by decide +kernel
theorem dX6_common_133 : decode cX6_common 133 = .ok (.getfield 21, 3) := by decide +kernel
theorem dX6_common_136 : decode cX6_common 136 = .ok (.getfield 109, 3) := by decide +kernel
theorem dX6_common_139 : decode cX6_common 139 = .ok (.ifCond .ne 37, 3) := by decide +kernel
theorem dX6_common_142 : decode cX6_common 142 = .ok (.aload_n 0, 1) := by decide +kernel
theorem dX6_common_143 : decode cX6_common 143 = .ok (.getfield 21, 3) := by decide +kernel
theorem dX6_common_146 : decode cX6_common 146 = .ok (.iload 4, 2) := by decide +kernel
theorem dX6_common_148 : decode cX6_common 148 = .ok (.iload_n 2, 1) := by decide +kernel
theorem dX6_common_149 : decode cX6_common 149 = .ok (.iconst 2, 1) := by decide +kernel
theorem dX6_common_150 : decode cX6_common 150 = .ok (.iload 6, 2) := by decide +kernel
theorem dX6_common_152 : decode cX6_common 152 = .ok (.imul, 1) := by decide +kernel
theorem dX6_common_153 : decode cX6_common 153 = .ok (.iadd, 1) := by decide +kernel
theorem dX6_common_154 : decode cX6_common 154 = .ok (.iload_n 2, 1) := by decide +kernel
theorem dX6_common_155 : decode cX6_common 155 = .ok (.iconst 2, 1) := by decide +kernel
theorem dX6_common_156 : decode cX6_common 156 = .ok (.iload 5, 2) := by decide +kernel
theorem dX6_common_158 : decode cX6_common 158 = .ok (.imul, 1) := by decide +kernel
theorem dX6_common_159 : decode cX6_common 159 = .ok (.iadd, 1) := by decide +kernel
theorem dX6_common_160 : decode cX6_common 160 = .ok (.ldc 157, 2) := by decide +kernel
theorem dX6_common_162 : decode cX6_common 162 = .ok (.iconst 2, 1) := by decide +kernel
theorem dX6_common_163 : decode cX6_common 163 = .ok (.iload 6, 2) := by decide +kernel
theorem dX6_common_165 : decode cX6_common 165 = .ok (.imul, 1) := by decide +kernel
theorem dX6_common_166 : decode cX6_common 166 = .ok (.iadd, 1) := by decide +kernel
theorem dX6_common_167 : decode cX6_common 167 = .ok (.invokevirtual 262, 3) := by decide +kernel
theorem dX6_common_170 : decode cX6_common 170 = .ok (.iinc 6 1, 3) := by decide +kernel
theorem dX6_common_173 : decode cX6_common 173 = .ok (.goto (-53), 3) := by decide +kernel
theorem dX6_common_176 : decode cX6_common 176 = .ok (.return_, 1) := by decide +kernel
/-! AlgebraHouse$Machine.common(III)V -/
def P_X6_common_120 (Q : Int → MM → Prop) : Nat → Int → Int → Int → Int → MM → Prop
  | 0, _, _, _, _, _ => False
  | n + 1, x2, x4, x5, x6, m => (RI x6) ∧ (if 7 ≤ x6 then Q 0 m else (RI x5) ∧ (if x5 < 0 then Q 0 m else (RI (m 378 2)) ∧ (if (m 378 2) = 0 then P_X8_by x4 (x2 + (2 * x6)) (x2 + (2 * x5)) (1155420 + (2 * x6)) m (fun r1 m1 => P_X6_common_120 Q n x2 x4 x5 (x6 + 1) m1) else Q 0 m)))
def P_X6_common_95 (Q : Int → MM → Prop) (x2 : Int) (x4 : Int) (m : MM) : Prop := P_X8_degree x2 m (fun r1 m1 => P_X8_copy x2 1155420 7 m1 (fun r2 m2 => ∃ nn, P_X6_common_120 Q nn x2 x4 r1 0 m2))
def P_X6_common_36 (Q : Int → MM → Prop) : Nat → Int → Int → Int → MM → Prop
  | 0, _, _, _, _ => False
  | n + 1, x2, x3, x4, m => (RI (m 378 2)) ∧ (if (m 378 2) = 0 then P_X8_degree x3 m (fun r1 m1 => (RI r1) ∧ (if r1 < 0 then P_X6_common_95 Q x2 x4 m1 else P_X8_divide x4 x2 x3 m1 (fun r2 m2 => P_X8_copy x3 x2 7 m2 (fun r3 m3 => P_X8_copy 1157776 x3 7 m3 (fun r4 m4 => P_X6_common_36 Q n x2 x3 x4 m4))))) else P_X6_common_95 Q x2 x4 m)
def P_X6_common (x1 : Int) (x2 : Int) (x3 : Int) (m : MM) (Q : Int → MM → Prop) : Prop := P_X11_depth x1 m (fun r1 m1 => (RI r1) ∧ (if r1 = 0 then (0 ≤ x2 ∧ x2 < 1159540) ∧ (RI (m1 379 x2)) ∧ (0 ≤ x3 ∧ x3 < 1159540) ∧ (RI (m1 379 x3)) ∧ P_X8_common (m1 379 x2) (m1 379 x3) m1 (fun r3 m3 => P_X6_integer r3 m3 (fun r4 m4 => Q 0 m4)) else P_X11_base x1 m1 (fun r2 m2 => ∃ nn, P_X6_common_36 Q nn x2 x3 r2 m2)))
theorem pl_X6_common_120 {f : Nat} {Q : Int → MM → Prop} {T : MM → Prop} (hf : 6 ≤ f) : ∀ (n : Nat) (x2 : Int) (x4 : Int) (x5 : Int) (x6 : Int) (m : MM), P_X6_common_120 Q n x2 x4 x5 x6 m → B f M_X6_common 120 [vR 376, vU, vI x2, vU, vI x4, vI x5, vI x6] [] m Q T := by
  intro n
  induction n with
  | zero => intro x2 x4 x5 x6 m h; exact h.elim
  | succ n ih =>
    intro x2 x4 x5 x6 m h
    have h : (RI x6) ∧ (if 7 ≤ x6 then Q 0 m else (RI x5) ∧ (if x5 < 0 then Q 0 m else (RI (m 378 2)) ∧ (if (m 378 2) = 0 then P_X8_by x4 (x2 + (2 * x6)) (x2 + (2 * x5)) (1155420 + (2 * x6)) m (fun r1 m1 => P_X6_common_120 Q n x2 x4 x5 (x6 + 1) m1) else Q 0 m))) := h
    refine b_iload dX6_common_120 rfl ?_
    refine b_bipush dX6_common_122 (by decide) ?_
    obtain ⟨g1, h⟩ := h
    refine b_icmp_ge 176 dX6_common_124 g1 (by decide) (by decide) (fun c1 => ?_) (fun c1 => ?_)
    · have h := ifT c1 h
      exact b_vret dX6_common_176 rfl h
    · have h := ifF c1 h
      refine b_iload dX6_common_127 rfl ?_
      obtain ⟨g2, h⟩ := h
      refine b_if_lt 176 dX6_common_129 g2 (by decide) (fun c2 => ?_) (fun c2 => ?_)
      · have h := ifT c2 h
        exact b_vret dX6_common_176 rfl h
      · have h := ifF c2 h
        refine b_aload_n dX6_common_132 rfl ?_
        refine b_getR dX6_common_133 fk_X6_21 ly_376 gg_376_3 ?_
        refine b_getI dX6_common_136 fk_X6_109 ly_378 ?_
        obtain ⟨g3, h⟩ := h
        refine b_if_ne 176 dX6_common_139 g3 (by decide) (fun c3 => ?_) (fun c3 => ?_)
        · have h := ifF c3 h
          exact b_vret dX6_common_176 rfl h
        · have h := ifT (Decidable.of_not_not c3) h
          refine b_aload_n dX6_common_142 rfl ?_
          refine b_getR dX6_common_143 fk_X6_21 ly_376 gg_376_3 ?_
          refine b_iload dX6_common_146 rfl ?_
          refine b_iload_n dX6_common_148 rfl ?_
          refine b_iconst dX6_common_149 ?_
          refine b_iload dX6_common_150 rfl ?_
          refine b_imul dX6_common_152 ?_
          refine b_iadd dX6_common_153 ?_
          refine b_iload_n dX6_common_154 rfl ?_
          refine b_iconst dX6_common_155 ?_
          refine b_iload dX6_common_156 rfl ?_
          refine b_imul dX6_common_158 ?_
          refine b_iadd dX6_common_159 ?_
          refine b_ldc (1155420) dX6_common_160 q1374 (by decide) ?_
          refine b_iconst dX6_common_162 ?_
          refine b_iload dX6_common_163 rfl ?_
          refine b_imul dX6_common_165 ?_
          refine b_iadd dX6_common_166 ?_
          refine b_cVv (as := [vI x4, vI (x2 + (2 * x6)), vI (x2 + (2 * x5)), vI (1155420 + (2 * x6))]) (st := []) dX6_common_167 mf_X8_by q1458 lk_X6_262 ly_378 rfl (p_X8_by (f := 4) (Nat.le_refl _) _ _ _ _ _ h) (by omega) rfl rfl (Nat.le_of_ble_eq_true rfl) (by decide) rfl (fun _ => rfl) (fun r1 m1 h => ?_) (fun _ h => h)
          refine b_iinc (ls' := [vR 376, vU, vI x2, vU, vI x4, vI x5, vI (x6 + 1)]) dX6_common_170 rfl rfl ?_
          refine b_goto 120 dX6_common_173 (by decide) ?_
          exact ih _ _ _ _ _ h
theorem pl_X6_common_95 {f : Nat} {Q : Int → MM → Prop} {T : MM → Prop} (hf : 6 ≤ f) : ∀ (x2 : Int) (x4 : Int) (m : MM), P_X6_common_95 Q x2 x4 m → B f M_X6_common 95 [vR 376, vU, vI x2, vU, vI x4, vU, vU] [] m Q T := by
  intro x2 x4 m h
  have h : P_X8_degree x2 m (fun r1 m1 => P_X8_copy x2 1155420 7 m1 (fun r2 m2 => ∃ nn, P_X6_common_120 Q nn x2 x4 r1 0 m2)) := h
  refine b_aload_n dX6_common_95 rfl ?_
  refine b_getR dX6_common_96 fk_X6_21 ly_376 gg_376_3 ?_
  refine b_iload_n dX6_common_99 rfl ?_
  refine b_cVi (as := [vI x2]) (st := []) dX6_common_100 mf_X8_degree q1447 lk_X6_328 ly_378 rfl (p_X8_degree (f := 1) (Nat.le_refl _) _ _ h) (by omega) rfl rfl (Nat.le_of_ble_eq_true rfl) (by decide) rfl (fun _ => rfl) (fun r1 m1 h => ?_) (fun _ h => h)
  refine b_istore (ls' := [vR 376, vU, vI x2, vU, vI x4, vI r1, vU]) dX6_common_103 (Nat.le_of_ble_eq_true rfl) rfl ?_
  refine b_aload_n dX6_common_105 rfl ?_
  refine b_getR dX6_common_106 fk_X6_21 ly_376 gg_376_3 ?_
  refine b_iload_n dX6_common_109 rfl ?_
  refine b_ldc (1155420) dX6_common_110 q1374 (by decide) ?_
  refine b_bipush dX6_common_112 (by decide) ?_
  refine b_cVv (as := [vI x2, vI 1155420, vI 7]) (st := []) dX6_common_114 mf_X8_copy q1320 lk_X6_161 ly_378 rfl (p_X8_copy (f := 2) (Nat.le_refl _) _ _ _ _ h) (by omega) rfl rfl (Nat.le_of_ble_eq_true rfl) (by decide) rfl (fun _ => rfl) (fun r2 m2 h => ?_) (fun _ h => h)
  refine b_iconst dX6_common_117 ?_
  refine b_istore (ls' := [vR 376, vU, vI x2, vU, vI x4, vI r1, vI 0]) dX6_common_118 (Nat.le_of_ble_eq_true rfl) rfl ?_
  obtain ⟨nn, h⟩ := h
  exact pl_X6_common_120 hf nn _ _ _ _ _ h
theorem pl_X6_common_36 {f : Nat} {Q : Int → MM → Prop} {T : MM → Prop} (hf : 6 ≤ f) : ∀ (n : Nat) (x2 : Int) (x3 : Int) (x4 : Int) (m : MM), P_X6_common_36 Q n x2 x3 x4 m → B f M_X6_common 36 [vR 376, vU, vI x2, vI x3, vI x4, vU, vU] [] m Q T := by
  intro n
  induction n with
  | zero => intro x2 x3 x4 m h; exact h.elim
  | succ n ih =>
    intro x2 x3 x4 m h
    have h : (RI (m 378 2)) ∧ (if (m 378 2) = 0 then P_X8_degree x3 m (fun r1 m1 => (RI r1) ∧ (if r1 < 0 then P_X6_common_95 Q x2 x4 m1 else P_X8_divide x4 x2 x3 m1 (fun r2 m2 => P_X8_copy x3 x2 7 m2 (fun r3 m3 => P_X8_copy 1157776 x3 7 m3 (fun r4 m4 => P_X6_common_36 Q n x2 x3 x4 m4))))) else P_X6_common_95 Q x2 x4 m) := h
    refine b_aload_n dX6_common_36 rfl ?_
    refine b_getR dX6_common_37 fk_X6_21 ly_376 gg_376_3 ?_
    refine b_getI dX6_common_40 fk_X6_109 ly_378 ?_
    obtain ⟨g1, h⟩ := h
    refine b_if_ne 95 dX6_common_43 g1 (by decide) (fun c1 => ?_) (fun c1 => ?_)
    · have h := ifF c1 h
      refine b_fgt [true, false, true, false, true, false, false] (ls' := [vR 376, vU, vI x2, vU, vI x4, vU, vU]) rfl rfl ?_
      exact pl_X6_common_95 hf _ _ _ h
    · have h := ifT (Decidable.of_not_not c1) h
      refine b_aload_n dX6_common_46 rfl ?_
      refine b_getR dX6_common_47 fk_X6_21 ly_376 gg_376_3 ?_
      refine b_iload_n dX6_common_50 rfl ?_
      refine b_cVi (as := [vI x3]) (st := []) dX6_common_51 mf_X8_degree q1447 lk_X6_328 ly_378 rfl (p_X8_degree (f := 1) (Nat.le_refl _) _ _ h) (by omega) rfl rfl (Nat.le_of_ble_eq_true rfl) (by decide) rfl (fun _ => rfl) (fun r1 m1 h => ?_) (fun _ h => h)
      obtain ⟨g2, h⟩ := h
      refine b_if_lt 95 dX6_common_54 g2 (by decide) (fun c2 => ?_) (fun c2 => ?_)
      · have h := ifT c2 h
        refine b_fgt [true, false, true, false, true, false, false] (ls' := [vR 376, vU, vI x2, vU, vI x4, vU, vU]) rfl rfl ?_
        exact pl_X6_common_95 hf _ _ _ h
      · have h := ifF c2 h
        refine b_aload_n dX6_common_57 rfl ?_
        refine b_getR dX6_common_58 fk_X6_21 ly_376 gg_376_3 ?_
        refine b_iload dX6_common_61 rfl ?_
        refine b_iload_n dX6_common_63 rfl ?_
        refine b_iload_n dX6_common_64 rfl ?_
        refine b_cVv (as := [vI x4, vI x2, vI x3]) (st := []) dX6_common_65 mf_X8_divide q1451 lk_X6_271 ly_378 rfl (p_X8_divide (f := 5) (Nat.le_refl _) _ _ _ _ h) (by omega) rfl rfl (Nat.le_of_ble_eq_true rfl) (by decide) rfl (fun _ => rfl) (fun r2 m2 h => ?_) (fun _ h => h)
        refine b_aload_n dX6_common_68 rfl ?_
        refine b_getR dX6_common_69 fk_X6_21 ly_376 gg_376_3 ?_
        refine b_iload_n dX6_common_72 rfl ?_
        refine b_iload_n dX6_common_73 rfl ?_
        refine b_bipush dX6_common_74 (by decide) ?_
        refine b_cVv (as := [vI x3, vI x2, vI 7]) (st := []) dX6_common_76 mf_X8_copy q1320 lk_X6_161 ly_378 rfl (p_X8_copy (f := 2) (Nat.le_refl _) _ _ _ _ h) (by omega) rfl rfl (Nat.le_of_ble_eq_true rfl) (by decide) rfl (fun _ => rfl) (fun r3 m3 h => ?_) (fun _ h => h)
        refine b_aload_n dX6_common_79 rfl ?_
        refine b_getR dX6_common_80 fk_X6_21 ly_376 gg_376_3 ?_
        refine b_ldcw (1157776) dX6_common_83 q1463 (by decide) ?_
        refine b_iload_n dX6_common_86 rfl ?_
        refine b_bipush dX6_common_87 (by decide) ?_
        refine b_cVv (as := [vI 1157776, vI x3, vI 7]) (st := []) dX6_common_89 mf_X8_copy q1320 lk_X6_161 ly_378 rfl (p_X8_copy (f := 2) (Nat.le_refl _) _ _ _ _ h) (by omega) rfl rfl (Nat.le_of_ble_eq_true rfl) (by decide) rfl (fun _ => rfl) (fun r4 m4 h => ?_) (fun _ h => h)
        refine b_goto 36 dX6_common_92 (by decide) ?_
        exact ih _ _ _ _ h
theorem p_X6_common {f : Nat} {Q : Int → MM → Prop} {T : MM → Prop} (hf : 6 ≤ f) (x1 : Int) (x2 : Int) (x3 : Int) (m : MM) (h : P_X6_common x1 x2 x3 m Q) : CC f M_X6_common [vR 376, vI x1, vI x2, vI x3] m Q T := by
  refine CC.of (plainFor_of_name (by decide)) (Nat.le_of_ble_eq_true rfl) (ls := [vR 376, vI x1, vI x2, vI x3, vU, vU, vU]) rfl ?_
  have h : P_X11_depth x1 m (fun r1 m1 => (RI r1) ∧ (if r1 = 0 then (0 ≤ x2 ∧ x2 < 1159540) ∧ (RI (m1 379 x2)) ∧ (0 ≤ x3 ∧ x3 < 1159540) ∧ (RI (m1 379 x3)) ∧ P_X8_common (m1 379 x2) (m1 379 x3) m1 (fun r3 m3 => P_X6_integer r3 m3 (fun r4 m4 => Q 0 m4)) else P_X11_base x1 m1 (fun r2 m2 => ∃ nn, P_X6_common_36 Q nn x2 x3 r2 m2))) := h
  refine b_iload_n dX6_common_0 rfl ?_
  refine b_cSi (as := [vI x1]) (st := []) dX6_common_1 mf_X11_depth lk_X6_268 (p_X11_depth (f := 1) (Nat.le_refl _) _ _ h) (by omega) rfl rfl (Nat.le_of_ble_eq_true rfl) (by decide) rfl (fun _ => rfl) (fun r1 m1 h => ?_) (fun _ h => h)
  obtain ⟨g1, h⟩ := h
  refine b_if_ne 30 dX6_common_4 g1 (by decide) (fun c1 => ?_) (fun c1 => ?_)
  · have h := ifF c1 h
    refine b_iload_n dX6_common_30 rfl ?_
    refine b_cSi (as := [vI x1]) (st := []) dX6_common_31 mf_X11_base lk_X6_197 (p_X11_base (f := 1) (Nat.le_refl _) _ _ h) (by omega) rfl rfl (Nat.le_of_ble_eq_true rfl) (by decide) rfl (fun _ => rfl) (fun r2 m2 h => ?_) (fun _ h => h)
    refine b_istore (ls' := [vR 376, vI x1, vI x2, vI x3, vI r2, vU, vU]) dX6_common_34 (Nat.le_of_ble_eq_true rfl) rfl ?_
    refine b_fgt [true, false, true, true, true, false, false] (ls' := [vR 376, vU, vI x2, vI x3, vI r2, vU, vU]) rfl rfl ?_
    obtain ⟨nn, h⟩ := h
    exact pl_X6_common_36 hf nn _ _ _ _ h
  · have h := ifT (Decidable.of_not_not c1) h
    refine b_aload_n dX6_common_7 rfl ?_
    refine b_aload_n dX6_common_8 rfl ?_
    refine b_getR dX6_common_9 fk_X6_73 ly_376 gg_376_4 ?_
    refine b_iload_n dX6_common_12 rfl ?_
    obtain ⟨g2, h⟩ := h
    refine b_iald dX6_common_13 ly_379 g2 ?_
    obtain ⟨g3, h⟩ := h
    refine b_i2l dX6_common_14 g3 ?_
    refine b_aload_n dX6_common_15 rfl ?_
    refine b_getR dX6_common_16 fk_X6_73 ly_376 gg_376_4 ?_
    refine b_iload_n dX6_common_19 rfl ?_
    obtain ⟨g4, h⟩ := h
    refine b_iald dX6_common_20 ly_379 g4 ?_
    obtain ⟨g5, h⟩ := h
    refine b_i2l dX6_common_21 g5 ?_
    refine b_cSl (as := [vL (m1 379 x2), vL (m1 379 x3)]) (st := [vR 376]) dX6_common_22 mf_X8_common lk_X6_325 (p_X8_common (f := 2) (Nat.le_refl _) _ _ _ h) (by omega) rfl rfl (Nat.le_of_ble_eq_true rfl) (by decide) rfl (fun _ => rfl) (fun r3 m3 h => ?_) (fun _ h => h)
    refine b_l2i dX6_common_25 ?_
    refine b_cVv (as := [vI r3]) (st := []) dX6_common_26 mf_X6_integer qs76 lk_X6_292 ly_376 rfl (p_X6_integer (f := 1) (Nat.le_refl _) _ _ h) (by omega) rfl rfl (Nat.le_of_ble_eq_true rfl) (by decide) rfl (fun _ => rfl) (fun r4 m4 h => ?_) (fun _ h => h)
    exact b_vret dX6_common_29 rfl h
theorem dX6_derived_0 : decode cX6_derived 0 = .ok (.iload_n 1, 1) := by decide +kernel
theorem dX6_derived_1 : decode cX6_derived 1 = .ok (.invokestatic 154, 3) := by decide +kernel
theorem dX6_derived_4 : decode cX6_derived 4 = .ok (.bipush 7, 2) := by decide +kernel
theorem dX6_derived_6 : decode cX6_derived 6 = .ok (.idiv, 1) := by decide +kernel
theorem dX6_derived_7 : decode cX6_derived 7 = .ok (.istore_n 3, 1) := by decide +kernel
theorem dX6_derived_8 : decode cX6_derived 8 = .ok (.aload_n 0, 1) := by decide +kernel
theorem dX6_derived_9 : decode cX6_derived 9 = .ok (.getfield 21, 3) := by decide +kernel
theorem dX6_derived_12 : decode cX6_derived 12 = .ok (.ldc 157, 2) := by decide +kernel
theorem dX6_derived_14 : decode cX6_derived 14 = .ok (.iload_n 1, 1) := by decide +kernel
theorem dX6_derived_15 : decode cX6_derived 15 = .ok (.invokestatic 154, 3) := by decide +kernel
theorem dX6_derived_18 : decode cX6_derived 18 = .ok (.invokevirtual 175, 3) := by decide +kernel
theorem dX6_derived_21 : decode cX6_derived 21 = .ok (.aload_n 0, 1) := by decide +kernel
theorem dX6_derived_22 : decode cX6_derived 22 = .ok (.getfield 21, 3) := by decide +kernel
theorem dX6_derived_25 : decode cX6_derived 25 = .ok (.iload_n 1, 1) := by decide +kernel
theorem dX6_derived_26 : decode cX6_derived 26 = .ok (.invokestatic 197, 3) := by decide +kernel
theorem dX6_derived_29 : decode cX6_derived 29 = .ok (.invokevirtual 319, 3) := by decide +kernel
theorem dX6_derived_32 : decode cX6_derived 32 = .ok (.istore 4, 2) := by decide +kernel
theorem dX6_derived_34 : decode cX6_derived 34 = .ok (.iconst 1, 1) := by decide +kernel
theorem dX6_derived_35 : decode cX6_derived 35 = .ok (.istore 5, 2) := by decide +kernel
theorem dX6_derived_37 : decode cX6_derived 37 = .ok (.iload 5, 2) := by decide +kernel
theorem dX6_derived_39 : decode cX6_derived 39 = .ok (.bipush 7, 2) := by decide +kernel
theorem dX6_derived_41 : decode cX6_derived 41 = .ok (.if_icmp .ge 106, 3) := by decide +kernel
theorem dX6_derived_44 : decode cX6_derived 44 = .ok (.aload_n 0, 1) := by decide +kernel
theorem dX6_derived_45 : decode cX6_derived 45 = .ok (.getfield 73, 3) := by decide +kernel
theorem dX6_derived_48 : decode cX6_derived 48 = .ok (.ldc_w 331, 3) := by decide +kernel
theorem dX6_derived_51 : decode cX6_derived 51 = .ok (.iload 4, 2) := by decide +kernel
theorem dX6_derived_53 : decode cX6_derived 53 = .ok (.iconst 1, 1) := by decide +kernel
theorem dX6_derived_54 : decode cX6_derived 54 = .ok (.if_icmp .le 11, 3) := by decide +kernel
theorem dX6_derived_57 : decode cX6_derived 57 = .ok (.iload 5, 2) := by decide +kernel
theorem dX6_derived_59 : decode cX6_derived 59 = .ok (.iload 4, 2) := by decide +kernel
theorem dX6_derived_61 : decode cX6_derived 61 = .ok (.irem, 1) := by decide +kernel
theorem dX6_derived_62 : decode cX6_derived 62 = .ok (.goto 5, 3) := by decide +kernel
theorem dX6_derived_65 : decode cX6_derived 65 = .ok (.iload 5, 2) := by decide +kernel
theorem dX6_derived_67 : decode cX6_derived 67 = .ok (.iastore, 1) := by decide +kernel
theorem dX6_derived_68 : decode cX6_derived 68 = .ok (.aload_n 0, 1) := by decide +kernel
theorem dX6_derived_69 : decode cX6_derived 69 = .ok (.getfield 73, 3) := by decide +kernel
theorem dX6_derived_72 : decode cX6_derived 72 = .ok (.ldc_w 332, 3) := by decide +kernel
theorem dX6_derived_75 : decode cX6_derived 75 = .ok (.iconst 1, 1) := by decide +kernel
theorem dX6_derived_76 : decode cX6_derived 76 = .ok (.iastore, 1) := by decide +kernel
theorem dX6_derived_77 : decode cX6_derived 77 = .ok (.iconst 0, 1) := by decide +kernel
theorem dX6_derived_78 : decode cX6_derived 78 = .ok (.istore 6, 2) := by decide +kernel
theorem dX6_derived_80 : decode cX6_derived 80 = .ok (.iload 6, 2) := by decide +kernel
theorem dX6_derived_82 : decode cX6_derived 82 = .ok (.iload_n 3, 1) := by decide +kernel
theorem dX6_derived_83 : decode cX6_derived 83 = .ok (.if_icmp .ge 58, 3) := by decide +kernel
theorem dX6_derived_86 : decode cX6_derived 86 = .ok (.aload_n 0, 1) := by decide +kernel
theorem dX6_derived_87 : decode cX6_derived 87 = .ok (.getfield 21, 3) := by decide +kernel
theorem dX6_derived_90 : decode cX6_derived 90 = .ok (.getfield 109, 3) := by decide +kernel
theorem dX6_derived_93 : decode cX6_derived 93 = .ok (.ifCond .ne 48, 3) := by decide +kernel
theorem dX6_derived_96 : decode cX6_derived 96 = .ok (.aload_n 0, 1) := by decide +kernel
theorem dX6_derived_97 : decode cX6_derived 97 = .ok (.getfield 21, 3) := by decide +kernel
theorem dX6_derived_100 : decode cX6_derived 100 = .ok (.iload_n 1, 1) := by decide +kernel
theorem dX6_derived_101 : decode cX6_derived 101 = .ok (.invokestatic 197, 3) := by decide +kernel
theorem dX6_derived_104 : decode cX6_derived 104 = .ok (.ldc_w 331, 3) := by decide +kernel
theorem dX6_derived_107 : decode cX6_derived 107 = .ok (.iload_n 2, 1) := by decide +kernel
theorem dX6_derived_108 : decode cX6_derived 108 = .ok (.iconst 2, 1) := by decide +kernel
theorem dX6_derived_109 : decode cX6_derived 109 = .ok (.iload_n 3, 1) := by decide +kernel
theorem dX6_derived_110 : decode cX6_derived 110 = .ok (.iload 5, 2) := by decide +kernel
theorem dX6_derived_112 : decode cX6_derived 112 = .ok (.imul, 1) := by decide +kernel
theorem dX6_derived_113 : decode cX6_derived 113 = .ok (.iload 6, 2) := by decide +kernel
theorem dX6_derived_115 : decode cX6_derived 115 = .ok (.iadd, 1) := by decide +kernel
theorem dX6_derived_116 : decode cX6_derived 116 = .ok (.imul, 1) := by decide +kernel
theorem dX6_derived_117 : decode cX6_derived 117 = .ok (.iadd, 1) := by decide +kernel
theorem dX6_derived_118 : decode cX6_derived 118 = .ok (.ldc 157, 2) := by decide +kernel
theorem dX6_derived_120 : decode cX6_derived 120 = .ok (.iconst 2, 1) := by decide +kernel
theorem dX6_derived_121 : decode cX6_derived 121 = .ok (.iload_n 3, 1) := by decide +kernel
theorem dX6_derived_122 : decode cX6_derived 122 = .ok (.iload 5, 2) := by decide +kernel
theorem dX6_derived_124 : decode cX6_derived 124 = .ok (.iconst 1, 1) := by decide +kernel
theorem dX6_derived_125 : decode cX6_derived 125 = .ok (.isub, 1) := by decide +kernel
theorem dX6_derived_126 : decode cX6_derived 126 = .ok (.imul, 1) := by decide +kernel
theorem dX6_derived_127 : decode cX6_derived 127 = .ok (.iload 6, 2) := by decide +kernel
theorem dX6_derived_129 : decode cX6_derived 129 = .ok (.iadd, 1) := by decide +kernel
theorem dX6_derived_130 : decode cX6_derived 130 = .ok (.imul, 1) := by decide +kernel
theorem dX6_derived_131 : decode cX6_derived 131 = .ok (.iadd, 1) := by decide +kernel
theorem dX6_derived_132 : decode cX6_derived 132 = .ok (.invokevirtual 333, 3) := by decide +kernel
theorem dX6_derived_135 : decode cX6_derived 135 = .ok (.iinc 6 1, 3) := by decide +kernel
theorem dX6_derived_138 : decode cX6_derived 138 = .ok (.goto (-58), 3) := by decide +kernel
theorem dX6_derived_141 : decode cX6_derived 141 = .ok (.iinc 5 1, 3) := by decide +kernel
theorem dX6_derived_144 : decode cX6_derived 144 = .ok (.goto (-107), 3) := by decide +kernel
theorem dX6_derived_147 : decode cX6_derived 147 = .ok (.return_, 1) := by decide +kernel
/-! AlgebraHouse$Machine.derived(II)V -/
def P_X6_derived_80 (Q : Int → MM → Prop) (K37 : Int → Int → Int → Int → Int → MM → Prop) : Nat → Int → Int → Int → Int → Int → Int → MM → Prop
  | 0, _, _, _, _, _, _, _ => False
  | n + 1, x1, x2, x3, x4, x5, x6, m => (RI x6) ∧ (RI x3) ∧ (if x3 ≤ x6 then K37 x1 x2 x3 x4 (x5 + 1) m else (RI (m 378 2)) ∧ (if (m 378 2) = 0 then P_X11_base x1 m (fun r1 m1 => P_X8_times r1 1157576 (x2 + (2 * ((x3 * x5) + x6))) (1155420 + (2 * ((x3 * (x5 - 1)) + x6))) m1 (fun r2 m2 => P_X6_derived_80 Q K37 n x1 x2 x3 x4 x5 (x6 + 1) m2)) else K37 x1 x2 x3 x4 (x5 + 1) m))
def P_X6_derived_37 (Q : Int → MM → Prop) : Nat → Int → Int → Int → Int → Int → MM → Prop
  | 0, _, _, _, _, _, _ => False
  | n + 1, x1, x2, x3, x4, x5, m => (RI x5) ∧ (if 7 ≤ x5 then Q 0 m else ((RI x4) ∧ (if x4 ≤ 1 then True else ((x4 ≠ 0)))) ∧ ∀ m1 : MM, m1 = up m 379 1157576 (if x4 ≤ 1 then x5 else (Int.tmod x5 x4) : Int) → ∀ m2 : MM, m2 = up m1 379 1157577 1 → ∃ nn, P_X6_derived_80 Q (fun z0 z1 z2 z3 z4 z5 => P_X6_derived_37 Q n z0 z1 z2 z3 z4 z5) nn x1 x2 x3 x4 x5 0 m2)
def P_X6_derived (x1 : Int) (x2 : Int) (m : MM) (Q : Int → MM → Prop) : Prop := P_X11_coefficients x1 m (fun r1 m1 => (RI r1) ∧ P_X11_coefficients x1 m1 (fun r2 m2 => P_X8_clear 1155420 r2 m2 (fun r3 m3 => P_X11_base x1 m3 (fun r4 m4 => P_X8_modulus r4 m4 (fun r5 m5 => ∃ nn, P_X6_derived_37 Q nn x1 x2 (Int.tdiv r1 7) r5 1 m5)))))
theorem pl_X6_derived_80 {f : Nat} {Q : Int → MM → Prop} {T : MM → Prop} (hf : 5 ≤ f) {K37 : Int → Int → Int → Int → Int → MM → Prop} (hK37 : ∀ (x1 : Int) (x2 : Int) (x3 : Int) (x4 : Int) (x5 : Int) (m : MM), K37 x1 x2 x3 x4 x5 m → B f M_X6_derived 37 [vR 376, vI x1, vI x2, vI x3, vI x4, vI x5, vU] [] m Q T) : ∀ (n : Nat) (x1 : Int) (x2 : Int) (x3 : Int) (x4 : Int) (x5 : Int) (x6 : Int) (m : MM), P_X6_derived_80 Q K37 n x1 x2 x3 x4 x5 x6 m → B f M_X6_derived 80 [vR 376, vI x1, vI x2, vI x3, vI x4, vI x5, vI x6] [] m Q T := by
  intro n
  induction n with
  | zero => intro x1 x2 x3 x4 x5 x6 m h; exact h.elim
  | succ n ih =>
    intro x1 x2 x3 x4 x5 x6 m h
    have h : (RI x6) ∧ (RI x3) ∧ (if x3 ≤ x6 then K37 x1 x2 x3 x4 (x5 + 1) m else (RI (m 378 2)) ∧ (if (m 378 2) = 0 then P_X11_base x1 m (fun r1 m1 => P_X8_times r1 1157576 (x2 + (2 * ((x3 * x5) + x6))) (1155420 + (2 * ((x3 * (x5 - 1)) + x6))) m1 (fun r2 m2 => P_X6_derived_80 Q K37 n x1 x2 x3 x4 x5 (x6 + 1) m2)) else K37 x1 x2 x3 x4 (x5 + 1) m)) := h
    refine b_iload dX6_derived_80 rfl ?_
    refine b_iload_n dX6_derived_82 rfl ?_
    obtain ⟨g1, h⟩ := h
    obtain ⟨g2, h⟩ := h
    refine b_icmp_ge 141 dX6_derived_83 g1 g2 (by decide) (fun c1 => ?_) (fun c1 => ?_)
    · have h := ifT c1 h
      refine b_iinc (ls' := [vR 376, vI x1, vI x2, vI x3, vI x4, vI (x5 + 1), vI x6]) dX6_derived_141 rfl rfl ?_
      refine b_goto 37 dX6_derived_144 (by decide) ?_
      refine b_fgt [true, true, true, true, true, true, false] (ls' := [vR 376, vI x1, vI x2, vI x3, vI x4, vI (x5 + 1), vU]) rfl rfl ?_
      exact hK37 _ _ _ _ _ _ h
    · have h := ifF c1 h
      refine b_aload_n dX6_derived_86 rfl ?_
      refine b_getR dX6_derived_87 fk_X6_21 ly_376 gg_376_3 ?_
      refine b_getI dX6_derived_90 fk_X6_109 ly_378 ?_
      obtain ⟨g3, h⟩ := h
      refine b_if_ne 141 dX6_derived_93 g3 (by decide) (fun c2 => ?_) (fun c2 => ?_)
      · have h := ifF c2 h
        refine b_iinc (ls' := [vR 376, vI x1, vI x2, vI x3, vI x4, vI (x5 + 1), vI x6]) dX6_derived_141 rfl rfl ?_
        refine b_goto 37 dX6_derived_144 (by decide) ?_
        refine b_fgt [true, true, true, true, true, true, false] (ls' := [vR 376, vI x1, vI x2, vI x3, vI x4, vI (x5 + 1), vU]) rfl rfl ?_
        exact hK37 _ _ _ _ _ _ h
      · have h := ifT (Decidable.of_not_not c2) h
        refine b_aload_n dX6_derived_96 rfl ?_
        refine b_getR dX6_derived_97 fk_X6_21 ly_376 gg_376_3 ?_
        refine b_iload_n dX6_derived_100 rfl ?_
        refine b_cSi (as := [vI x1]) (st := [vR 378]) dX6_derived_101 mf_X11_base lk_X6_197 (p_X11_base (f := 1) (Nat.le_refl _) _ _ h) (by omega) rfl rfl (Nat.le_of_ble_eq_true rfl) (by decide) rfl (fun _ => rfl) (fun r1 m1 h => ?_) (fun _ h => h)
        refine b_ldcw (1157576) dX6_derived_104 q1476 (by decide) ?_
        refine b_iload_n dX6_derived_107 rfl ?_
        refine b_iconst dX6_derived_108 ?_
        refine b_iload_n dX6_derived_109 rfl ?_
        refine b_iload dX6_derived_110 rfl ?_
        refine b_imul dX6_derived_112 ?_
        refine b_iload dX6_derived_113 rfl ?_
        refine b_iadd dX6_derived_115 ?_
        refine b_imul dX6_derived_116 ?_
        refine b_iadd dX6_derived_117 ?_
        refine b_ldc (1155420) dX6_derived_118 q1374 (by decide) ?_
        refine b_iconst dX6_derived_120 ?_
        refine b_iload_n dX6_derived_121 rfl ?_
        refine b_iload dX6_derived_122 rfl ?_
        refine b_iconst dX6_derived_124 ?_
        refine b_isub dX6_derived_125 ?_
        refine b_imul dX6_derived_126 ?_
        refine b_iload dX6_derived_127 rfl ?_
        refine b_iadd dX6_derived_129 ?_
        refine b_imul dX6_derived_130 ?_
        refine b_iadd dX6_derived_131 ?_
        refine b_cVv (as := [vI r1, vI 1157576, vI (x2 + (2 * ((x3 * x5) + x6))), vI (1155420 + (2 * ((x3 * (x5 - 1)) + x6)))]) (st := []) dX6_derived_132 mf_X8_times q1386 lk_X6_333 ly_378 rfl (p_X8_times (f := 4) (Nat.le_refl _) _ _ _ _ _ h) (by omega) rfl rfl (Nat.le_of_ble_eq_true rfl) (by decide) rfl (fun _ => rfl) (fun r2 m2 h => ?_) (fun _ h => h)
        refine b_iinc (ls' := [vR 376, vI x1, vI x2, vI x3, vI x4, vI x5, vI (x6 + 1)]) dX6_derived_135 rfl rfl ?_
        refine b_goto 80 dX6_derived_138 (by decide) ?_
        exact ih _ _ _ _ _ _ _ h
theorem pl_X6_derived_37 {f : Nat} {Q : Int → MM → Prop} {T : MM → Prop} (hf : 5 ≤ f) : ∀ (n : Nat) (x1 : Int) (x2 : Int) (x3 : Int) (x4 : Int) (x5 : Int) (m : MM), P_X6_derived_37 Q n x1 x2 x3 x4 x5 m → B f M_X6_derived 37 [vR 376, vI x1, vI x2, vI x3, vI x4, vI x5, vU] [] m Q T := by
  intro n
  induction n with
  | zero => intro x1 x2 x3 x4 x5 m h; exact h.elim
  | succ n ih =>
    intro x1 x2 x3 x4 x5 m h
    have h : (RI x5) ∧ (if 7 ≤ x5 then Q 0 m else ((RI x4) ∧ (if x4 ≤ 1 then True else ((x4 ≠ 0)))) ∧ ∀ m1 : MM, m1 = up m 379 1157576 (if x4 ≤ 1 then x5 else (Int.tmod x5 x4) : Int) → ∀ m2 : MM, m2 = up m1 379 1157577 1 → ∃ nn, P_X6_derived_80 Q (fun z0 z1 z2 z3 z4 z5 => P_X6_derived_37 Q n z0 z1 z2 z3 z4 z5) nn x1 x2 x3 x4 x5 0 m2) := h
    refine b_iload dX6_derived_37 rfl ?_
    refine b_bipush dX6_derived_39 (by decide) ?_
    obtain ⟨g1, h⟩ := h
    refine b_icmp_ge 147 dX6_derived_41 g1 (by decide) (by decide) (fun c1 => ?_) (fun c1 => ?_)
    · have h := ifT c1 h
      exact b_vret dX6_derived_147 rfl h
    · have h := ifF c1 h
      refine b_aload_n dX6_derived_44 rfl ?_
      refine b_getR dX6_derived_45 fk_X6_73 ly_376 gg_376_4 ?_
      refine b_ldcw (1157576) dX6_derived_48 q1476 (by decide) ?_
      refine b_iload dX6_derived_51 rfl ?_
      refine b_iconst dX6_derived_53 ?_
      obtain ⟨hs, h⟩ := h
      have K : B f M_X6_derived 67 [vR 376, vI x1, vI x2, vI x3, vI x4, vI x5, vU] [vI (if x4 ≤ 1 then x5 else (Int.tmod x5 x4) : Int), vI 1157576, vR 379] m Q T := by
        clear hs
        refine b_iast dX6_derived_67 ly_379 (by decide) (fun m1 em1 => ?_)
        have h := h m1 em1
        refine b_aload_n dX6_derived_68 rfl ?_
        refine b_getR dX6_derived_69 fk_X6_73 ly_376 gg_376_4 ?_
        refine b_ldcw (1157577) dX6_derived_72 q1477 (by decide) ?_
        refine b_iconst dX6_derived_75 ?_
        refine b_iast dX6_derived_76 ly_379 (by decide) (fun m2 em2 => ?_)
        have h := h m2 em2
        refine b_iconst dX6_derived_77 ?_
        refine b_istore (ls' := [vR 376, vI x1, vI x2, vI x3, vI x4, vI x5, vI 0]) dX6_derived_78 (Nat.le_of_ble_eq_true rfl) rfl ?_
        obtain ⟨nn, h⟩ := h
        exact pl_X6_derived_80 hf (fun _ _ _ _ _ _ h => ih _ _ _ _ _ _ h) nn _ _ _ _ _ _ _ h
      obtain ⟨g2, hs⟩ := hs
      refine b_icmp_le 65 dX6_derived_54 g2 (by decide) (by decide) (fun c2 => ?_) (fun c2 => ?_)
      ·
        refine b_iload dX6_derived_65 rfl ?_
        rw [if_pos c2] at K
        exact K
      ·
        have hs := ifF c2 hs
        have g3 := hs
        refine b_iload dX6_derived_57 rfl ?_
        refine b_iload dX6_derived_59 rfl ?_
        refine b_irem dX6_derived_61 g1 g2 g3 ?_
        refine b_goto 67 dX6_derived_62 (by decide) ?_
        rw [if_neg c2] at K
        exact K
theorem p_X6_derived {f : Nat} {Q : Int → MM → Prop} {T : MM → Prop} (hf : 5 ≤ f) (x1 : Int) (x2 : Int) (m : MM) (h : P_X6_derived x1 x2 m Q) : CC f M_X6_derived [vR 376, vI x1, vI x2] m Q T := by
  refine CC.of (plainFor_of_name (by decide)) (Nat.le_of_ble_eq_true rfl) (ls := [vR 376, vI x1, vI x2, vU, vU, vU, vU]) rfl ?_
  have h : P_X11_coefficients x1 m (fun r1 m1 => (RI r1) ∧ P_X11_coefficients x1 m1 (fun r2 m2 => P_X8_clear 1155420 r2 m2 (fun r3 m3 => P_X11_base x1 m3 (fun r4 m4 => P_X8_modulus r4 m4 (fun r5 m5 => ∃ nn, P_X6_derived_37 Q nn x1 x2 (Int.tdiv r1 7) r5 1 m5))))) := h
  refine b_iload_n dX6_derived_0 rfl ?_
  refine b_cSi (as := [vI x1]) (st := []) dX6_derived_1 mf_X11_coefficients lk_X6_154 (p_X11_coefficients (f := 2) (Nat.le_refl _) _ _ h) (by omega) rfl rfl (Nat.le_of_ble_eq_true rfl) (by decide) rfl (fun _ => rfl) (fun r1 m1 h => ?_) (fun _ h => h)
  refine b_bipush dX6_derived_4 (by decide) ?_
  obtain ⟨g1, h⟩ := h
  refine b_idiv dX6_derived_6 g1 (by decide) (by decide) ?_
  refine b_istore_n (ls' := [vR 376, vI x1, vI x2, vI (Int.tdiv r1 7), vU, vU, vU]) dX6_derived_7 (Nat.le_of_ble_eq_true rfl) rfl ?_
  refine b_aload_n dX6_derived_8 rfl ?_
  refine b_getR dX6_derived_9 fk_X6_21 ly_376 gg_376_3 ?_
  refine b_ldc (1155420) dX6_derived_12 q1374 (by decide) ?_
  refine b_iload_n dX6_derived_14 rfl ?_
  refine b_cSi (as := [vI x1]) (st := [vI 1155420, vR 378]) dX6_derived_15 mf_X11_coefficients lk_X6_154 (p_X11_coefficients (f := 2) (Nat.le_refl _) _ _ h) (by omega) rfl rfl (Nat.le_of_ble_eq_true rfl) (by decide) rfl (fun _ => rfl) (fun r2 m2 h => ?_) (fun _ h => h)
  refine b_cVv (as := [vI 1155420, vI r2]) (st := []) dX6_derived_18 mf_X8_clear q1305 lk_X6_175 ly_378 rfl (p_X8_clear (f := 1) (Nat.le_refl _) _ _ _ h) (by omega) rfl rfl (Nat.le_of_ble_eq_true rfl) (by decide) rfl (fun _ => rfl) (fun r3 m3 h => ?_) (fun _ h => h)
  refine b_aload_n dX6_derived_21 rfl ?_
  refine b_getR dX6_derived_22 fk_X6_21 ly_376 gg_376_3 ?_
  refine b_iload_n dX6_derived_25 rfl ?_
  refine b_cSi (as := [vI x1]) (st := [vR 378]) dX6_derived_26 mf_X11_base lk_X6_197 (p_X11_base (f := 1) (Nat.le_refl _) _ _ h) (by omega) rfl rfl (Nat.le_of_ble_eq_true rfl) (by decide) rfl (fun _ => rfl) (fun r4 m4 h => ?_) (fun _ h => h)
  refine b_cVi (as := [vI r4]) (st := []) dX6_derived_29 mf_X8_modulus qs66 lk_X6_319 ly_378 rfl (p_X8_modulus (f := 1) (Nat.le_refl _) _ _ h) (by omega) rfl rfl (Nat.le_of_ble_eq_true rfl) (by decide) rfl (fun _ => rfl) (fun r5 m5 h => ?_) (fun _ h => h)
  refine b_istore (ls' := [vR 376, vI x1, vI x2, vI (Int.tdiv r1 7), vI r5, vU, vU]) dX6_derived_32 (Nat.le_of_ble_eq_true rfl) rfl ?_
  refine b_iconst dX6_derived_34 ?_
  refine b_istore (ls' := [vR 376, vI x1, vI x2, vI (Int.tdiv r1 7), vI r5, vI 1, vU]) dX6_derived_35 (Nat.le_of_ble_eq_true rfl) rfl ?_
  obtain ⟨nn, h⟩ := h
  exact pl_X6_derived_37 hf nn _ _ _ _ _ _ h
theorem dX6_inverse_0 : decode cX6_inverse 0 = .ok (.iload_n 1, 1) := by decide +kernel
theorem dX6_inverse_1 : decode cX6_inverse 1 = .ok (.invokestatic 197, 3) := by decide +kernel
theorem dX6_inverse_4 : decode cX6_inverse 4 = .ok (.istore_n 3, 1) := by decide +kernel
theorem dX6_inverse_5 : decode cX6_inverse 5 = .ok (.iload_n 1, 1) := by decide +kernel
theorem dX6_inverse_6 : decode cX6_inverse 6 = .ok (.invokestatic 336, 3) := by decide +kernel
theorem dX6_inverse_9 : decode cX6_inverse 9 = .ok (.istore 4, 2) := by decide +kernel
theorem dX6_inverse_11 : decode cX6_inverse 11 = .ok (.iload 4, 2) := by decide +kernel
theorem dX6_inverse_13 : decode cX6_inverse 13 = .ok (.ifCond .ne 56, 3) := by decide +kernel
theorem dX6_inverse_16 : decode cX6_inverse 16 = .ok (.aload_n 0, 1) := by decide +kernel
theorem dX6_inverse_17 : decode cX6_inverse 17 = .ok (.getfield 21, 3) := by decide +kernel
theorem dX6_inverse_20 : decode cX6_inverse 20 = .ok (.iload_n 2, 1) := by decide +kernel
theorem dX6_inverse_21 : decode cX6_inverse 21 = .ok (.invokevirtual 259, 3) := by decide +kernel
theorem dX6_inverse_24 : decode cX6_inverse 24 = .ok (.ifCond .eq 11, 3) := by decide +kernel
theorem dX6_inverse_27 : decode cX6_inverse 27 = .ok (.aload_n 0, 1) := by decide +kernel
theorem dX6_inverse_28 : decode cX6_inverse 28 = .ok (.getfield 21, 3) := by decide +kernel
theorem dX6_inverse_31 : decode cX6_inverse 31 = .ok (.iconst 2, 1) := by decide +kernel
theorem dX6_inverse_32 : decode cX6_inverse 32 = .ok (.putfield 109, 3) := by decide +kernel
theorem dX6_inverse_35 : decode cX6_inverse 35 = .ok (.aload_n 0, 1) := by decide +kernel
theorem dX6_inverse_36 : decode cX6_inverse 36 = .ok (.getfield 21, 3) := by decide +kernel
theorem dX6_inverse_39 : decode cX6_inverse 39 = .ok (.iload_n 1, 1) := by decide +kernel
theorem dX6_inverse_40 : decode cX6_inverse 40 = .ok (.ldc 239, 2) := by decide +kernel
theorem dX6_inverse_42 : decode cX6_inverse 42 = .ok (.invokevirtual 240, 3) := by decide +kernel
theorem dX6_inverse_45 : decode cX6_inverse 45 = .ok (.aload_n 0, 1) := by decide +kernel
theorem dX6_inverse_46 : decode cX6_inverse 46 = .ok (.getfield 21, 3) := by decide +kernel
theorem dX6_inverse_49 : decode cX6_inverse 49 = .ok (.getfield 109, 3) := by decide +kernel
theorem dX6_inverse_52 : decode cX6_inverse 52 = .ok (.ifCond .ne 16, 3) := by decide +kernel
theorem dX6_inverse_55 : decode cX6_inverse 55 = .ok (.aload_n 0, 1) := by decide +kernel
theorem dX6_inverse_56 : decode cX6_inverse 56 = .ok (.getfield 21, 3) := by decide +kernel
theorem dX6_inverse_59 : decode cX6_inverse 59 = .ok (.iload_n 3, 1) := by decide +kernel
theorem dX6_inverse_60 : decode cX6_inverse 60 = .ok (.ldc 239, 2) := by decide +kernel
theorem dX6_inverse_62 : decode cX6_inverse 62 = .ok (.iload_n 2, 1) := by decide +kernel
theorem dX6_inverse_63 : decode cX6_inverse 63 = .ok (.ldc 157, 2) := by decide +kernel
theorem dX6_inverse_65 : decode cX6_inverse 65 = .ok (.invokevirtual 262, 3) := by decide +kernel
theorem dX6_inverse_68 : decode cX6_inverse 68 = .ok (.return_, 1) := by decide +kernel
theorem dX6_inverse_69 : decode cX6_inverse 69 = .ok (.aload_n 0, 1) := by decide +kernel
theorem dX6_inverse_70 : decode cX6_inverse 70 = .ok (.getfield 21, 3) := by decide +kernel
theorem dX6_inverse_73 : decode cX6_inverse 73 = .ok (.iload_n 1, 1) := by decide +kernel
theorem dX6_inverse_74 : decode cX6_inverse 74 = .ok (.iload_n 2, 1) := by decide +kernel
theorem dX6_inverse_75 : decode cX6_inverse 75 = .ok (.ldc 239, 2) := by decide +kernel
theorem dX6_inverse_77 : decode cX6_inverse 77 = .ok (.invokevirtual 301, 3) := by decide +kernel
theorem dX6_inverse_80 : decode cX6_inverse 80 = .ok (.aload_n 0, 1) := by decide +kernel
theorem dX6_inverse_81 : decode cX6_inverse 81 = .ok (.getfield 21, 3) := by decide +kernel
theorem dX6_inverse_84 : decode cX6_inverse 84 = .ok (.getfield 109, 3) := by decide +kernel
theorem dX6_inverse_87 : decode cX6_inverse 87 = .ok (.ifCond .ne 23, 3) := by decide +kernel
theorem dX6_inverse_90 : decode cX6_inverse 90 = .ok (.aload_n 0, 1) := by decide +kernel
theorem dX6_inverse_91 : decode cX6_inverse 91 = .ok (.getfield 21, 3) := by decide +kernel
theorem dX6_inverse_94 : decode cX6_inverse 94 = .ok (.ldc 239, 2) := by decide +kernel
theorem dX6_inverse_96 : decode cX6_inverse 96 = .ok (.invokevirtual 259, 3) := by decide +kernel
theorem dX6_inverse_99 : decode cX6_inverse 99 = .ok (.ifCond .eq 11, 3) := by decide +kernel
theorem dX6_inverse_102 : decode cX6_inverse 102 = .ok (.aload_n 0, 1) := by decide +kernel
theorem dX6_inverse_103 : decode cX6_inverse 103 = .ok (.getfield 21, 3) := by decide +kernel
theorem dX6_inverse_106 : decode cX6_inverse 106 = .ok (.iconst 5, 1) := by decide +kernel
theorem dX6_inverse_107 : decode cX6_inverse 107 = .ok (.putfield 109, 3) := by decide +kernel
theorem dX6_inverse_110 : decode cX6_inverse 110 = .ok (.aload_n 0, 1) := by decide +kernel
theorem dX6_inverse_111 : decode cX6_inverse 111 = .ok (.getfield 21, 3) := by decide +kernel
theorem dX6_inverse_114 : decode cX6_inverse 114 = .ok (.getfield 109, 3) := by decide +kernel
theorem dX6_inverse_117 : decode cX6_inverse 117 = .ok (.ifCond .ne 15, 3) := by decide +kernel
theorem dX6_inverse_120 : decode cX6_inverse 120 = .ok (.aload_n 0, 1) := by decide +kernel
theorem dX6_inverse_121 : decode cX6_inverse 121 = .ok (.getfield 21, 3) := by decide +kernel
theorem dX6_inverse_124 : decode cX6_inverse 124 = .ok (.iload_n 1, 1) := by decide +kernel
theorem dX6_inverse_125 : decode cX6_inverse 125 = .ok (.iload_n 2, 1) := by decide +kernel
theorem dX6_inverse_126 : decode cX6_inverse 126 = .ok (.ldc_w 275, 3) := by decide +kernel
theorem dX6_inverse_129 : decode cX6_inverse 129 = .ok (.invokevirtual 310, 3) := by decide +kernel
theorem dX6_inverse_132 : decode cX6_inverse 132 = .ok (.iconst 0, 1) := by decide +kernel
theorem dX6_inverse_133 : decode cX6_inverse 133 = .ok (.istore 5, 2) := by decide +kernel
theorem dX6_inverse_135 : decode cX6_inverse 135 = .ok (.iload 5, 2) := by decide +kernel
theorem dX6_inverse_137 : decode cX6_inverse 137 = .ok (.iload 4, 2) := by decide +kernel
theorem dX6_inverse_139 : decode cX6_inverse 139 = .ok (.iload 4, 2) := by decide +kernel
theorem dX6_inverse_141 : decode cX6_inverse 141 = .ok (.imul, 1) := by decide +kernel
theorem dX6_inverse_142 : decode cX6_inverse 142 = .ok (.if_icmp .ge 44, 3) := by decide +kernel
theorem dX6_inverse_145 : decode cX6_inverse 145 = .ok (.aload_n 0, 1) := by decide +kernel
theorem dX6_inverse_146 : decode cX6_inverse 146 = .ok (.getfield 21, 3) := by decide +kernel
theorem dX6_inverse_149 : decode cX6_inverse 149 = .ok (.getfield 109, 3) := by decide +kernel
theorem dX6_inverse_152 : decode cX6_inverse 152 = .ok (.ifCond .ne 34, 3) := by decide +kernel
theorem dX6_inverse_155 : decode cX6_inverse 155 = .ok (.aload_n 0, 1) := by decide +kernel
theorem dX6_inverse_156 : decode cX6_inverse 156 = .ok (.getfield 21, 3) := by decide +kernel
theorem dX6_inverse_159 : decode cX6_inverse 159 = .ok (.iload_n 3, 1) := by decide +kernel
theorem dX6_inverse_160 : decode cX6_inverse 160 = .ok (.ldc_w 275, 3) := by decide +kernel
theorem dX6_inverse_163 : decode cX6_inverse 163 = .ok (.iconst 2, 1) := by decide +kernel
theorem dX6_inverse_164 : decode cX6_inverse 164 = .ok (.iload 5, 2) := by decide +kernel
theorem dX6_inverse_166 : decode cX6_inverse 166 = .ok (.imul, 1) := by decide +kernel
theorem dX6_inverse_167 : decode cX6_inverse 167 = .ok (.iadd, 1) := by decide +kernel
theorem dX6_inverse_168 : decode cX6_inverse 168 = .ok (.ldc 239, 2) := by decide +kernel
theorem dX6_inverse_170 : decode cX6_inverse 170 = .ok (.ldc 157, 2) := by decide +kernel
theorem dX6_inverse_172 : decode cX6_inverse 172 = .ok (.iconst 2, 1) := by decide +kernel
theorem dX6_inverse_173 : decode cX6_inverse 173 = .ok (.iload 5, 2) := by decide +kernel
theorem dX6_inverse_175 : decode cX6_inverse 175 = .ok (.imul, 1) := by decide +kernel
theorem dX6_inverse_176 : decode cX6_inverse 176 = .ok (.iadd, 1) := by decide +kernel
theorem dX6_inverse_177 : decode cX6_inverse 177 = .ok (.invokevirtual 262, 3) := by decide +kernel
theorem dX6_inverse_180 : decode cX6_inverse 180 = .ok (.iinc 5 1, 3) := by decide +kernel
theorem dX6_inverse_183 : decode cX6_inverse 183 = .ok (.goto (-48), 3) := by decide +kernel
theorem dX6_inverse_186 : decode cX6_inverse 186 = .ok (.return_, 1) := by decide +kernel
/-! AlgebraHouse$Machine.inverse(II)V -/
def P_X6_inverse_35 (Q : Int → MM → Prop) (x1 : Int) (x2 : Int) (x3 : Int) (m : MM) : Prop := P_X8_unit x1 1156302 m (fun r1 m1 => (RI (m1 378 2)) ∧ (if (m1 378 2) = 0 then P_X8_by x3 1156302 x2 1155420 m1 (fun r2 m2 => Q 0 m2) else Q 0 m1))
def P_X6_inverse_135 (Q : Int → MM → Prop) : Nat → Int → Int → Int → MM → Prop
  | 0, _, _, _, _ => False
  | n + 1, x3, x4, x5, m => (RI x5) ∧ (RI (x4 * x4)) ∧ (if (x4 * x4) ≤ x5 then Q 0 m else (RI (m 378 2)) ∧ (if (m 378 2) = 0 then P_X8_by x3 (1157776 + (2 * x5)) 1156302 (1155420 + (2 * x5)) m (fun r1 m1 => P_X6_inverse_135 Q n x3 x4 (x5 + 1) m1) else Q 0 m))
def P_X6_inverse_110 (Q : Int → MM → Prop) (x1 : Int) (x2 : Int) (x3 : Int) (x4 : Int) (m : MM) : Prop := (RI (m 378 2)) ∧ (if (m 378 2) = 0 then P_X8_adjugate x1 x2 1157776 m (fun r1 m1 => ∃ nn, P_X6_inverse_135 Q nn x3 x4 0 m1) else ∃ nn, P_X6_inverse_135 Q nn x3 x4 0 m)
def P_X6_inverse (x1 : Int) (x2 : Int) (m : MM) (Q : Int → MM → Prop) : Prop := P_X11_base x1 m (fun r1 m1 => P_X11_size x1 m1 (fun r2 m2 => (RI r2) ∧ (if r2 = 0 then P_X8_isZero x2 m2 (fun r5 m6 => (RI r5) ∧ (if r5 = 0 then P_X6_inverse_35 Q x1 x2 r1 m6 else ∀ m7 : MM, m7 = up m6 378 2 2 → P_X6_inverse_35 Q x1 x2 r1 m7)) else P_X8_determinant x1 x2 1156302 m2 (fun r3 m3 => (RI (m3 378 2)) ∧ (if (m3 378 2) = 0 then P_X8_isZero 1156302 m3 (fun r4 m4 => (RI r4) ∧ (if r4 = 0 then P_X6_inverse_110 Q x1 x2 r1 r2 m4 else ∀ m5 : MM, m5 = up m4 378 2 5 → P_X6_inverse_110 Q x1 x2 r1 r2 m5)) else P_X6_inverse_110 Q x1 x2 r1 r2 m3)))))
theorem pl_X6_inverse_35 {f : Nat} {Q : Int → MM → Prop} {T : MM → Prop} (hf : 14 ≤ f) : ∀ (x1 : Int) (x2 : Int) (x3 : Int) (m : MM), P_X6_inverse_35 Q x1 x2 x3 m → B f M_X6_inverse 35 [vR 376, vI x1, vI x2, vI x3, vU, vU] [] m Q T := by
  intro x1 x2 x3 m h
  have h : P_X8_unit x1 1156302 m (fun r1 m1 => (RI (m1 378 2)) ∧ (if (m1 378 2) = 0 then P_X8_by x3 1156302 x2 1155420 m1 (fun r2 m2 => Q 0 m2) else Q 0 m1)) := h
  refine b_aload_n dX6_inverse_35 rfl ?_
  refine b_getR dX6_inverse_36 fk_X6_21 ly_376 gg_376_3 ?_
  refine b_iload_n dX6_inverse_39 rfl ?_
  refine b_ldc (1156302) dX6_inverse_40 q1368 (by decide) ?_
  refine b_cVv (as := [vI x1, vI 1156302]) (st := []) dX6_inverse_42 mf_X8_unit q1371 lk_X6_240 ly_378 rfl (p_X8_unit (f := 3) (Nat.le_refl _) _ _ _ h) (by omega) rfl rfl (Nat.le_of_ble_eq_true rfl) (by decide) rfl (fun _ => rfl) (fun r1 m1 h => ?_) (fun _ h => h)
  refine b_aload_n dX6_inverse_45 rfl ?_
  refine b_getR dX6_inverse_46 fk_X6_21 ly_376 gg_376_3 ?_
  refine b_getI dX6_inverse_49 fk_X6_109 ly_378 ?_
  obtain ⟨g1, h⟩ := h
  refine b_if_ne 68 dX6_inverse_52 g1 (by decide) (fun c1 => ?_) (fun c1 => ?_)
  · have h := ifF c1 h
    exact b_vret dX6_inverse_68 rfl h
  · have h := ifT (Decidable.of_not_not c1) h
    refine b_aload_n dX6_inverse_55 rfl ?_
    refine b_getR dX6_inverse_56 fk_X6_21 ly_376 gg_376_3 ?_
    refine b_iload_n dX6_inverse_59 rfl ?_
    refine b_ldc (1156302) dX6_inverse_60 q1368 (by decide) ?_
    refine b_iload_n dX6_inverse_62 rfl ?_
    refine b_ldc (1155420) dX6_inverse_63 q1374 (by decide) ?_
    refine b_cVv (as := [vI x3, vI 1156302, vI x2, vI 1155420]) (st := []) dX6_inverse_65 mf_X8_by q1458 lk_X6_262 ly_378 rfl (p_X8_by (f := 4) (Nat.le_refl _) _ _ _ _ _ h) (by omega) rfl rfl (Nat.le_of_ble_eq_true rfl) (by decide) rfl (fun _ => rfl) (fun r2 m2 h => ?_) (fun _ h => h)
    exact b_vret dX6_inverse_68 rfl h
theorem pl_X6_inverse_135 {f : Nat} {Q : Int → MM → Prop} {T : MM → Prop} (hf : 14 ≤ f) : ∀ (n : Nat) (x3 : Int) (x4 : Int) (x5 : Int) (m : MM), P_X6_inverse_135 Q n x3 x4 x5 m → B f M_X6_inverse 135 [vR 376, vU, vU, vI x3, vI x4, vI x5] [] m Q T := by
  intro n
  induction n with
  | zero => intro x3 x4 x5 m h; exact h.elim
  | succ n ih =>
    intro x3 x4 x5 m h
    have h : (RI x5) ∧ (RI (x4 * x4)) ∧ (if (x4 * x4) ≤ x5 then Q 0 m else (RI (m 378 2)) ∧ (if (m 378 2) = 0 then P_X8_by x3 (1157776 + (2 * x5)) 1156302 (1155420 + (2 * x5)) m (fun r1 m1 => P_X6_inverse_135 Q n x3 x4 (x5 + 1) m1) else Q 0 m)) := h
    refine b_iload dX6_inverse_135 rfl ?_
    refine b_iload dX6_inverse_137 rfl ?_
    refine b_iload dX6_inverse_139 rfl ?_
    refine b_imul dX6_inverse_141 ?_
    obtain ⟨g1, h⟩ := h
    obtain ⟨g2, h⟩ := h
    refine b_icmp_ge 186 dX6_inverse_142 g1 g2 (by decide) (fun c1 => ?_) (fun c1 => ?_)
    · have h := ifT c1 h
      exact b_vret dX6_inverse_186 rfl h
    · have h := ifF c1 h
      refine b_aload_n dX6_inverse_145 rfl ?_
      refine b_getR dX6_inverse_146 fk_X6_21 ly_376 gg_376_3 ?_
      refine b_getI dX6_inverse_149 fk_X6_109 ly_378 ?_
      obtain ⟨g3, h⟩ := h
      refine b_if_ne 186 dX6_inverse_152 g3 (by decide) (fun c2 => ?_) (fun c2 => ?_)
      · have h := ifF c2 h
        exact b_vret dX6_inverse_186 rfl h
      · have h := ifT (Decidable.of_not_not c2) h
        refine b_aload_n dX6_inverse_155 rfl ?_
        refine b_getR dX6_inverse_156 fk_X6_21 ly_376 gg_376_3 ?_
        refine b_iload_n dX6_inverse_159 rfl ?_
        refine b_ldcw (1157776) dX6_inverse_160 q1463 (by decide) ?_
        refine b_iconst dX6_inverse_163 ?_
        refine b_iload dX6_inverse_164 rfl ?_
        refine b_imul dX6_inverse_166 ?_
        refine b_iadd dX6_inverse_167 ?_
        refine b_ldc (1156302) dX6_inverse_168 q1368 (by decide) ?_
        refine b_ldc (1155420) dX6_inverse_170 q1374 (by decide) ?_
        refine b_iconst dX6_inverse_172 ?_
        refine b_iload dX6_inverse_173 rfl ?_
        refine b_imul dX6_inverse_175 ?_
        refine b_iadd dX6_inverse_176 ?_
        refine b_cVv (as := [vI x3, vI (1157776 + (2 * x5)), vI 1156302, vI (1155420 + (2 * x5))]) (st := []) dX6_inverse_177 mf_X8_by q1458 lk_X6_262 ly_378 rfl (p_X8_by (f := 4) (Nat.le_refl _) _ _ _ _ _ h) (by omega) rfl rfl (Nat.le_of_ble_eq_true rfl) (by decide) rfl (fun _ => rfl) (fun r1 m1 h => ?_) (fun _ h => h)
        refine b_iinc (ls' := [vR 376, vU, vU, vI x3, vI x4, vI (x5 + 1)]) dX6_inverse_180 rfl rfl ?_
        refine b_goto 135 dX6_inverse_183 (by decide) ?_
        exact ih _ _ _ _ h
theorem pl_X6_inverse_110 {f : Nat} {Q : Int → MM → Prop} {T : MM → Prop} (hf : 14 ≤ f) : ∀ (x1 : Int) (x2 : Int) (x3 : Int) (x4 : Int) (m : MM), P_X6_inverse_110 Q x1 x2 x3 x4 m → B f M_X6_inverse 110 [vR 376, vI x1, vI x2, vI x3, vI x4, vU] [] m Q T := by
  intro x1 x2 x3 x4 m h
  have h : (RI (m 378 2)) ∧ (if (m 378 2) = 0 then P_X8_adjugate x1 x2 1157776 m (fun r1 m1 => ∃ nn, P_X6_inverse_135 Q nn x3 x4 0 m1) else ∃ nn, P_X6_inverse_135 Q nn x3 x4 0 m) := h
  refine b_aload_n dX6_inverse_110 rfl ?_
  refine b_getR dX6_inverse_111 fk_X6_21 ly_376 gg_376_3 ?_
  refine b_getI dX6_inverse_114 fk_X6_109 ly_378 ?_
  obtain ⟨g1, h⟩ := h
  refine b_if_ne 132 dX6_inverse_117 g1 (by decide) (fun c1 => ?_) (fun c1 => ?_)
  · have h := ifF c1 h
    refine b_iconst dX6_inverse_132 ?_
    refine b_istore (ls' := [vR 376, vI x1, vI x2, vI x3, vI x4, vI 0]) dX6_inverse_133 (Nat.le_of_ble_eq_true rfl) rfl ?_
    refine b_fgt [true, false, false, true, true, true] (ls' := [vR 376, vU, vU, vI x3, vI x4, vI 0]) rfl rfl ?_
    obtain ⟨nn, h⟩ := h
    exact pl_X6_inverse_135 hf nn _ _ _ _ h
  · have h := ifT (Decidable.of_not_not c1) h
    refine b_aload_n dX6_inverse_120 rfl ?_
    refine b_getR dX6_inverse_121 fk_X6_21 ly_376 gg_376_3 ?_
    refine b_iload_n dX6_inverse_124 rfl ?_
    refine b_iload_n dX6_inverse_125 rfl ?_
    refine b_ldcw (1157776) dX6_inverse_126 q1463 (by decide) ?_
    refine b_cVv (as := [vI x1, vI x2, vI 1157776]) (st := []) dX6_inverse_129 mf_X8_adjugate q1505 lk_X6_310 ly_378 rfl (p_X8_adjugate (f := 13) (Nat.le_refl _) _ _ _ _ h) (by omega) rfl rfl (Nat.le_of_ble_eq_true rfl) (by decide) rfl (fun _ => rfl) (fun r1 m1 h => ?_) (fun _ h => h)
    refine b_iconst dX6_inverse_132 ?_
    refine b_istore (ls' := [vR 376, vI x1, vI x2, vI x3, vI x4, vI 0]) dX6_inverse_133 (Nat.le_of_ble_eq_true rfl) rfl ?_
    refine b_fgt [true, false, false, true, true, true] (ls' := [vR 376, vU, vU, vI x3, vI x4, vI 0]) rfl rfl ?_
    obtain ⟨nn, h⟩ := h
    exact pl_X6_inverse_135 hf nn _ _ _ _ h
theorem p_X6_inverse {f : Nat} {Q : Int → MM → Prop} {T : MM → Prop} (hf : 14 ≤ f) (x1 : Int) (x2 : Int) (m : MM) (h : P_X6_inverse x1 x2 m Q) : CC f M_X6_inverse [vR 376, vI x1, vI x2] m Q T := by
  refine CC.of (plainFor_of_name (by decide)) (Nat.le_of_ble_eq_true rfl) (ls := [vR 376, vI x1, vI x2, vU, vU, vU]) rfl ?_
  have h : P_X11_base x1 m (fun r1 m1 => P_X11_size x1 m1 (fun r2 m2 => (RI r2) ∧ (if r2 = 0 then P_X8_isZero x2 m2 (fun r5 m6 => (RI r5) ∧ (if r5 = 0 then P_X6_inverse_35 Q x1 x2 r1 m6 else ∀ m7 : MM, m7 = up m6 378 2 2 → P_X6_inverse_35 Q x1 x2 r1 m7)) else P_X8_determinant x1 x2 1156302 m2 (fun r3 m3 => (RI (m3 378 2)) ∧ (if (m3 378 2) = 0 then P_X8_isZero 1156302 m3 (fun r4 m4 => (RI r4) ∧ (if r4 = 0 then P_X6_inverse_110 Q x1 x2 r1 r2 m4 else ∀ m5 : MM, m5 = up m4 378 2 5 → P_X6_inverse_110 Q x1 x2 r1 r2 m5)) else P_X6_inverse_110 Q x1 x2 r1 r2 m3))))) := h
  refine b_iload_n dX6_inverse_0 rfl ?_
  refine b_cSi (as := [vI x1]) (st := []) dX6_inverse_1 mf_X11_base lk_X6_197 (p_X11_base (f := 1) (Nat.le_refl _) _ _ h) (by omega) rfl rfl (Nat.le_of_ble_eq_true rfl) (by decide) rfl (fun _ => rfl) (fun r1 m1 h => ?_) (fun _ h => h)
  refine b_istore_n (ls' := [vR 376, vI x1, vI x2, vI r1, vU, vU]) dX6_inverse_4 (Nat.le_of_ble_eq_true rfl) rfl ?_
  refine b_iload_n dX6_inverse_5 rfl ?_
  refine b_cSi (as := [vI x1]) (st := []) dX6_inverse_6 mf_X11_size lk_X6_336 (p_X11_size (f := 1) (Nat.le_refl _) _ _ h) (by omega) rfl rfl (Nat.le_of_ble_eq_true rfl) (by decide) rfl (fun _ => rfl) (fun r2 m2 h => ?_) (fun _ h => h)
  refine b_istore (ls' := [vR 376, vI x1, vI x2, vI r1, vI r2, vU]) dX6_inverse_9 (Nat.le_of_ble_eq_true rfl) rfl ?_
  refine b_iload dX6_inverse_11 rfl ?_
  obtain ⟨g1, h⟩ := h
  refine b_if_ne 69 dX6_inverse_13 g1 (by decide) (fun c1 => ?_) (fun c1 => ?_)
  · have h := ifF c1 h
    refine b_aload_n dX6_inverse_69 rfl ?_
    refine b_getR dX6_inverse_70 fk_X6_21 ly_376 gg_376_3 ?_
    refine b_iload_n dX6_inverse_73 rfl ?_
    refine b_iload_n dX6_inverse_74 rfl ?_
    refine b_ldc (1156302) dX6_inverse_75 q1368 (by decide) ?_
    refine b_cVv (as := [vI x1, vI x2, vI 1156302]) (st := []) dX6_inverse_77 mf_X8_determinant q1481 lk_X6_301 ly_378 rfl (p_X8_determinant (f := 13) (Nat.le_refl _) _ _ _ _ h) (by omega) rfl rfl (Nat.le_of_ble_eq_true rfl) (by decide) rfl (fun _ => rfl) (fun r3 m3 h => ?_) (fun _ h => h)
    refine b_aload_n dX6_inverse_80 rfl ?_
    refine b_getR dX6_inverse_81 fk_X6_21 ly_376 gg_376_3 ?_
    refine b_getI dX6_inverse_84 fk_X6_109 ly_378 ?_
    obtain ⟨g2, h⟩ := h
    refine b_if_ne 110 dX6_inverse_87 g2 (by decide) (fun c2 => ?_) (fun c2 => ?_)
    · have h := ifF c2 h
      exact pl_X6_inverse_110 hf _ _ _ _ _ h
    · have h := ifT (Decidable.of_not_not c2) h
      refine b_aload_n dX6_inverse_90 rfl ?_
      refine b_getR dX6_inverse_91 fk_X6_21 ly_376 gg_376_3 ?_
      refine b_ldc (1156302) dX6_inverse_94 q1368 (by decide) ?_
      refine b_cVi (as := [vI 1156302]) (st := []) dX6_inverse_96 mf_X8_isZero q1420 lk_X6_259 ly_378 rfl (p_X8_isZero (f := 1) (Nat.le_refl _) _ _ h) (by omega) rfl rfl (Nat.le_of_ble_eq_true rfl) (by decide) rfl (fun _ => rfl) (fun r4 m4 h => ?_) (fun _ h => h)
      obtain ⟨g3, h⟩ := h
      refine b_if_eq 110 dX6_inverse_99 g3 (by decide) (fun c3 => ?_) (fun c3 => ?_)
      · have h := ifT c3 h
        exact pl_X6_inverse_110 hf _ _ _ _ _ h
      · have h := ifF c3 h
        refine b_aload_n dX6_inverse_102 rfl ?_
        refine b_getR dX6_inverse_103 fk_X6_21 ly_376 gg_376_3 ?_
        refine b_iconst dX6_inverse_106 ?_
        refine b_putI dX6_inverse_107 fk_X6_109 ly_378 (fun m5 em5 => ?_)
        have h := h m5 em5
        exact pl_X6_inverse_110 hf _ _ _ _ _ h
  · have h := ifT (Decidable.of_not_not c1) h
    refine b_aload_n dX6_inverse_16 rfl ?_
    refine b_getR dX6_inverse_17 fk_X6_21 ly_376 gg_376_3 ?_
    refine b_iload_n dX6_inverse_20 rfl ?_
    refine b_cVi (as := [vI x2]) (st := []) dX6_inverse_21 mf_X8_isZero q1420 lk_X6_259 ly_378 rfl (p_X8_isZero (f := 1) (Nat.le_refl _) _ _ h) (by omega) rfl rfl (Nat.le_of_ble_eq_true rfl) (by decide) rfl (fun _ => rfl) (fun r5 m6 h => ?_) (fun _ h => h)
    obtain ⟨g4, h⟩ := h
    refine b_if_eq 35 dX6_inverse_24 g4 (by decide) (fun c4 => ?_) (fun c4 => ?_)
    · have h := ifT c4 h
      refine b_fgt [true, true, true, true, false, false] (ls' := [vR 376, vI x1, vI x2, vI r1, vU, vU]) rfl rfl ?_
      exact pl_X6_inverse_35 hf _ _ _ _ h
    · have h := ifF c4 h
      refine b_aload_n dX6_inverse_27 rfl ?_
      refine b_getR dX6_inverse_28 fk_X6_21 ly_376 gg_376_3 ?_
      refine b_iconst dX6_inverse_31 ?_
      refine b_putI dX6_inverse_32 fk_X6_109 ly_378 (fun m7 em7 => ?_)
      have h := h m7 em7
      refine b_fgt [true, true, true, true, false, false] (ls' := [vR 376, vI x1, vI x2, vI r1, vU, vU]) rfl rfl ?_
      exact pl_X6_inverse_35 hf _ _ _ _ h
theorem dX6_made_0 : decode cX6_made 0 = .ok (.aload_n 0, 1) := by decide +kernel
theorem dX6_made_1 : decode cX6_made 1 = .ok (.dup, 1) := by decide +kernel
theorem dX6_made_2 : decode cX6_made 2 = .ok (.getfield 112, 3) := by decide +kernel
theorem dX6_made_5 : decode cX6_made 5 = .ok (.iload_n 2, 1) := by decide +kernel
theorem dX6_made_6 : decode cX6_made 6 = .ok (.isub, 1) := by decide +kernel
theorem dX6_made_7 : decode cX6_made 7 = .ok (.putfield 112, 3) := by decide +kernel
theorem dX6_made_10 : decode cX6_made 10 = .ok (.aload_n 0, 1) := by decide +kernel
theorem dX6_made_11 : decode cX6_made 11 = .ok (.getfield 31, 3) := by decide +kernel
theorem dX6_made_14 : decode cX6_made 14 = .ok (.aload_n 0, 1) := by decide +kernel
theorem dX6_made_15 : decode cX6_made 15 = .ok (.getfield 112, 3) := by decide +kernel
theorem dX6_made_18 : decode cX6_made 18 = .ok (.iaload, 1) := by decide +kernel
theorem dX6_made_19 : decode cX6_made 19 = .ok (.istore_n 3, 1) := by decide +kernel
theorem dX6_made_20 : decode cX6_made 20 = .ok (.aload_n 0, 1) := by decide +kernel
theorem dX6_made_21 : decode cX6_made 21 = .ok (.getfield 21, 3) := by decide +kernel
theorem dX6_made_24 : decode cX6_made 24 = .ok (.ldc 157, 2) := by decide +kernel
theorem dX6_made_26 : decode cX6_made 26 = .ok (.iload_n 3, 1) := by decide +kernel
theorem dX6_made_27 : decode cX6_made 27 = .ok (.iload_n 1, 1) := by decide +kernel
theorem dX6_made_28 : decode cX6_made 28 = .ok (.bipush (-2), 2) := by decide +kernel
theorem dX6_made_30 : decode cX6_made 30 = .ok (.if_icmp .ne 7, 3) := by decide +kernel
theorem dX6_made_33 : decode cX6_made 33 = .ok (.iconst 1, 1) := by decide +kernel
theorem dX6_made_34 : decode cX6_made 34 = .ok (.goto 8, 3) := by decide +kernel
theorem dX6_made_37 : decode cX6_made 37 = .ok (.aload_n 0, 1) := by decide +kernel
theorem dX6_made_38 : decode cX6_made 38 = .ok (.iload_n 1, 1) := by decide +kernel
theorem dX6_made_39 : decode cX6_made 39 = .ok (.invokevirtual 158, 3) := by decide +kernel
theorem dX6_made_42 : decode cX6_made 42 = .ok (.invokevirtual 161, 3) := by decide +kernel
theorem dX6_made_45 : decode cX6_made 45 = .ok (.aload_n 0, 1) := by decide +kernel
theorem dX6_made_46 : decode cX6_made 46 = .ok (.dup, 1) := by decide +kernel
theorem dX6_made_47 : decode cX6_made 47 = .ok (.getfield 112, 3) := by decide +kernel
theorem dX6_made_50 : decode cX6_made 50 = .ok (.iconst 1, 1) := by decide +kernel
theorem dX6_made_51 : decode cX6_made 51 = .ok (.iadd, 1) := by decide +kernel
theorem dX6_made_52 : decode cX6_made 52 = .ok (.putfield 112, 3) := by decide +kernel
theorem dX6_made_55 : decode cX6_made 55 = .ok (.aload_n 0, 1) := by decide +kernel
theorem dX6_made_56 : decode cX6_made 56 = .ok (.getfield 31, 3) := by decide +kernel
theorem dX6_made_59 : decode cX6_made 59 = .ok (.aload_n 0, 1) := by decide +kernel
theorem dX6_made_60 : decode cX6_made 60 = .ok (.getfield 112, 3) := by decide +kernel
theorem dX6_made_63 : decode cX6_made 63 = .ok (.iload_n 3, 1) := by decide +kernel
theorem dX6_made_64 : decode cX6_made 64 = .ok (.iload_n 1, 1) := by decide +kernel
theorem dX6_made_65 : decode cX6_made 65 = .ok (.invokestatic 164, 3) := by decide +kernel
theorem dX6_made_68 : decode cX6_made 68 = .ok (.iadd, 1) := by decide +kernel
theorem dX6_made_69 : decode cX6_made 69 = .ok (.iastore, 1) := by decide +kernel
theorem dX6_made_70 : decode cX6_made 70 = .ok (.return_, 1) := by decide +kernel
/-! AlgebraHouse$Machine.made(II)V -/
def P_X6_made_42 (Q : Int → MM → Prop) (x1 : Int) (x3 : Int) (s1 : Int) (s2 : Int) (s3 : Int) (m : MM) : Prop := P_X8_copy s1 s2 s3 m (fun r1 m1 => ∀ m2 : MM, m2 = up m1 376 8 ((m1 376 8) + 1) → P_X11_cells x1 m2 (fun r2 m3 => (0 ≤ (m2 376 8) ∧ (m2 376 8) < 1701) ∧ ∀ m4 : MM, m4 = up m3 381 (m2 376 8) (x3 + r2) → Q 0 m4))
def P_X6_made (x1 : Int) (x2 : Int) (m : MM) (Q : Int → MM → Prop) : Prop := ∀ m1 : MM, m1 = up m 376 8 ((m 376 8) - x2) → (0 ≤ (m1 376 8) ∧ (m1 376 8) < 1701) ∧ (RI x1) ∧ (if x1 = (-2) then P_X6_made_42 Q x1 (m1 381 (m1 376 8)) 1155420 (m1 381 (m1 376 8)) 1 m1 else P_X6_number x1 m1 (fun r1 m2 => P_X6_made_42 Q x1 (m1 381 (m1 376 8)) 1155420 (m1 381 (m1 376 8)) r1 m2))
theorem pl_X6_made_42 {f : Nat} {Q : Int → MM → Prop} {T : MM → Prop} (hf : 4 ≤ f) : ∀ (x1 : Int) (x3 : Int) (s1 : Int) (s2 : Int) (s3 : Int) (m : MM), P_X6_made_42 Q x1 x3 s1 s2 s3 m → B f M_X6_made 42 [vR 376, vI x1, vU, vI x3] [vI s3, vI s2, vI s1, vR 378] m Q T := by
  intro x1 x3 s1 s2 s3 m h
  have h : P_X8_copy s1 s2 s3 m (fun r1 m1 => ∀ m2 : MM, m2 = up m1 376 8 ((m1 376 8) + 1) → P_X11_cells x1 m2 (fun r2 m3 => (0 ≤ (m2 376 8) ∧ (m2 376 8) < 1701) ∧ ∀ m4 : MM, m4 = up m3 381 (m2 376 8) (x3 + r2) → Q 0 m4)) := h
  refine b_cVv (as := [vI s1, vI s2, vI s3]) (st := []) dX6_made_42 mf_X8_copy q1320 lk_X6_161 ly_378 rfl (p_X8_copy (f := 2) (Nat.le_refl _) _ _ _ _ h) (by omega) rfl rfl (Nat.le_of_ble_eq_true rfl) (by decide) rfl (fun _ => rfl) (fun r1 m1 h => ?_) (fun _ h => h)
  refine b_aload_n dX6_made_45 rfl ?_
  refine b_dup dX6_made_46 rfl ?_
  refine b_getI dX6_made_47 fk_X6_112 ly_376 ?_
  refine b_iconst dX6_made_50 ?_
  refine b_iadd dX6_made_51 ?_
  refine b_putI dX6_made_52 fk_X6_112 ly_376 (fun m2 em2 => ?_)
  have h := h m2 em2
  refine b_aload_n dX6_made_55 rfl ?_
  refine b_getR dX6_made_56 fk_X6_31 ly_376 gg_376_7 ?_
  refine b_aload_n dX6_made_59 rfl ?_
  refine b_getI dX6_made_60 fk_X6_112 ly_376 ?_
  refine b_iload_n dX6_made_63 rfl ?_
  refine b_iload_n dX6_made_64 rfl ?_
  refine b_cSi (as := [vI x1]) (st := [vI x3, vI (m2 376 8), vR 381]) dX6_made_65 mf_X11_cells lk_X6_164 (p_X11_cells (f := 3) (Nat.le_refl _) _ _ h) (by omega) rfl rfl (Nat.le_of_ble_eq_true rfl) (by decide) rfl (fun _ => rfl) (fun r2 m3 h => ?_) (fun _ h => h)
  refine b_iadd dX6_made_68 ?_
  obtain ⟨g1, h⟩ := h
  refine b_iast dX6_made_69 ly_381 g1 (fun m4 em4 => ?_)
  have h := h m4 em4
  exact b_vret dX6_made_70 rfl h
theorem p_X6_made {f : Nat} {Q : Int → MM → Prop} {T : MM → Prop} (hf : 4 ≤ f) (x1 : Int) (x2 : Int) (m : MM) (h : P_X6_made x1 x2 m Q) : CC f M_X6_made [vR 376, vI x1, vI x2] m Q T := by
  refine CC.of (plainFor_of_name (by decide)) (Nat.le_of_ble_eq_true rfl) (ls := [vR 376, vI x1, vI x2, vU]) rfl ?_
  have h : ∀ m1 : MM, m1 = up m 376 8 ((m 376 8) - x2) → (0 ≤ (m1 376 8) ∧ (m1 376 8) < 1701) ∧ (RI x1) ∧ (if x1 = (-2) then P_X6_made_42 Q x1 (m1 381 (m1 376 8)) 1155420 (m1 381 (m1 376 8)) 1 m1 else P_X6_number x1 m1 (fun r1 m2 => P_X6_made_42 Q x1 (m1 381 (m1 376 8)) 1155420 (m1 381 (m1 376 8)) r1 m2)) := h
  refine b_aload_n dX6_made_0 rfl ?_
  refine b_dup dX6_made_1 rfl ?_
  refine b_getI dX6_made_2 fk_X6_112 ly_376 ?_
  refine b_iload_n dX6_made_5 rfl ?_
  refine b_isub dX6_made_6 ?_
  refine b_putI dX6_made_7 fk_X6_112 ly_376 (fun m1 em1 => ?_)
  have h := h m1 em1
  refine b_aload_n dX6_made_10 rfl ?_
  refine b_getR dX6_made_11 fk_X6_31 ly_376 gg_376_7 ?_
  refine b_aload_n dX6_made_14 rfl ?_
  refine b_getI dX6_made_15 fk_X6_112 ly_376 ?_
  obtain ⟨g1, h⟩ := h
  refine b_iald dX6_made_18 ly_381 g1 ?_
  refine b_istore_n (ls' := [vR 376, vI x1, vI x2, vI (m1 381 (m1 376 8))]) dX6_made_19 (Nat.le_of_ble_eq_true rfl) rfl ?_
  refine b_aload_n dX6_made_20 rfl ?_
  refine b_getR dX6_made_21 fk_X6_21 ly_376 gg_376_3 ?_
  refine b_ldc (1155420) dX6_made_24 q1374 (by decide) ?_
  refine b_iload_n dX6_made_26 rfl ?_
  refine b_iload_n dX6_made_27 rfl ?_
  refine b_bipush dX6_made_28 (by decide) ?_
  obtain ⟨g2, h⟩ := h
  refine b_icmp_ne 37 dX6_made_30 g2 (by decide) (by decide) (fun c1 => ?_) (fun c1 => ?_)
  · have h := ifF c1 h
    refine b_aload_n dX6_made_37 rfl ?_
    refine b_iload_n dX6_made_38 rfl ?_
    refine b_cVi (as := [vI x1]) (st := [vI (m1 381 (m1 376 8)), vI 1155420, vR 378]) dX6_made_39 mf_X6_number qs69 lk_X6_158 ly_376 rfl (p_X6_number (f := 3) (Nat.le_refl _) _ _ h) (by omega) rfl rfl (Nat.le_of_ble_eq_true rfl) (by decide) rfl (fun _ => rfl) (fun r1 m2 h => ?_) (fun _ h => h)
    refine b_fgt [true, true, false, true] (ls' := [vR 376, vI x1, vU, vI (m1 381 (m1 376 8))]) rfl rfl ?_
    exact pl_X6_made_42 hf _ _ _ _ _ _ h
  · have h := ifT (Decidable.of_not_not c1) h
    refine b_iconst dX6_made_33 ?_
    refine b_goto 42 dX6_made_34 (by decide) ?_
    refine b_fgt [true, true, false, true] (ls' := [vR 376, vI x1, vU, vI (m1 381 (m1 376 8))]) rfl rfl ?_
    exact pl_X6_made_42 hf _ _ _ _ _ _ h
theorem dX6_high_0 : decode cX6_high 0 = .ok (.bipush 6, 2) := by decide +kernel
theorem dX6_high_2 : decode cX6_high 2 = .ok (.istore_n 1, 1) := by decide +kernel
theorem dX6_high_3 : decode cX6_high 3 = .ok (.iload_n 1, 1) := by decide +kernel
theorem dX6_high_4 : decode cX6_high 4 = .ok (.ifCond .lt 15, 3) := by decide +kernel
theorem dX6_high_7 : decode cX6_high 7 = .ok (.aload_n 0, 1) := by decide +kernel
theorem dX6_high_8 : decode cX6_high 8 = .ok (.iload_n 1, 1) := by decide +kernel
theorem dX6_high_9 : decode cX6_high 9 = .ok (.iaload, 1) := by decide +kernel
theorem dX6_high_10 : decode cX6_high 10 = .ok (.ifCond .ne 9, 3) := by decide +kernel
theorem dX6_high_13 : decode cX6_high 13 = .ok (.iinc 1 (-1), 3) := by decide +kernel
theorem dX6_high_16 : decode cX6_high 16 = .ok (.goto (-13), 3) := by decide +kernel
theorem dX6_high_19 : decode cX6_high 19 = .ok (.iload_n 1, 1) := by decide +kernel
theorem dX6_high_20 : decode cX6_high 20 = .ok (.ireturn, 1) := by decide +kernel
/-! AlgebraHouse$Machine.high([I)I -/
def P_X6_high_3 (Q : Int → MM → Prop) : Nat → Int → Int → MM → Prop
  | 0, _, _, _ => False
  | n + 1, x0, x1, m => (RI x1) ∧ (if x1 < 0 then Q x1 m else (inI x0 x1) ∧ (RI (m x0 x1)) ∧ (if (m x0 x1) = 0 then P_X6_high_3 Q n x0 (x1 + (-1)) m else Q x1 m))
def P_X6_high (x0 : Int) (m : MM) (Q : Int → MM → Prop) : Prop := ∃ nn, P_X6_high_3 Q nn x0 6 m
theorem pl_X6_high_3 {f : Nat} {Q : Int → MM → Prop} {T : MM → Prop} (hf : 1 ≤ f) : ∀ (n : Nat) (x0 : Int) (x1 : Int) (m : MM), P_X6_high_3 Q n x0 x1 m → B f M_X6_high 3 [vR x0, vI x1] [] m Q T := by
  intro n
  induction n with
  | zero => intro x0 x1 m h; exact h.elim
  | succ n ih =>
    intro x0 x1 m h
    have h : (RI x1) ∧ (if x1 < 0 then Q x1 m else (inI x0 x1) ∧ (RI (m x0 x1)) ∧ (if (m x0 x1) = 0 then P_X6_high_3 Q n x0 (x1 + (-1)) m else Q x1 m)) := h
    refine b_iload_n dX6_high_3 rfl ?_
    obtain ⟨g1, h⟩ := h
    refine b_if_lt 19 dX6_high_4 g1 (by decide) (fun c1 => ?_) (fun c1 => ?_)
    · have h := ifT c1 h
      refine b_iload_n dX6_high_19 rfl ?_
      exact b_iret dX6_high_20 rfl h
    · have h := ifF c1 h
      refine b_aload_n dX6_high_7 rfl ?_
      refine b_iload_n dX6_high_8 rfl ?_
      obtain ⟨g2, h⟩ := h
      refine b_ialdX dX6_high_9 g2 ?_
      obtain ⟨g3, h⟩ := h
      refine b_if_ne 19 dX6_high_10 g3 (by decide) (fun c2 => ?_) (fun c2 => ?_)
      · have h := ifF c2 h
        refine b_iload_n dX6_high_19 rfl ?_
        exact b_iret dX6_high_20 rfl h
      · have h := ifT (Decidable.of_not_not c2) h
        refine b_iinc (ls' := [vR x0, vI (x1 + (-1))]) dX6_high_13 rfl rfl ?_
        refine b_goto 3 dX6_high_16 (by decide) ?_
        exact ih _ _ _ h
theorem p_X6_high {f : Nat} {Q : Int → MM → Prop} {T : MM → Prop} (hf : 1 ≤ f) (x0 : Int) (m : MM) (h : P_X6_high x0 m Q) : CC f M_X6_high [vR x0] m Q T := by
  refine CC.of (plainFor_of_name (by decide)) (Nat.le_of_ble_eq_true rfl) (ls := [vR x0, vU]) rfl ?_
  have h : ∃ nn, P_X6_high_3 Q nn x0 6 m := h
  refine b_bipush dX6_high_0 (by decide) ?_
  refine b_istore_n (ls' := [vR x0, vI 6]) dX6_high_2 (Nat.le_of_ble_eq_true rfl) rfl ?_
  obtain ⟨nn, h⟩ := h
  exact pl_X6_high_3 hf nn _ _ _ h
theorem dX6_reduce_0 : decode cX6_reduce 0 = .ok (.aload_n 2, 1) := by decide +kernel
theorem dX6_reduce_1 : decode cX6_reduce 1 = .ok (.iload_n 3, 1) := by decide +kernel
theorem dX6_reduce_2 : decode cX6_reduce 2 = .ok (.iaload, 1) := by decide +kernel
theorem dX6_reduce_3 : decode cX6_reduce 3 = .ok (.iload 4, 2) := by decide +kernel
theorem dX6_reduce_5 : decode cX6_reduce 5 = .ok (.invokestatic 350, 3) := by decide +kernel
theorem dX6_reduce_8 : decode cX6_reduce 8 = .ok (.istore 5, 2) := by decide +kernel
theorem dX6_reduce_10 : decode cX6_reduce 10 = .ok (.iload_n 1, 1) := by decide +kernel
theorem dX6_reduce_11 : decode cX6_reduce 11 = .ok (.istore 6, 2) := by decide +kernel
theorem dX6_reduce_13 : decode cX6_reduce 13 = .ok (.iload 6, 2) := by decide +kernel
theorem dX6_reduce_15 : decode cX6_reduce 15 = .ok (.iload_n 3, 1) := by decide +kernel
theorem dX6_reduce_16 : decode cX6_reduce 16 = .ok (.if_icmp .lt 68, 3) := by decide +kernel
theorem dX6_reduce_19 : decode cX6_reduce 19 = .ok (.aload_n 0, 1) := by decide +kernel
theorem dX6_reduce_20 : decode cX6_reduce 20 = .ok (.iload 6, 2) := by decide +kernel
theorem dX6_reduce_22 : decode cX6_reduce 22 = .ok (.iaload, 1) := by decide +kernel
theorem dX6_reduce_23 : decode cX6_reduce 23 = .ok (.iload 5, 2) := by decide +kernel
theorem dX6_reduce_25 : decode cX6_reduce 25 = .ok (.imul, 1) := by decide +kernel
theorem dX6_reduce_26 : decode cX6_reduce 26 = .ok (.iload 4, 2) := by decide +kernel
theorem dX6_reduce_28 : decode cX6_reduce 28 = .ok (.irem, 1) := by decide +kernel
theorem dX6_reduce_29 : decode cX6_reduce 29 = .ok (.istore 7, 2) := by decide +kernel
theorem dX6_reduce_31 : decode cX6_reduce 31 = .ok (.iconst 0, 1) := by decide +kernel
theorem dX6_reduce_32 : decode cX6_reduce 32 = .ok (.istore 8, 2) := by decide +kernel
theorem dX6_reduce_34 : decode cX6_reduce 34 = .ok (.iload 8, 2) := by decide +kernel
theorem dX6_reduce_36 : decode cX6_reduce 36 = .ok (.iload_n 3, 1) := by decide +kernel
theorem dX6_reduce_37 : decode cX6_reduce 37 = .ok (.if_icmp .gt 41, 3) := by decide +kernel
theorem dX6_reduce_40 : decode cX6_reduce 40 = .ok (.aload_n 0, 1) := by decide +kernel
theorem dX6_reduce_41 : decode cX6_reduce 41 = .ok (.iload 6, 2) := by decide +kernel
theorem dX6_reduce_43 : decode cX6_reduce 43 = .ok (.iload_n 3, 1) := by decide +kernel
theorem dX6_reduce_44 : decode cX6_reduce 44 = .ok (.isub, 1) := by decide +kernel
theorem dX6_reduce_45 : decode cX6_reduce 45 = .ok (.iload 8, 2) := by decide +kernel
theorem dX6_reduce_47 : decode cX6_reduce 47 = .ok (.iadd, 1) := by decide +kernel
theorem dX6_reduce_48 : decode cX6_reduce 48 = .ok (.aload_n 0, 1) := by decide +kernel
theorem dX6_reduce_49 : decode cX6_reduce 49 = .ok (.iload 6, 2) := by decide +kernel
theorem dX6_reduce_51 : decode cX6_reduce 51 = .ok (.iload_n 3, 1) := by decide +kernel
theorem dX6_reduce_52 : decode cX6_reduce 52 = .ok (.isub, 1) := by decide +kernel
theorem dX6_reduce_53 : decode cX6_reduce 53 = .ok (.iload 8, 2) := by decide +kernel
theorem dX6_reduce_55 : decode cX6_reduce 55 = .ok (.iadd, 1) := by decide +kernel
theorem dX6_reduce_56 : decode cX6_reduce 56 = .ok (.iaload, 1) := by decide +kernel
theorem dX6_reduce_57 : decode cX6_reduce 57 = .ok (.iload 4, 2) := by decide +kernel
theorem dX6_reduce_59 : decode cX6_reduce 59 = .ok (.iload 7, 2) := by decide +kernel
theorem dX6_reduce_61 : decode cX6_reduce 61 = .ok (.isub, 1) := by decide +kernel
theorem dX6_reduce_62 : decode cX6_reduce 62 = .ok (.aload_n 2, 1) := by decide +kernel
theorem dX6_reduce_63 : decode cX6_reduce 63 = .ok (.iload 8, 2) := by decide +kernel
theorem dX6_reduce_65 : decode cX6_reduce 65 = .ok (.iaload, 1) := by decide +kernel
theorem dX6_reduce_66 : decode cX6_reduce 66 = .ok (.imul, 1) := by decide +kernel
theorem dX6_reduce_67 : decode cX6_reduce 67 = .ok (.iadd, 1) := by decide +kernel
theorem dX6_reduce_68 : decode cX6_reduce 68 = .ok (.iload 4, 2) := by decide +kernel
theorem dX6_reduce_70 : decode cX6_reduce 70 = .ok (.irem, 1) := by decide +kernel
theorem dX6_reduce_71 : decode cX6_reduce 71 = .ok (.iastore, 1) := by decide +kernel
theorem dX6_reduce_72 : decode cX6_reduce 72 = .ok (.iinc 8 1, 3) := by decide +kernel
theorem dX6_reduce_75 : decode cX6_reduce 75 = .ok (.goto (-41), 3) := by decide +kernel
theorem dX6_reduce_78 : decode cX6_reduce 78 = .ok (.iinc 6 (-1), 3) := by decide +kernel
theorem dX6_reduce_81 : decode cX6_reduce 81 = .ok (.goto (-68), 3) := by decide +kernel
theorem dX6_reduce_84 : decode cX6_reduce 84 = .ok (.return_, 1) := by decide +kernel
/-! AlgebraHouse$Machine.reduce([II[III)V -/
def P_X6_reduce_34 (Q : Int → MM → Prop) (K13 : Int → Int → Int → Int → Int → Int → MM → Prop) : Nat → Int → Int → Int → Int → Int → Int → Int → Int → MM → Prop
  | 0, _, _, _, _, _, _, _, _, _ => False
  | n + 1, x0, x2, x3, x4, x5, x6, x7, x8, m => (RI x8) ∧ (RI x3) ∧ (if x3 < x8 then K13 x0 x2 x3 x4 x5 (x6 + (-1)) m else (inI x0 ((x6 - x3) + x8)) ∧ (inI x2 x8) ∧ (RI ((m x0 ((x6 - x3) + x8)) + ((x4 - x7) * (m x2 x8)))) ∧ (RI x4) ∧ (x4 ≠ 0) ∧ ∀ m1 : MM, m1 = up m x0 ((x6 - x3) + x8) (Int.tmod ((m x0 ((x6 - x3) + x8)) + ((x4 - x7) * (m x2 x8))) x4) → P_X6_reduce_34 Q K13 n x0 x2 x3 x4 x5 x6 x7 (x8 + 1) m1)
def P_X6_reduce_13 (Q : Int → MM → Prop) : Nat → Int → Int → Int → Int → Int → Int → MM → Prop
  | 0, _, _, _, _, _, _, _ => False
  | n + 1, x0, x2, x3, x4, x5, x6, m => (RI x6) ∧ (RI x3) ∧ (if x6 < x3 then Q 0 m else (inI x0 x6) ∧ (RI ((m x0 x6) * x5)) ∧ (RI x4) ∧ (x4 ≠ 0) ∧ ∃ nn, P_X6_reduce_34 Q (fun z0 z1 z2 z3 z4 z5 z6 => P_X6_reduce_13 Q n z0 z1 z2 z3 z4 z5 z6) nn x0 x2 x3 x4 x5 x6 (Int.tmod ((m x0 x6) * x5) x4) 0 m)
def P_X6_reduce (x0 : Int) (x1 : Int) (x2 : Int) (x3 : Int) (x4 : Int) (m : MM) (Q : Int → MM → Prop) : Prop := (inI x2 x3) ∧ P_X8_inverse (m x2 x3) x4 m (fun r1 m1 => ∃ nn, P_X6_reduce_13 Q nn x0 x2 x3 x4 r1 x1 m1)
theorem pl_X6_reduce_34 {f : Nat} {Q : Int → MM → Prop} {T : MM → Prop} (hf : 3 ≤ f) {K13 : Int → Int → Int → Int → Int → Int → MM → Prop} (hK13 : ∀ (x0 : Int) (x2 : Int) (x3 : Int) (x4 : Int) (x5 : Int) (x6 : Int) (m : MM), K13 x0 x2 x3 x4 x5 x6 m → B f M_X6_reduce 13 [vR x0, vU, vR x2, vI x3, vI x4, vI x5, vI x6, vU, vU] [] m Q T) : ∀ (n : Nat) (x0 : Int) (x2 : Int) (x3 : Int) (x4 : Int) (x5 : Int) (x6 : Int) (x7 : Int) (x8 : Int) (m : MM), P_X6_reduce_34 Q K13 n x0 x2 x3 x4 x5 x6 x7 x8 m → B f M_X6_reduce 34 [vR x0, vU, vR x2, vI x3, vI x4, vI x5, vI x6, vI x7, vI x8] [] m Q T := by
  intro n
  induction n with
  | zero => intro x0 x2 x3 x4 x5 x6 x7 x8 m h; exact h.elim
  | succ n ih =>
    intro x0 x2 x3 x4 x5 x6 x7 x8 m h
    have h : (RI x8) ∧ (RI x3) ∧ (if x3 < x8 then K13 x0 x2 x3 x4 x5 (x6 + (-1)) m else (inI x0 ((x6 - x3) + x8)) ∧ (inI x2 x8) ∧ (RI ((m x0 ((x6 - x3) + x8)) + ((x4 - x7) * (m x2 x8)))) ∧ (RI x4) ∧ (x4 ≠ 0) ∧ ∀ m1 : MM, m1 = up m x0 ((x6 - x3) + x8) (Int.tmod ((m x0 ((x6 - x3) + x8)) + ((x4 - x7) * (m x2 x8))) x4) → P_X6_reduce_34 Q K13 n x0 x2 x3 x4 x5 x6 x7 (x8 + 1) m1) := h
    refine b_iload dX6_reduce_34 rfl ?_
    refine b_iload_n dX6_reduce_36 rfl ?_
    obtain ⟨g1, h⟩ := h
    obtain ⟨g2, h⟩ := h
    refine b_icmp_gt 78 dX6_reduce_37 g1 g2 (by decide) (fun c1 => ?_) (fun c1 => ?_)
    · have h := ifT c1 h
      refine b_iinc (ls' := [vR x0, vU, vR x2, vI x3, vI x4, vI x5, vI (x6 + (-1)), vI x7, vI x8]) dX6_reduce_78 rfl rfl ?_
      refine b_goto 13 dX6_reduce_81 (by decide) ?_
      refine b_fgt [true, false, true, true, true, true, true, false, false] (ls' := [vR x0, vU, vR x2, vI x3, vI x4, vI x5, vI (x6 + (-1)), vU, vU]) rfl rfl ?_
      exact hK13 _ _ _ _ _ _ _ h
    · have h := ifF c1 h
      refine b_aload_n dX6_reduce_40 rfl ?_
      refine b_iload dX6_reduce_41 rfl ?_
      refine b_iload_n dX6_reduce_43 rfl ?_
      refine b_isub dX6_reduce_44 ?_
      refine b_iload dX6_reduce_45 rfl ?_
      refine b_iadd dX6_reduce_47 ?_
      refine b_aload_n dX6_reduce_48 rfl ?_
      refine b_iload dX6_reduce_49 rfl ?_
      refine b_iload_n dX6_reduce_51 rfl ?_
      refine b_isub dX6_reduce_52 ?_
      refine b_iload dX6_reduce_53 rfl ?_
      refine b_iadd dX6_reduce_55 ?_
      obtain ⟨g3, h⟩ := h
      refine b_ialdX dX6_reduce_56 g3 ?_
      refine b_iload dX6_reduce_57 rfl ?_
      refine b_iload dX6_reduce_59 rfl ?_
      refine b_isub dX6_reduce_61 ?_
      refine b_aload_n dX6_reduce_62 rfl ?_
      refine b_iload dX6_reduce_63 rfl ?_
      obtain ⟨g4, h⟩ := h
      refine b_ialdX dX6_reduce_65 g4 ?_
      refine b_imul dX6_reduce_66 ?_
      refine b_iadd dX6_reduce_67 ?_
      refine b_iload dX6_reduce_68 rfl ?_
      obtain ⟨g5, h⟩ := h
      obtain ⟨g6, h⟩ := h
      obtain ⟨g7, h⟩ := h
      refine b_irem dX6_reduce_70 g5 g6 g7 ?_
      refine b_iastX dX6_reduce_71 g3 (fun m1 em1 => ?_)
      have h := h m1 em1
      refine b_iinc (ls' := [vR x0, vU, vR x2, vI x3, vI x4, vI x5, vI x6, vI x7, vI (x8 + 1)]) dX6_reduce_72 rfl rfl ?_
      refine b_goto 34 dX6_reduce_75 (by decide) ?_
      exact ih _ _ _ _ _ _ _ _ _ h
theorem pl_X6_reduce_13 {f : Nat} {Q : Int → MM → Prop} {T : MM → Prop} (hf : 3 ≤ f) : ∀ (n : Nat) (x0 : Int) (x2 : Int) (x3 : Int) (x4 : Int) (x5 : Int) (x6 : Int) (m : MM), P_X6_reduce_13 Q n x0 x2 x3 x4 x5 x6 m → B f M_X6_reduce 13 [vR x0, vU, vR x2, vI x3, vI x4, vI x5, vI x6, vU, vU] [] m Q T := by
  intro n
  induction n with
  | zero => intro x0 x2 x3 x4 x5 x6 m h; exact h.elim
  | succ n ih =>
    intro x0 x2 x3 x4 x5 x6 m h
    have h : (RI x6) ∧ (RI x3) ∧ (if x6 < x3 then Q 0 m else (inI x0 x6) ∧ (RI ((m x0 x6) * x5)) ∧ (RI x4) ∧ (x4 ≠ 0) ∧ ∃ nn, P_X6_reduce_34 Q (fun z0 z1 z2 z3 z4 z5 z6 => P_X6_reduce_13 Q n z0 z1 z2 z3 z4 z5 z6) nn x0 x2 x3 x4 x5 x6 (Int.tmod ((m x0 x6) * x5) x4) 0 m) := h
    refine b_iload dX6_reduce_13 rfl ?_
    refine b_iload_n dX6_reduce_15 rfl ?_
    obtain ⟨g1, h⟩ := h
    obtain ⟨g2, h⟩ := h
    refine b_icmp_lt 84 dX6_reduce_16 g1 g2 (by decide) (fun c1 => ?_) (fun c1 => ?_)
    · have h := ifT c1 h
      exact b_vret dX6_reduce_84 rfl h
    · have h := ifF c1 h
      refine b_aload_n dX6_reduce_19 rfl ?_
      refine b_iload dX6_reduce_20 rfl ?_
      obtain ⟨g3, h⟩ := h
      refine b_ialdX dX6_reduce_22 g3 ?_
      refine b_iload dX6_reduce_23 rfl ?_
      refine b_imul dX6_reduce_25 ?_
      refine b_iload dX6_reduce_26 rfl ?_
      obtain ⟨g4, h⟩ := h
      obtain ⟨g5, h⟩ := h
      obtain ⟨g6, h⟩ := h
      refine b_irem dX6_reduce_28 g4 g5 g6 ?_
      refine b_istore (ls' := [vR x0, vU, vR x2, vI x3, vI x4, vI x5, vI x6, vI (Int.tmod ((m x0 x6) * x5) x4), vU]) dX6_reduce_29 (Nat.le_of_ble_eq_true rfl) rfl ?_
      refine b_iconst dX6_reduce_31 ?_
      refine b_istore (ls' := [vR x0, vU, vR x2, vI x3, vI x4, vI x5, vI x6, vI (Int.tmod ((m x0 x6) * x5) x4), vI 0]) dX6_reduce_32 (Nat.le_of_ble_eq_true rfl) rfl ?_
      obtain ⟨nn, h⟩ := h
      exact pl_X6_reduce_34 hf (fun _ _ _ _ _ _ _ h => ih _ _ _ _ _ _ _ h) nn _ _ _ _ _ _ _ _ _ h
theorem p_X6_reduce {f : Nat} {Q : Int → MM → Prop} {T : MM → Prop} (hf : 3 ≤ f) (x0 : Int) (x1 : Int) (x2 : Int) (x3 : Int) (x4 : Int) (m : MM) (h : P_X6_reduce x0 x1 x2 x3 x4 m Q) : CC f M_X6_reduce [vR x0, vI x1, vR x2, vI x3, vI x4] m Q T := by
  refine CC.of (plainFor_of_name (by decide)) (Nat.le_of_ble_eq_true rfl) (ls := [vR x0, vI x1, vR x2, vI x3, vI x4, vU, vU, vU, vU]) rfl ?_
  have h : (inI x2 x3) ∧ P_X8_inverse (m x2 x3) x4 m (fun r1 m1 => ∃ nn, P_X6_reduce_13 Q nn x0 x2 x3 x4 r1 x1 m1) := h
  refine b_aload_n dX6_reduce_0 rfl ?_
  refine b_iload_n dX6_reduce_1 rfl ?_
  obtain ⟨g1, h⟩ := h
  refine b_ialdX dX6_reduce_2 g1 ?_
  refine b_iload dX6_reduce_3 rfl ?_
  refine b_cSi (as := [vI (m x2 x3), vI x4]) (st := []) dX6_reduce_5 mf_X8_inverse lk_X6_350 (p_X8_inverse (f := 2) (Nat.le_refl _) _ _ _ h) (by omega) rfl rfl (Nat.le_of_ble_eq_true rfl) (by decide) rfl (fun _ => rfl) (fun r1 m1 h => ?_) (fun _ h => h)
  refine b_istore (ls' := [vR x0, vI x1, vR x2, vI x3, vI x4, vI r1, vU, vU, vU]) dX6_reduce_8 (Nat.le_of_ble_eq_true rfl) rfl ?_
  refine b_iload_n dX6_reduce_10 rfl ?_
  refine b_istore (ls' := [vR x0, vI x1, vR x2, vI x3, vI x4, vI r1, vI x1, vU, vU]) dX6_reduce_11 (Nat.le_of_ble_eq_true rfl) rfl ?_
  refine b_fgt [true, false, true, true, true, true, true, false, false] (ls' := [vR x0, vU, vR x2, vI x3, vI x4, vI r1, vI x1, vU, vU]) rfl rfl ?_
  obtain ⟨nn, h⟩ := h
  exact pl_X6_reduce_13 hf nn _ _ _ _ _ _ _ h
theorem dX6_square_0 : decode cX6_square 0 = .ok (.iconst 0, 1) := by decide +kernel
theorem dX6_square_1 : decode cX6_square 1 = .ok (.istore 4, 2) := by decide +kernel
theorem dX6_square_3 : decode cX6_square 3 = .ok (.iload 4, 2) := by decide +kernel
theorem dX6_square_5 : decode cX6_square 5 = .ok (.bipush 14, 2) := by decide +kernel
theorem dX6_square_7 : decode cX6_square 7 = .ok (.if_icmp .ge 17, 3) := by decide +kernel
theorem dX6_square_10 : decode cX6_square 10 = .ok (.aload_n 0, 1) := by decide +kernel
theorem dX6_square_11 : decode cX6_square 11 = .ok (.getfield 53, 3) := by decide +kernel
theorem dX6_square_14 : decode cX6_square 14 = .ok (.iload 4, 2) := by decide +kernel
theorem dX6_square_16 : decode cX6_square 16 = .ok (.iconst 0, 1) := by decide +kernel
theorem dX6_square_17 : decode cX6_square 17 = .ok (.iastore, 1) := by decide +kernel
theorem dX6_square_18 : decode cX6_square 18 = .ok (.iinc 4 1, 3) := by decide +kernel
theorem dX6_square_21 : decode cX6_square 21 = .ok (.goto (-18), 3) := by decide +kernel
theorem dX6_square_24 : decode cX6_square 24 = .ok (.iconst 0, 1) := by decide +kernel
theorem dX6_square_25 : decode cX6_square 25 = .ok (.istore 4, 2) := by decide +kernel
theorem dX6_square_27 : decode cX6_square 27 = .ok (.iload 4, 2) := by decide +kernel
theorem dX6_square_29 : decode cX6_square 29 = .ok (.bipush 7, 2) := by decide +kernel
theorem dX6_square_31 : decode cX6_square 31 = .ok (.if_icmp .ge 85, 3) := by decide +kernel
theorem dX6_square_34 : decode cX6_square 34 = .ok (.iconst 0, 1) := by decide +kernel
theorem dX6_square_35 : decode cX6_square 35 = .ok (.istore 5, 2) := by decide +kernel
theorem dX6_square_37 : decode cX6_square 37 = .ok (.iload 5, 2) := by decide +kernel
theorem dX6_square_39 : decode cX6_square 39 = .ok (.bipush 7, 2) := by decide +kernel
theorem dX6_square_41 : decode cX6_square 41 = .ok (.if_icmp .ge 69, 3) := by decide +kernel
theorem dX6_square_44 : decode cX6_square 44 = .ok (.aload_n 0, 1) := by decide +kernel
theorem dX6_square_45 : decode cX6_square 45 = .ok (.getfield 50, 3) := by decide +kernel
theorem dX6_square_48 : decode cX6_square 48 = .ok (.iload 4, 2) := by decide +kernel
theorem dX6_square_50 : decode cX6_square 50 = .ok (.iaload, 1) := by decide +kernel
theorem dX6_square_51 : decode cX6_square 51 = .ok (.aload_n 0, 1) := by decide +kernel
theorem dX6_square_52 : decode cX6_square 52 = .ok (.getfield 50, 3) := by decide +kernel
theorem dX6_square_55 : decode cX6_square 55 = .ok (.iload 5, 2) := by decide +kernel
theorem dX6_square_57 : decode cX6_square 57 = .ok (.iaload, 1) := by decide +kernel
theorem dX6_square_58 : decode cX6_square 58 = .ok (.imul, 1) := by decide +kernel
theorem dX6_square_59 : decode cX6_square 59 = .ok (.ifCond .eq 45, 3) := by decide +kernel
theorem dX6_square_62 : decode cX6_square 62 = .ok (.aload_n 0, 1) := by decide +kernel
theorem dX6_square_63 : decode cX6_square 63 = .ok (.getfield 53, 3) := by decide +kernel
theorem dX6_square_66 : decode cX6_square 66 = .ok (.iload 4, 2) := by decide +kernel
theorem dX6_square_68 : decode cX6_square 68 = .ok (.iload 5, 2) := by decide +kernel
theorem dX6_square_70 : decode cX6_square 70 = .ok (.iadd, 1) := by decide +kernel
theorem dX6_square_71 : decode cX6_square 71 = .ok (.iload_n 3, 1) := by decide +kernel
theorem dX6_square_72 : decode cX6_square 72 = .ok (.iadd, 1) := by decide +kernel
theorem dX6_square_73 : decode cX6_square 73 = .ok (.aload_n 0, 1) := by decide +kernel
theorem dX6_square_74 : decode cX6_square 74 = .ok (.getfield 53, 3) := by decide +kernel
theorem dX6_square_77 : decode cX6_square 77 = .ok (.iload 4, 2) := by decide +kernel
theorem dX6_square_79 : decode cX6_square 79 = .ok (.iload 5, 2) := by decide +kernel
theorem dX6_square_81 : decode cX6_square 81 = .ok (.iadd, 1) := by decide +kernel
theorem dX6_square_82 : decode cX6_square 82 = .ok (.iload_n 3, 1) := by decide +kernel
theorem dX6_square_83 : decode cX6_square 83 = .ok (.iadd, 1) := by decide +kernel
theorem dX6_square_84 : decode cX6_square 84 = .ok (.iaload, 1) := by decide +kernel
theorem dX6_square_85 : decode cX6_square 85 = .ok (.aload_n 0, 1) := by decide +kernel
theorem dX6_square_86 : decode cX6_square 86 = .ok (.getfield 50, 3) := by decide +kernel
theorem dX6_square_89 : decode cX6_square 89 = .ok (.iload 4, 2) := by decide +kernel
theorem dX6_square_91 : decode cX6_square 91 = .ok (.iaload, 1) := by decide +kernel
theorem dX6_square_92 : decode cX6_square 92 = .ok (.aload_n 0, 1) := by decide +kernel
theorem dX6_square_93 : decode cX6_square 93 = .ok (.getfield 50, 3) := by decide +kernel
theorem dX6_square_96 : decode cX6_square 96 = .ok (.iload 5, 2) := by decide +kernel
theorem dX6_square_98 : decode cX6_square 98 = .ok (.iaload, 1) := by decide +kernel
theorem dX6_square_99 : decode cX6_square 99 = .ok (.imul, 1) := by decide +kernel
theorem dX6_square_100 : decode cX6_square 100 = .ok (.iadd, 1) := by decide +kernel
theorem dX6_square_101 : decode cX6_square 101 = .ok (.iload_n 1, 1) := by decide +kernel
theorem dX6_square_102 : decode cX6_square 102 = .ok (.irem, 1) := by decide +kernel
theorem dX6_square_103 : decode cX6_square 103 = .ok (.iastore, 1) := by decide +kernel
theorem dX6_square_104 : decode cX6_square 104 = .ok (.iinc 5 1, 3) := by decide +kernel
theorem dX6_square_107 : decode cX6_square 107 = .ok (.goto (-70), 3) := by decide +kernel
theorem dX6_square_110 : decode cX6_square 110 = .ok (.iinc 4 1, 3) := by decide +kernel
theorem dX6_square_113 : decode cX6_square 113 = .ok (.goto (-86), 3) := by decide +kernel
theorem dX6_square_116 : decode cX6_square 116 = .ok (.aload_n 0, 1) := by decide +kernel
theorem dX6_square_117 : decode cX6_square 117 = .ok (.getfield 53, 3) := by decide +kernel
theorem dX6_square_120 : decode cX6_square 120 = .ok (.bipush 13, 2) := by decide +kernel
theorem dX6_square_122 : decode cX6_square 122 = .ok (.aload_n 0, 1) := by decide +kernel
theorem dX6_square_123 : decode cX6_square 123 = .ok (.getfield 47, 3) := by decide +kernel
theorem dX6_square_126 : decode cX6_square 126 = .ok (.iload_n 2, 1) := by decide +kernel
theorem dX6_square_127 : decode cX6_square 127 = .ok (.iload_n 1, 1) := by decide +kernel
theorem dX6_square_128 : decode cX6_square 128 = .ok (.invokestatic 346, 3) := by decide +kernel
theorem dX6_square_131 : decode cX6_square 131 = .ok (.aload_n 0, 1) := by decide +kernel
theorem dX6_square_132 : decode cX6_square 132 = .ok (.getfield 53, 3) := by decide +kernel
theorem dX6_square_135 : decode cX6_square 135 = .ok (.iconst 0, 1) := by decide +kernel
theorem dX6_square_136 : decode cX6_square 136 = .ok (.aload_n 0, 1) := by decide +kernel
theorem dX6_square_137 : decode cX6_square 137 = .ok (.getfield 50, 3) := by decide +kernel
theorem dX6_square_140 : decode cX6_square 140 = .ok (.iconst 0, 1) := by decide +kernel
theorem dX6_square_141 : decode cX6_square 141 = .ok (.bipush 7, 2) := by decide +kernel
theorem dX6_square_143 : decode cX6_square 143 = .ok (.invokestatic 178, 3) := by decide +kernel
theorem dX6_square_146 : decode cX6_square 146 = .ok (.return_, 1) := by decide +kernel
/-! AlgebraHouse$Machine.square(III)V -/
def P_X6_square_37 (Q : Int → MM → Prop) (K27 : Int → Int → Int → Int → MM → Prop) : Nat → Int → Int → Int → Int → Int → MM → Prop
  | 0, _, _, _, _, _, _ => False
  | n + 1, x1, x2, x3, x4, x5, m => (RI x5) ∧ (if 7 ≤ x5 then K27 x1 x2 x3 (x4 + 1) m else (inI (m 376 20) x4) ∧ (inI (m 376 20) x5) ∧ (RI ((m (m 376 20) x4) * (m (m 376 20) x5))) ∧ (if ((m (m 376 20) x4) * (m (m 376 20) x5)) = 0 then P_X6_square_37 Q K27 n x1 x2 x3 x4 (x5 + 1) m else (0 ≤ ((x4 + x5) + x3) ∧ ((x4 + x5) + x3) < 14) ∧ (RI ((m 388 ((x4 + x5) + x3)) + ((m (m 376 20) x4) * (m (m 376 20) x5)))) ∧ (RI x1) ∧ (x1 ≠ 0) ∧ ∀ m1 : MM, m1 = up m 388 ((x4 + x5) + x3) (Int.tmod ((m 388 ((x4 + x5) + x3)) + ((m (m 376 20) x4) * (m (m 376 20) x5))) x1) → P_X6_square_37 Q K27 n x1 x2 x3 x4 (x5 + 1) m1))
def P_X6_square_116 (Q : Int → MM → Prop) (x1 : Int) (x2 : Int) (m : MM) : Prop := P_X6_reduce 388 13 (m 376 19) x2 x1 m (fun r1 m1 => (inR 388 0 0 7) ∧ (inR (m1 376 20) 0 0 7) ∧ ∀ m2 : MM, m2 = cpm m1 388 0 (m1 376 20) 0 7 → Q 0 m2)
def P_X6_square_27 (Q : Int → MM → Prop) : Nat → Int → Int → Int → Int → MM → Prop
  | 0, _, _, _, _, _ => False
  | n + 1, x1, x2, x3, x4, m => (RI x4) ∧ (if 7 ≤ x4 then P_X6_square_116 Q x1 x2 m else ∃ nn, P_X6_square_37 Q (fun z0 z1 z2 z3 z4 => P_X6_square_27 Q n z0 z1 z2 z3 z4) nn x1 x2 x3 x4 0 m)
def P_X6_square_3 (Q : Int → MM → Prop) : Nat → Int → Int → Int → Int → MM → Prop
  | 0, _, _, _, _, _ => False
  | n + 1, x1, x2, x3, x4, m => (RI x4) ∧ (if 14 ≤ x4 then ∃ nn, P_X6_square_27 Q nn x1 x2 x3 0 m else (0 ≤ x4 ∧ x4 < 14) ∧ ∀ m1 : MM, m1 = up m 388 x4 0 → P_X6_square_3 Q n x1 x2 x3 (x4 + 1) m1)
def P_X6_square (x1 : Int) (x2 : Int) (x3 : Int) (m : MM) (Q : Int → MM → Prop) : Prop := ∃ nn, P_X6_square_3 Q nn x1 x2 x3 0 m
theorem pl_X6_square_37 {f : Nat} {Q : Int → MM → Prop} {T : MM → Prop} (hf : 4 ≤ f) {K27 : Int → Int → Int → Int → MM → Prop} (hK27 : ∀ (x1 : Int) (x2 : Int) (x3 : Int) (x4 : Int) (m : MM), K27 x1 x2 x3 x4 m → B f M_X6_square 27 [vR 376, vI x1, vI x2, vI x3, vI x4, vU] [] m Q T) : ∀ (n : Nat) (x1 : Int) (x2 : Int) (x3 : Int) (x4 : Int) (x5 : Int) (m : MM), P_X6_square_37 Q K27 n x1 x2 x3 x4 x5 m → B f M_X6_square 37 [vR 376, vI x1, vI x2, vI x3, vI x4, vI x5] [] m Q T := by
  intro n
  induction n with
  | zero => intro x1 x2 x3 x4 x5 m h; exact h.elim
  | succ n ih =>
    intro x1 x2 x3 x4 x5 m h
    have h : (RI x5) ∧ (if 7 ≤ x5 then K27 x1 x2 x3 (x4 + 1) m else (inI (m 376 20) x4) ∧ (inI (m 376 20) x5) ∧ (RI ((m (m 376 20) x4) * (m (m 376 20) x5))) ∧ (if ((m (m 376 20) x4) * (m (m 376 20) x5)) = 0 then P_X6_square_37 Q K27 n x1 x2 x3 x4 (x5 + 1) m else (0 ≤ ((x4 + x5) + x3) ∧ ((x4 + x5) + x3) < 14) ∧ (RI ((m 388 ((x4 + x5) + x3)) + ((m (m 376 20) x4) * (m (m 376 20) x5)))) ∧ (RI x1) ∧ (x1 ≠ 0) ∧ ∀ m1 : MM, m1 = up m 388 ((x4 + x5) + x3) (Int.tmod ((m 388 ((x4 + x5) + x3)) + ((m (m 376 20) x4) * (m (m 376 20) x5))) x1) → P_X6_square_37 Q K27 n x1 x2 x3 x4 (x5 + 1) m1)) := h
    refine b_iload dX6_square_37 rfl ?_
    refine b_bipush dX6_square_39 (by decide) ?_
    obtain ⟨g1, h⟩ := h
    refine b_icmp_ge 110 dX6_square_41 g1 (by decide) (by decide) (fun c1 => ?_) (fun c1 => ?_)
    · have h := ifT c1 h
      refine b_iinc (ls' := [vR 376, vI x1, vI x2, vI x3, vI (x4 + 1), vI x5]) dX6_square_110 rfl rfl ?_
      refine b_goto 27 dX6_square_113 (by decide) ?_
      refine b_fgt [true, true, true, true, true, false] (ls' := [vR 376, vI x1, vI x2, vI x3, vI (x4 + 1), vU]) rfl rfl ?_
      exact hK27 _ _ _ _ _ h
    · have h := ifF c1 h
      refine b_aload_n dX6_square_44 rfl ?_
      refine b_getM dX6_square_45 fk_X6_50 ly_376 ?_
      refine b_iload dX6_square_48 rfl ?_
      obtain ⟨g2, h⟩ := h
      refine b_ialdX dX6_square_50 g2 ?_
      refine b_aload_n dX6_square_51 rfl ?_
      refine b_getM dX6_square_52 fk_X6_50 ly_376 ?_
      refine b_iload dX6_square_55 rfl ?_
      obtain ⟨g3, h⟩ := h
      refine b_ialdX dX6_square_57 g3 ?_
      refine b_imul dX6_square_58 ?_
      obtain ⟨g4, h⟩ := h
      refine b_if_eq 104 dX6_square_59 g4 (by decide) (fun c2 => ?_) (fun c2 => ?_)
      · have h := ifT c2 h
        refine b_iinc (ls' := [vR 376, vI x1, vI x2, vI x3, vI x4, vI (x5 + 1)]) dX6_square_104 rfl rfl ?_
        refine b_goto 37 dX6_square_107 (by decide) ?_
        exact ih _ _ _ _ _ _ h
      · have h := ifF c2 h
        refine b_aload_n dX6_square_62 rfl ?_
        refine b_getR dX6_square_63 fk_X6_53 ly_376 gg_376_21 ?_
        refine b_iload dX6_square_66 rfl ?_
        refine b_iload dX6_square_68 rfl ?_
        refine b_iadd dX6_square_70 ?_
        refine b_iload_n dX6_square_71 rfl ?_
        refine b_iadd dX6_square_72 ?_
        refine b_aload_n dX6_square_73 rfl ?_
        refine b_getR dX6_square_74 fk_X6_53 ly_376 gg_376_21 ?_
        refine b_iload dX6_square_77 rfl ?_
        refine b_iload dX6_square_79 rfl ?_
        refine b_iadd dX6_square_81 ?_
        refine b_iload_n dX6_square_82 rfl ?_
        refine b_iadd dX6_square_83 ?_
        obtain ⟨g5, h⟩ := h
        refine b_iald dX6_square_84 ly_388 g5 ?_
        refine b_aload_n dX6_square_85 rfl ?_
        refine b_getM dX6_square_86 fk_X6_50 ly_376 ?_
        refine b_iload dX6_square_89 rfl ?_
        refine b_ialdX dX6_square_91 g2 ?_
        refine b_aload_n dX6_square_92 rfl ?_
        refine b_getM dX6_square_93 fk_X6_50 ly_376 ?_
        refine b_iload dX6_square_96 rfl ?_
        refine b_ialdX dX6_square_98 g3 ?_
        refine b_imul dX6_square_99 ?_
        refine b_iadd dX6_square_100 ?_
        refine b_iload_n dX6_square_101 rfl ?_
        obtain ⟨g6, h⟩ := h
        obtain ⟨g7, h⟩ := h
        obtain ⟨g8, h⟩ := h
        refine b_irem dX6_square_102 g6 g7 g8 ?_
        refine b_iast dX6_square_103 ly_388 g5 (fun m1 em1 => ?_)
        have h := h m1 em1
        refine b_iinc (ls' := [vR 376, vI x1, vI x2, vI x3, vI x4, vI (x5 + 1)]) dX6_square_104 rfl rfl ?_
        refine b_goto 37 dX6_square_107 (by decide) ?_
        exact ih _ _ _ _ _ _ h
theorem pl_X6_square_116 {f : Nat} {Q : Int → MM → Prop} {T : MM → Prop} (hf : 4 ≤ f) : ∀ (x1 : Int) (x2 : Int) (m : MM), P_X6_square_116 Q x1 x2 m → B f M_X6_square 116 [vR 376, vI x1, vI x2, vU, vU, vU] [] m Q T := by
  intro x1 x2 m h
  have h : P_X6_reduce 388 13 (m 376 19) x2 x1 m (fun r1 m1 => (inR 388 0 0 7) ∧ (inR (m1 376 20) 0 0 7) ∧ ∀ m2 : MM, m2 = cpm m1 388 0 (m1 376 20) 0 7 → Q 0 m2) := h
  refine b_aload_n dX6_square_116 rfl ?_
  refine b_getR dX6_square_117 fk_X6_53 ly_376 gg_376_21 ?_
  refine b_bipush dX6_square_120 (by decide) ?_
  refine b_aload_n dX6_square_122 rfl ?_
  refine b_getM dX6_square_123 fk_X6_47 ly_376 ?_
  refine b_iload_n dX6_square_126 rfl ?_
  refine b_iload_n dX6_square_127 rfl ?_
  refine b_cSv (as := [vR 388, vI 13, vR (m 376 19), vI x2, vI x1]) (st := []) dX6_square_128 mf_X6_reduce lk_X6_346 (p_X6_reduce (f := 3) (Nat.le_refl _) _ _ _ _ _ _ h) (by omega) rfl rfl (Nat.le_of_ble_eq_true rfl) (by decide) rfl (fun _ => rfl) (fun r1 m1 h => ?_) (fun _ h => h)
  refine b_aload_n dX6_square_131 rfl ?_
  refine b_getR dX6_square_132 fk_X6_53 ly_376 gg_376_21 ?_
  refine b_iconst dX6_square_135 ?_
  refine b_aload_n dX6_square_136 rfl ?_
  refine b_getM dX6_square_137 fk_X6_50 ly_376 ?_
  refine b_iconst dX6_square_140 ?_
  refine b_bipush dX6_square_141 (by decide) ?_
  obtain ⟨g1, h⟩ := h
  obtain ⟨g2, h⟩ := h
  refine b_copyi dX6_square_143 lk_X6_178 (by decide) g1 g2 (by omega) (Nat.le_of_ble_eq_true rfl) rfl (fun m2 em2 => ?_)
  have h := h m2 em2
  exact b_vret dX6_square_146 rfl h
theorem pl_X6_square_27 {f : Nat} {Q : Int → MM → Prop} {T : MM → Prop} (hf : 4 ≤ f) : ∀ (n : Nat) (x1 : Int) (x2 : Int) (x3 : Int) (x4 : Int) (m : MM), P_X6_square_27 Q n x1 x2 x3 x4 m → B f M_X6_square 27 [vR 376, vI x1, vI x2, vI x3, vI x4, vU] [] m Q T := by
  intro n
  induction n with
  | zero => intro x1 x2 x3 x4 m h; exact h.elim
  | succ n ih =>
    intro x1 x2 x3 x4 m h
    have h : (RI x4) ∧ (if 7 ≤ x4 then P_X6_square_116 Q x1 x2 m else ∃ nn, P_X6_square_37 Q (fun z0 z1 z2 z3 z4 => P_X6_square_27 Q n z0 z1 z2 z3 z4) nn x1 x2 x3 x4 0 m) := h
    refine b_iload dX6_square_27 rfl ?_
    refine b_bipush dX6_square_29 (by decide) ?_
    obtain ⟨g1, h⟩ := h
    refine b_icmp_ge 116 dX6_square_31 g1 (by decide) (by decide) (fun c1 => ?_) (fun c1 => ?_)
    · have h := ifT c1 h
      refine b_fgt [true, true, true, false, false, false] (ls' := [vR 376, vI x1, vI x2, vU, vU, vU]) rfl rfl ?_
      exact pl_X6_square_116 hf _ _ _ h
    · have h := ifF c1 h
      refine b_iconst dX6_square_34 ?_
      refine b_istore (ls' := [vR 376, vI x1, vI x2, vI x3, vI x4, vI 0]) dX6_square_35 (Nat.le_of_ble_eq_true rfl) rfl ?_
      obtain ⟨nn, h⟩ := h
      exact pl_X6_square_37 hf (fun _ _ _ _ _ h => ih _ _ _ _ _ h) nn _ _ _ _ _ _ h
theorem pl_X6_square_3 {f : Nat} {Q : Int → MM → Prop} {T : MM → Prop} (hf : 4 ≤ f) : ∀ (n : Nat) (x1 : Int) (x2 : Int) (x3 : Int) (x4 : Int) (m : MM), P_X6_square_3 Q n x1 x2 x3 x4 m → B f M_X6_square 3 [vR 376, vI x1, vI x2, vI x3, vI x4, vU] [] m Q T := by
  intro n
  induction n with
  | zero => intro x1 x2 x3 x4 m h; exact h.elim
  | succ n ih =>
    intro x1 x2 x3 x4 m h
    have h : (RI x4) ∧ (if 14 ≤ x4 then ∃ nn, P_X6_square_27 Q nn x1 x2 x3 0 m else (0 ≤ x4 ∧ x4 < 14) ∧ ∀ m1 : MM, m1 = up m 388 x4 0 → P_X6_square_3 Q n x1 x2 x3 (x4 + 1) m1) := h
    refine b_iload dX6_square_3 rfl ?_
    refine b_bipush dX6_square_5 (by decide) ?_
    obtain ⟨g1, h⟩ := h
    refine b_icmp_ge 24 dX6_square_7 g1 (by decide) (by decide) (fun c1 => ?_) (fun c1 => ?_)
    · have h := ifT c1 h
      refine b_iconst dX6_square_24 ?_
      refine b_istore (ls' := [vR 376, vI x1, vI x2, vI x3, vI 0, vU]) dX6_square_25 (Nat.le_of_ble_eq_true rfl) rfl ?_
      obtain ⟨nn, h⟩ := h
      exact pl_X6_square_27 hf nn _ _ _ _ _ h
    · have h := ifF c1 h
      refine b_aload_n dX6_square_10 rfl ?_
      refine b_getR dX6_square_11 fk_X6_53 ly_376 gg_376_21 ?_
      refine b_iload dX6_square_14 rfl ?_
      refine b_iconst dX6_square_16 ?_
      obtain ⟨g2, h⟩ := h
      refine b_iast dX6_square_17 ly_388 g2 (fun m1 em1 => ?_)
      have h := h m1 em1
      refine b_iinc (ls' := [vR 376, vI x1, vI x2, vI x3, vI (x4 + 1), vU]) dX6_square_18 rfl rfl ?_
      refine b_goto 3 dX6_square_21 (by decide) ?_
      exact ih _ _ _ _ _ h
theorem p_X6_square {f : Nat} {Q : Int → MM → Prop} {T : MM → Prop} (hf : 4 ≤ f) (x1 : Int) (x2 : Int) (x3 : Int) (m : MM) (h : P_X6_square x1 x2 x3 m Q) : CC f M_X6_square [vR 376, vI x1, vI x2, vI x3] m Q T := by
  refine CC.of (plainFor_of_name (by decide)) (Nat.le_of_ble_eq_true rfl) (ls := [vR 376, vI x1, vI x2, vI x3, vU, vU]) rfl ?_
  have h : ∃ nn, P_X6_square_3 Q nn x1 x2 x3 0 m := h
  refine b_iconst dX6_square_0 ?_
  refine b_istore (ls' := [vR 376, vI x1, vI x2, vI x3, vI 0, vU]) dX6_square_1 (Nat.le_of_ble_eq_true rfl) rfl ?_
  obtain ⟨nn, h⟩ := h
  exact pl_X6_square_3 hf nn _ _ _ _ _ h
theorem dX6_roots_0 : decode cX6_roots 0 = .ok (.iconst 0, 1) := by decide +kernel
theorem dX6_roots_1 : decode cX6_roots 1 = .ok (.istore_n 3, 1) := by decide +kernel
theorem dX6_roots_2 : decode cX6_roots 2 = .ok (.iload_n 3, 1) := by decide +kernel
theorem dX6_roots_3 : decode cX6_roots 3 = .ok (.bipush 7, 2) := by decide +kernel
theorem dX6_roots_5 : decode cX6_roots 5 = .ok (.if_icmp .ge 40, 3) := by decide +kernel
theorem dX6_roots_8 : decode cX6_roots 8 = .ok (.aload_n 0, 1) := by decide +kernel
theorem dX6_roots_9 : decode cX6_roots 9 = .ok (.getfield 47, 3) := by decide +kernel
theorem dX6_roots_12 : decode cX6_roots 12 = .ok (.iload_n 3, 1) := by decide +kernel
theorem dX6_roots_13 : decode cX6_roots 13 = .ok (.aload_n 0, 1) := by decide +kernel
theorem dX6_roots_14 : decode cX6_roots 14 = .ok (.getfield 73, 3) := by decide +kernel
theorem dX6_roots_17 : decode cX6_roots 17 = .ok (.iload_n 2, 1) := by decide +kernel
theorem dX6_roots_18 : decode cX6_roots 18 = .ok (.iconst 2, 1) := by decide +kernel
theorem dX6_roots_19 : decode cX6_roots 19 = .ok (.iload_n 3, 1) := by decide +kernel
theorem dX6_roots_20 : decode cX6_roots 20 = .ok (.imul, 1) := by decide +kernel
theorem dX6_roots_21 : decode cX6_roots 21 = .ok (.iadd, 1) := by decide +kernel
theorem dX6_roots_22 : decode cX6_roots 22 = .ok (.iaload, 1) := by decide +kernel
theorem dX6_roots_23 : decode cX6_roots 23 = .ok (.iastore, 1) := by decide +kernel
theorem dX6_roots_24 : decode cX6_roots 24 = .ok (.aload_n 0, 1) := by decide +kernel
theorem dX6_roots_25 : decode cX6_roots 25 = .ok (.getfield 50, 3) := by decide +kernel
theorem dX6_roots_28 : decode cX6_roots 28 = .ok (.iload_n 3, 1) := by decide +kernel
theorem dX6_roots_29 : decode cX6_roots 29 = .ok (.iload_n 3, 1) := by decide +kernel
theorem dX6_roots_30 : decode cX6_roots 30 = .ok (.ifCond .ne 7, 3) := by decide +kernel
theorem dX6_roots_33 : decode cX6_roots 33 = .ok (.iconst 1, 1) := by decide +kernel
theorem dX6_roots_34 : decode cX6_roots 34 = .ok (.goto 4, 3) := by decide +kernel
theorem dX6_roots_37 : decode cX6_roots 37 = .ok (.iconst 0, 1) := by decide +kernel
theorem dX6_roots_38 : decode cX6_roots 38 = .ok (.iastore, 1) := by decide +kernel
theorem dX6_roots_39 : decode cX6_roots 39 = .ok (.iinc 3 1, 3) := by decide +kernel
theorem dX6_roots_42 : decode cX6_roots 42 = .ok (.goto (-40), 3) := by decide +kernel
theorem dX6_roots_45 : decode cX6_roots 45 = .ok (.aload_n 0, 1) := by decide +kernel
theorem dX6_roots_46 : decode cX6_roots 46 = .ok (.getfield 47, 3) := by decide +kernel
theorem dX6_roots_49 : decode cX6_roots 49 = .ok (.invokestatic 339, 3) := by decide +kernel
theorem dX6_roots_52 : decode cX6_roots 52 = .ok (.istore_n 3, 1) := by decide +kernel
theorem dX6_roots_53 : decode cX6_roots 53 = .ok (.iload_n 3, 1) := by decide +kernel
theorem dX6_roots_54 : decode cX6_roots 54 = .ok (.iconst 1, 1) := by decide +kernel
theorem dX6_roots_55 : decode cX6_roots 55 = .ok (.if_icmp .ge 13, 3) := by decide +kernel
theorem dX6_roots_58 : decode cX6_roots 58 = .ok (.iload_n 3, 1) := by decide +kernel
theorem dX6_roots_59 : decode cX6_roots 59 = .ok (.ifCond .ge 7, 3) := by decide +kernel
theorem dX6_roots_62 : decode cX6_roots 62 = .ok (.iload_n 1, 1) := by decide +kernel
theorem dX6_roots_63 : decode cX6_roots 63 = .ok (.goto 4, 3) := by decide +kernel
theorem dX6_roots_66 : decode cX6_roots 66 = .ok (.iconst 0, 1) := by decide +kernel
theorem dX6_roots_67 : decode cX6_roots 67 = .ok (.ireturn, 1) := by decide +kernel
theorem dX6_roots_68 : decode cX6_roots 68 = .ok (.iconst 1, 1) := by decide +kernel
theorem dX6_roots_69 : decode cX6_roots 69 = .ok (.istore 4, 2) := by decide +kernel
theorem dX6_roots_71 : decode cX6_roots 71 = .ok (.iconst 2, 1) := by decide +kernel
theorem dX6_roots_72 : decode cX6_roots 72 = .ok (.iload 4, 2) := by decide +kernel
theorem dX6_roots_74 : decode cX6_roots 74 = .ok (.imul, 1) := by decide +kernel
theorem dX6_roots_75 : decode cX6_roots 75 = .ok (.iload_n 1, 1) := by decide +kernel
theorem dX6_roots_76 : decode cX6_roots 76 = .ok (.if_icmp .gt 12, 3) := by decide +kernel
theorem dX6_roots_79 : decode cX6_roots 79 = .ok (.iload 4, 2) := by decide +kernel
theorem dX6_roots_81 : decode cX6_roots 81 = .ok (.iconst 2, 1) := by decide +kernel
theorem dX6_roots_82 : decode cX6_roots 82 = .ok (.imul, 1) := by decide +kernel
theorem dX6_roots_83 : decode cX6_roots 83 = .ok (.istore 4, 2) := by decide +kernel
theorem dX6_roots_85 : decode cX6_roots 85 = .ok (.goto (-14), 3) := by decide +kernel
theorem dX6_roots_88 : decode cX6_roots 88 = .ok (.iload 4, 2) := by decide +kernel
theorem dX6_roots_90 : decode cX6_roots 90 = .ok (.ifCond .le 30, 3) := by decide +kernel
theorem dX6_roots_93 : decode cX6_roots 93 = .ok (.aload_n 0, 1) := by decide +kernel
theorem dX6_roots_94 : decode cX6_roots 94 = .ok (.iload_n 1, 1) := by decide +kernel
theorem dX6_roots_95 : decode cX6_roots 95 = .ok (.iload_n 3, 1) := by decide +kernel
theorem dX6_roots_96 : decode cX6_roots 96 = .ok (.iload_n 1, 1) := by decide +kernel
theorem dX6_roots_97 : decode cX6_roots 97 = .ok (.iload 4, 2) := by decide +kernel
theorem dX6_roots_99 : decode cX6_roots 99 = .ok (.iand, 1) := by decide +kernel
theorem dX6_roots_100 : decode cX6_roots 100 = .ok (.ifCond .ne 7, 3) := by decide +kernel
theorem dX6_roots_103 : decode cX6_roots 103 = .ok (.iconst 0, 1) := by decide +kernel
theorem dX6_roots_104 : decode cX6_roots 104 = .ok (.goto 4, 3) := by decide +kernel
theorem dX6_roots_107 : decode cX6_roots 107 = .ok (.iconst 1, 1) := by decide +kernel
theorem dX6_roots_108 : decode cX6_roots 108 = .ok (.invokevirtual 343, 3) := by decide +kernel
theorem dX6_roots_111 : decode cX6_roots 111 = .ok (.iload 4, 2) := by decide +kernel
theorem dX6_roots_113 : decode cX6_roots 113 = .ok (.iconst 2, 1) := by decide +kernel
theorem dX6_roots_114 : decode cX6_roots 114 = .ok (.idiv, 1) := by decide +kernel
theorem dX6_roots_115 : decode cX6_roots 115 = .ok (.istore 4, 2) := by decide +kernel
theorem dX6_roots_117 : decode cX6_roots 117 = .ok (.goto (-29), 3) := by decide +kernel
theorem dX6_roots_120 : decode cX6_roots 120 = .ok (.aload_n 0, 1) := by decide +kernel
theorem dX6_roots_121 : decode cX6_roots 121 = .ok (.getfield 50, 3) := by decide +kernel
theorem dX6_roots_124 : decode cX6_roots 124 = .ok (.iconst 1, 1) := by decide +kernel
theorem dX6_roots_125 : decode cX6_roots 125 = .ok (.aload_n 0, 1) := by decide +kernel
theorem dX6_roots_126 : decode cX6_roots 126 = .ok (.getfield 50, 3) := by decide +kernel
theorem dX6_roots_129 : decode cX6_roots 129 = .ok (.iconst 1, 1) := by decide +kernel
theorem dX6_roots_130 : decode cX6_roots 130 = .ok (.iaload, 1) := by decide +kernel
theorem dX6_roots_131 : decode cX6_roots 131 = .ok (.iload_n 1, 1) := by decide +kernel
theorem dX6_roots_132 : decode cX6_roots 132 = .ok (.iadd, 1) := by decide +kernel
theorem dX6_roots_133 : decode cX6_roots 133 = .ok (.iconst 1, 1) := by decide +kernel
theorem dX6_roots_134 : decode cX6_roots 134 = .ok (.isub, 1) := by decide +kernel
theorem dX6_roots_135 : decode cX6_roots 135 = .ok (.iload_n 1, 1) := by decide +kernel
theorem dX6_roots_136 : decode cX6_roots 136 = .ok (.irem, 1) := by decide +kernel
theorem dX6_roots_137 : decode cX6_roots 137 = .ok (.iastore, 1) := by decide +kernel
theorem dX6_roots_138 : decode cX6_roots 138 = .ok (.aload_n 0, 1) := by decide +kernel
theorem dX6_roots_139 : decode cX6_roots 139 = .ok (.getfield 50, 3) := by decide +kernel
theorem dX6_roots_142 : decode cX6_roots 142 = .ok (.invokestatic 339, 3) := by decide +kernel
theorem dX6_roots_145 : decode cX6_roots 145 = .ok (.ifCond .lt 52, 3) := by decide +kernel
theorem dX6_roots_148 : decode cX6_roots 148 = .ok (.aload_n 0, 1) := by decide +kernel
theorem dX6_roots_149 : decode cX6_roots 149 = .ok (.getfield 47, 3) := by decide +kernel
theorem dX6_roots_152 : decode cX6_roots 152 = .ok (.aload_n 0, 1) := by decide +kernel
theorem dX6_roots_153 : decode cX6_roots 153 = .ok (.getfield 47, 3) := by decide +kernel
theorem dX6_roots_156 : decode cX6_roots 156 = .ok (.invokestatic 339, 3) := by decide +kernel
theorem dX6_roots_159 : decode cX6_roots 159 = .ok (.aload_n 0, 1) := by decide +kernel
theorem dX6_roots_160 : decode cX6_roots 160 = .ok (.getfield 50, 3) := by decide +kernel
theorem dX6_roots_163 : decode cX6_roots 163 = .ok (.aload_n 0, 1) := by decide +kernel
theorem dX6_roots_164 : decode cX6_roots 164 = .ok (.getfield 50, 3) := by decide +kernel
theorem dX6_roots_167 : decode cX6_roots 167 = .ok (.invokestatic 339, 3) := by decide +kernel
theorem dX6_roots_170 : decode cX6_roots 170 = .ok (.iload_n 1, 1) := by decide +kernel
theorem dX6_roots_171 : decode cX6_roots 171 = .ok (.invokestatic 346, 3) := by decide +kernel
theorem dX6_roots_174 : decode cX6_roots 174 = .ok (.aload_n 0, 1) := by decide +kernel
theorem dX6_roots_175 : decode cX6_roots 175 = .ok (.getfield 47, 3) := by decide +kernel
theorem dX6_roots_178 : decode cX6_roots 178 = .ok (.astore 5, 2) := by decide +kernel
theorem dX6_roots_180 : decode cX6_roots 180 = .ok (.aload_n 0, 1) := by decide +kernel
theorem dX6_roots_181 : decode cX6_roots 181 = .ok (.aload_n 0, 1) := by decide +kernel
theorem dX6_roots_182 : decode cX6_roots 182 = .ok (.getfield 50, 3) := by decide +kernel
theorem dX6_roots_185 : decode cX6_roots 185 = .ok (.putfield 47, 3) := by decide +kernel
theorem dX6_roots_188 : decode cX6_roots 188 = .ok (.aload_n 0, 1) := by decide +kernel
theorem dX6_roots_189 : decode cX6_roots 189 = .ok (.aload 5, 2) := by decide +kernel
theorem dX6_roots_191 : decode cX6_roots 191 = .ok (.putfield 50, 3) := by decide +kernel
theorem dX6_roots_194 : decode cX6_roots 194 = .ok (.goto (-56), 3) := by decide +kernel
theorem dX6_roots_197 : decode cX6_roots 197 = .ok (.aload_n 0, 1) := by decide +kernel
theorem dX6_roots_198 : decode cX6_roots 198 = .ok (.getfield 47, 3) := by decide +kernel
theorem dX6_roots_201 : decode cX6_roots 201 = .ok (.invokestatic 339, 3) := by decide +kernel
theorem dX6_roots_204 : decode cX6_roots 204 = .ok (.ireturn, 1) := by decide +kernel
/-! AlgebraHouse$Machine.roots(II)I -/
def P_X6_roots_197 (Q : Int → MM → Prop) (m : MM) : Prop := P_X6_high (m 376 19) m (fun r1 m1 => Q r1 m1)
def P_X6_roots_138 (Q : Int → MM → Prop) : Nat → Int → MM → Prop
  | 0, _, _ => False
  | n + 1, x1, m => P_X6_high (m 376 20) m (fun r1 m1 => (RI r1) ∧ (if r1 < 0 then P_X6_roots_197 Q m1 else P_X6_high (m1 376 19) m1 (fun r2 m2 => P_X6_high (m2 376 20) m2 (fun r3 m3 => P_X6_reduce (m1 376 19) r2 (m2 376 20) r3 x1 m3 (fun r4 m4 => ∀ m5 : MM, m5 = up m4 376 19 (m4 376 20) → ∀ m6 : MM, m6 = up m5 376 20 (m4 376 19) → P_X6_roots_138 Q n x1 m6)))))
def P_X6_roots_120 (Q : Int → MM → Prop) (x1 : Int) (m : MM) : Prop := (inI (m 376 20) 1) ∧ (RI (((m (m 376 20) 1) + x1) - 1)) ∧ (RI x1) ∧ (x1 ≠ 0) ∧ ∀ m1 : MM, m1 = up m (m 376 20) 1 (Int.tmod (((m (m 376 20) 1) + x1) - 1) x1) → ∃ nn, P_X6_roots_138 Q nn x1 m1
def P_X6_roots_88 (Q : Int → MM → Prop) : Nat → Int → Int → Int → MM → Prop
  | 0, _, _, _, _ => False
  | n + 1, x1, x3, x4, m => (RI x4) ∧ (if x4 ≤ 0 then P_X6_roots_120 Q x1 m else ((RI (iAnd x1 x4))) ∧ P_X6_square x1 x3 (if (iAnd x1 x4) = 0 then 0 else 1 : Int) m (fun r1 m1 => P_X6_roots_88 Q n x1 x3 (Int.tdiv x4 2) m1))
def P_X6_roots_71 (Q : Int → MM → Prop) : Nat → Int → Int → Int → MM → Prop
  | 0, _, _, _, _ => False
  | n + 1, x1, x3, x4, m => (RI (2 * x4)) ∧ (RI x1) ∧ (if x1 < (2 * x4) then ∃ nn, P_X6_roots_88 Q nn x1 x3 x4 m else P_X6_roots_71 Q n x1 x3 (x4 * 2) m)
def P_X6_roots_45 (Q : Int → MM → Prop) (x1 : Int) (m : MM) : Prop := P_X6_high (m 376 19) m (fun r1 m1 => (RI r1) ∧ (if 1 ≤ r1 then ∃ nn, P_X6_roots_71 Q nn x1 r1 1 m1 else (if 0 ≤ r1 then Q 0 m1 else Q x1 m1)))
def P_X6_roots_2 (Q : Int → MM → Prop) : Nat → Int → Int → Int → MM → Prop
  | 0, _, _, _, _ => False
  | n + 1, x1, x2, x3, m => (RI x3) ∧ (if 7 ≤ x3 then P_X6_roots_45 Q x1 m else (0 ≤ (x2 + (2 * x3)) ∧ (x2 + (2 * x3)) < 1159540) ∧ (inI (m 376 19) x3) ∧ ∀ m1 : MM, m1 = up m (m 376 19) x3 (m 379 (x2 + (2 * x3))) → (if x3 = 0 then (inI (m1 376 20) x3) ∧ ∀ m3 : MM, m3 = up m1 (m1 376 20) x3 1 → P_X6_roots_2 Q n x1 x2 (x3 + 1) m3 else (inI (m1 376 20) x3) ∧ ∀ m2 : MM, m2 = up m1 (m1 376 20) x3 0 → P_X6_roots_2 Q n x1 x2 (x3 + 1) m2))
def P_X6_roots (x1 : Int) (x2 : Int) (m : MM) (Q : Int → MM → Prop) : Prop := ∃ nn, P_X6_roots_2 Q nn x1 x2 0 m
theorem pl_X6_roots_197 {f : Nat} {Q : Int → MM → Prop} {T : MM → Prop} (hf : 5 ≤ f) : ∀ (m : MM), P_X6_roots_197 Q m → B f M_X6_roots 197 [vR 376, vU, vU, vU, vU, vU] [] m Q T := by
  intro m h
  have h : P_X6_high (m 376 19) m (fun r1 m1 => Q r1 m1) := h
  refine b_aload_n dX6_roots_197 rfl ?_
  refine b_getM dX6_roots_198 fk_X6_47 ly_376 ?_
  refine b_cSi (as := [vR (m 376 19)]) (st := []) dX6_roots_201 mf_X6_high lk_X6_339 (p_X6_high (f := 1) (Nat.le_refl _) _ _ h) (by omega) rfl rfl (Nat.le_of_ble_eq_true rfl) (by decide) rfl (fun _ => rfl) (fun r1 m1 h => ?_) (fun _ h => h)
  exact b_iret dX6_roots_204 rfl h
theorem pl_X6_roots_138 {f : Nat} {Q : Int → MM → Prop} {T : MM → Prop} (hf : 5 ≤ f) : ∀ (n : Nat) (x1 : Int) (m : MM), P_X6_roots_138 Q n x1 m → B f M_X6_roots 138 [vR 376, vI x1, vU, vU, vU, vU] [] m Q T := by
  intro n
  induction n with
  | zero => intro x1 m h; exact h.elim
  | succ n ih =>
    intro x1 m h
    have h : P_X6_high (m 376 20) m (fun r1 m1 => (RI r1) ∧ (if r1 < 0 then P_X6_roots_197 Q m1 else P_X6_high (m1 376 19) m1 (fun r2 m2 => P_X6_high (m2 376 20) m2 (fun r3 m3 => P_X6_reduce (m1 376 19) r2 (m2 376 20) r3 x1 m3 (fun r4 m4 => ∀ m5 : MM, m5 = up m4 376 19 (m4 376 20) → ∀ m6 : MM, m6 = up m5 376 20 (m4 376 19) → P_X6_roots_138 Q n x1 m6))))) := h
    refine b_aload_n dX6_roots_138 rfl ?_
    refine b_getM dX6_roots_139 fk_X6_50 ly_376 ?_
    refine b_cSi (as := [vR (m 376 20)]) (st := []) dX6_roots_142 mf_X6_high lk_X6_339 (p_X6_high (f := 1) (Nat.le_refl _) _ _ h) (by omega) rfl rfl (Nat.le_of_ble_eq_true rfl) (by decide) rfl (fun _ => rfl) (fun r1 m1 h => ?_) (fun _ h => h)
    obtain ⟨g1, h⟩ := h
    refine b_if_lt 197 dX6_roots_145 g1 (by decide) (fun c1 => ?_) (fun c1 => ?_)
    · have h := ifT c1 h
      refine b_fgt [true, false, false, false, false, false] (ls' := [vR 376, vU, vU, vU, vU, vU]) rfl rfl ?_
      exact pl_X6_roots_197 hf _ h
    · have h := ifF c1 h
      refine b_aload_n dX6_roots_148 rfl ?_
      refine b_getM dX6_roots_149 fk_X6_47 ly_376 ?_
      refine b_aload_n dX6_roots_152 rfl ?_
      refine b_getM dX6_roots_153 fk_X6_47 ly_376 ?_
      refine b_cSi (as := [vR (m1 376 19)]) (st := [vR (m1 376 19)]) dX6_roots_156 mf_X6_high lk_X6_339 (p_X6_high (f := 1) (Nat.le_refl _) _ _ h) (by omega) rfl rfl (Nat.le_of_ble_eq_true rfl) (by decide) rfl (fun _ => rfl) (fun r2 m2 h => ?_) (fun _ h => h)
      refine b_aload_n dX6_roots_159 rfl ?_
      refine b_getM dX6_roots_160 fk_X6_50 ly_376 ?_
      refine b_aload_n dX6_roots_163 rfl ?_
      refine b_getM dX6_roots_164 fk_X6_50 ly_376 ?_
      refine b_cSi (as := [vR (m2 376 20)]) (st := [vR (m2 376 20), vI r2, vR (m1 376 19)]) dX6_roots_167 mf_X6_high lk_X6_339 (p_X6_high (f := 1) (Nat.le_refl _) _ _ h) (by omega) rfl rfl (Nat.le_of_ble_eq_true rfl) (by decide) rfl (fun _ => rfl) (fun r3 m3 h => ?_) (fun _ h => h)
      refine b_iload_n dX6_roots_170 rfl ?_
      refine b_cSv (as := [vR (m1 376 19), vI r2, vR (m2 376 20), vI r3, vI x1]) (st := []) dX6_roots_171 mf_X6_reduce lk_X6_346 (p_X6_reduce (f := 3) (Nat.le_refl _) _ _ _ _ _ _ h) (by omega) rfl rfl (Nat.le_of_ble_eq_true rfl) (by decide) rfl (fun _ => rfl) (fun r4 m4 h => ?_) (fun _ h => h)
      refine b_aload_n dX6_roots_174 rfl ?_
      refine b_getM dX6_roots_175 fk_X6_47 ly_376 ?_
      refine b_astore (ls' := [vR 376, vI x1, vU, vU, vU, vR (m4 376 19)]) dX6_roots_178 (Nat.le_of_ble_eq_true rfl) rfl ?_
      refine b_aload_n dX6_roots_180 rfl ?_
      refine b_aload_n dX6_roots_181 rfl ?_
      refine b_getM dX6_roots_182 fk_X6_50 ly_376 ?_
      refine b_putM dX6_roots_185 fk_X6_47 (Or.inr ⟨_, rfl⟩) ly_376 (fun m5 em5 => ?_)
      have h := h m5 em5
      refine b_aload_n dX6_roots_188 rfl ?_
      refine b_aload dX6_roots_189 rfl ?_
      refine b_putM dX6_roots_191 fk_X6_50 (Or.inr ⟨_, rfl⟩) ly_376 (fun m6 em6 => ?_)
      have h := h m6 em6
      refine b_goto 138 dX6_roots_194 (by decide) ?_
      refine b_fgt [true, true, false, false, false, false] (ls' := [vR 376, vI x1, vU, vU, vU, vU]) rfl rfl ?_
      exact ih _ _ h
theorem pl_X6_roots_120 {f : Nat} {Q : Int → MM → Prop} {T : MM → Prop} (hf : 5 ≤ f) : ∀ (x1 : Int) (m : MM), P_X6_roots_120 Q x1 m → B f M_X6_roots 120 [vR 376, vI x1, vU, vU, vU, vU] [] m Q T := by
  intro x1 m h
  have h : (inI (m 376 20) 1) ∧ (RI (((m (m 376 20) 1) + x1) - 1)) ∧ (RI x1) ∧ (x1 ≠ 0) ∧ ∀ m1 : MM, m1 = up m (m 376 20) 1 (Int.tmod (((m (m 376 20) 1) + x1) - 1) x1) → ∃ nn, P_X6_roots_138 Q nn x1 m1 := h
  refine b_aload_n dX6_roots_120 rfl ?_
  refine b_getM dX6_roots_121 fk_X6_50 ly_376 ?_
  refine b_iconst dX6_roots_124 ?_
  refine b_aload_n dX6_roots_125 rfl ?_
  refine b_getM dX6_roots_126 fk_X6_50 ly_376 ?_
  refine b_iconst dX6_roots_129 ?_
  obtain ⟨g1, h⟩ := h
  refine b_ialdX dX6_roots_130 g1 ?_
  refine b_iload_n dX6_roots_131 rfl ?_
  refine b_iadd dX6_roots_132 ?_
  refine b_iconst dX6_roots_133 ?_
  refine b_isub dX6_roots_134 ?_
  refine b_iload_n dX6_roots_135 rfl ?_
  obtain ⟨g2, h⟩ := h
  obtain ⟨g3, h⟩ := h
  obtain ⟨g4, h⟩ := h
  refine b_irem dX6_roots_136 g2 g3 g4 ?_
  refine b_iastX dX6_roots_137 g1 (fun m1 em1 => ?_)
  have h := h m1 em1
  obtain ⟨nn, h⟩ := h
  exact pl_X6_roots_138 hf nn _ _ h
theorem pl_X6_roots_88 {f : Nat} {Q : Int → MM → Prop} {T : MM → Prop} (hf : 5 ≤ f) : ∀ (n : Nat) (x1 : Int) (x3 : Int) (x4 : Int) (m : MM), P_X6_roots_88 Q n x1 x3 x4 m → B f M_X6_roots 88 [vR 376, vI x1, vU, vI x3, vI x4, vU] [] m Q T := by
  intro n
  induction n with
  | zero => intro x1 x3 x4 m h; exact h.elim
  | succ n ih =>
    intro x1 x3 x4 m h
    have h : (RI x4) ∧ (if x4 ≤ 0 then P_X6_roots_120 Q x1 m else ((RI (iAnd x1 x4))) ∧ P_X6_square x1 x3 (if (iAnd x1 x4) = 0 then 0 else 1 : Int) m (fun r1 m1 => P_X6_roots_88 Q n x1 x3 (Int.tdiv x4 2) m1)) := h
    refine b_iload dX6_roots_88 rfl ?_
    obtain ⟨g1, h⟩ := h
    refine b_if_le 120 dX6_roots_90 g1 (by decide) (fun c1 => ?_) (fun c1 => ?_)
    · have h := ifT c1 h
      refine b_fgt [true, true, false, false, false, false] (ls' := [vR 376, vI x1, vU, vU, vU, vU]) rfl rfl ?_
      exact pl_X6_roots_120 hf _ _ h
    · have h := ifF c1 h
      refine b_aload_n dX6_roots_93 rfl ?_
      refine b_iload_n dX6_roots_94 rfl ?_
      refine b_iload_n dX6_roots_95 rfl ?_
      refine b_iload_n dX6_roots_96 rfl ?_
      refine b_iload dX6_roots_97 rfl ?_
      refine b_iand dX6_roots_99 ?_
      obtain ⟨hs, h⟩ := h
      have K : B f M_X6_roots 108 [vR 376, vI x1, vU, vI x3, vI x4, vU] [vI (if (iAnd x1 x4) = 0 then 0 else 1 : Int), vI x3, vI x1, vR 376] m Q T := by
        clear hs
        refine b_cVv (as := [vI x1, vI x3, vI (if (iAnd x1 x4) = 0 then 0 else 1 : Int)]) (st := []) dX6_roots_108 mf_X6_square qs85 lk_X6_343 ly_376 rfl (p_X6_square (f := 4) (Nat.le_refl _) _ _ _ _ h) (by omega) rfl rfl (Nat.le_of_ble_eq_true rfl) (by decide) rfl (fun _ => rfl) (fun r1 m1 h => ?_) (fun _ h => h)
        refine b_iload dX6_roots_111 rfl ?_
        refine b_iconst dX6_roots_113 ?_
        refine b_idiv dX6_roots_114 g1 (by decide) (by decide) ?_
        refine b_istore (ls' := [vR 376, vI x1, vU, vI x3, vI (Int.tdiv x4 2), vU]) dX6_roots_115 (Nat.le_of_ble_eq_true rfl) rfl ?_
        refine b_goto 88 dX6_roots_117 (by decide) ?_
        exact ih _ _ _ _ h
      have g2 := hs
      refine b_if_ne 107 dX6_roots_100 g2 (by decide) (fun c2 => ?_) (fun c2 => ?_)
      ·
        refine b_iconst dX6_roots_107 ?_
        rw [if_neg c2] at K
        exact K
      ·
        have c2 := Decidable.of_not_not c2
        refine b_iconst dX6_roots_103 ?_
        refine b_goto 108 dX6_roots_104 (by decide) ?_
        rw [if_pos c2] at K
        exact K
theorem pl_X6_roots_71 {f : Nat} {Q : Int → MM → Prop} {T : MM → Prop} (hf : 5 ≤ f) : ∀ (n : Nat) (x1 : Int) (x3 : Int) (x4 : Int) (m : MM), P_X6_roots_71 Q n x1 x3 x4 m → B f M_X6_roots 71 [vR 376, vI x1, vU, vI x3, vI x4, vU] [] m Q T := by
  intro n
  induction n with
  | zero => intro x1 x3 x4 m h; exact h.elim
  | succ n ih =>
    intro x1 x3 x4 m h
    have h : (RI (2 * x4)) ∧ (RI x1) ∧ (if x1 < (2 * x4) then ∃ nn, P_X6_roots_88 Q nn x1 x3 x4 m else P_X6_roots_71 Q n x1 x3 (x4 * 2) m) := h
    refine b_iconst dX6_roots_71 ?_
    refine b_iload dX6_roots_72 rfl ?_
    refine b_imul dX6_roots_74 ?_
    refine b_iload_n dX6_roots_75 rfl ?_
    obtain ⟨g1, h⟩ := h
    obtain ⟨g2, h⟩ := h
    refine b_icmp_gt 88 dX6_roots_76 g1 g2 (by decide) (fun c1 => ?_) (fun c1 => ?_)
    · have h := ifT c1 h
      obtain ⟨nn, h⟩ := h
      exact pl_X6_roots_88 hf nn _ _ _ _ h
    · have h := ifF c1 h
      refine b_iload dX6_roots_79 rfl ?_
      refine b_iconst dX6_roots_81 ?_
      refine b_imul dX6_roots_82 ?_
      refine b_istore (ls' := [vR 376, vI x1, vU, vI x3, vI (x4 * 2), vU]) dX6_roots_83 (Nat.le_of_ble_eq_true rfl) rfl ?_
      refine b_goto 71 dX6_roots_85 (by decide) ?_
      exact ih _ _ _ _ h
theorem pl_X6_roots_45 {f : Nat} {Q : Int → MM → Prop} {T : MM → Prop} (hf : 5 ≤ f) : ∀ (x1 : Int) (m : MM), P_X6_roots_45 Q x1 m → B f M_X6_roots 45 [vR 376, vI x1, vU, vU, vU, vU] [] m Q T := by
  intro x1 m h
  have h : P_X6_high (m 376 19) m (fun r1 m1 => (RI r1) ∧ (if 1 ≤ r1 then ∃ nn, P_X6_roots_71 Q nn x1 r1 1 m1 else (if 0 ≤ r1 then Q 0 m1 else Q x1 m1))) := h
  refine b_aload_n dX6_roots_45 rfl ?_
  refine b_getM dX6_roots_46 fk_X6_47 ly_376 ?_
  refine b_cSi (as := [vR (m 376 19)]) (st := []) dX6_roots_49 mf_X6_high lk_X6_339 (p_X6_high (f := 1) (Nat.le_refl _) _ _ h) (by omega) rfl rfl (Nat.le_of_ble_eq_true rfl) (by decide) rfl (fun _ => rfl) (fun r1 m1 h => ?_) (fun _ h => h)
  refine b_istore_n (ls' := [vR 376, vI x1, vU, vI r1, vU, vU]) dX6_roots_52 (Nat.le_of_ble_eq_true rfl) rfl ?_
  refine b_iload_n dX6_roots_53 rfl ?_
  refine b_iconst dX6_roots_54 ?_
  obtain ⟨g1, h⟩ := h
  refine b_icmp_ge 68 dX6_roots_55 g1 (by decide) (by decide) (fun c1 => ?_) (fun c1 => ?_)
  · have h := ifT c1 h
    refine b_iconst dX6_roots_68 ?_
    refine b_istore (ls' := [vR 376, vI x1, vU, vI r1, vI 1, vU]) dX6_roots_69 (Nat.le_of_ble_eq_true rfl) rfl ?_
    obtain ⟨nn, h⟩ := h
    exact pl_X6_roots_71 hf nn _ _ _ _ h
  · have h := ifF c1 h
    refine b_iload_n dX6_roots_58 rfl ?_
    refine b_if_ge 66 dX6_roots_59 g1 (by decide) (fun c2 => ?_) (fun c2 => ?_)
    · have h := ifT c2 h
      refine b_iconst dX6_roots_66 ?_
      exact b_iret dX6_roots_67 rfl h
    · have h := ifF c2 h
      refine b_iload_n dX6_roots_62 rfl ?_
      refine b_goto 67 dX6_roots_63 (by decide) ?_
      exact b_iret dX6_roots_67 rfl h
theorem pl_X6_roots_2 {f : Nat} {Q : Int → MM → Prop} {T : MM → Prop} (hf : 5 ≤ f) : ∀ (n : Nat) (x1 : Int) (x2 : Int) (x3 : Int) (m : MM), P_X6_roots_2 Q n x1 x2 x3 m → B f M_X6_roots 2 [vR 376, vI x1, vI x2, vI x3, vU, vU] [] m Q T := by
  intro n
  induction n with
  | zero => intro x1 x2 x3 m h; exact h.elim
  | succ n ih =>
    intro x1 x2 x3 m h
    have h : (RI x3) ∧ (if 7 ≤ x3 then P_X6_roots_45 Q x1 m else (0 ≤ (x2 + (2 * x3)) ∧ (x2 + (2 * x3)) < 1159540) ∧ (inI (m 376 19) x3) ∧ ∀ m1 : MM, m1 = up m (m 376 19) x3 (m 379 (x2 + (2 * x3))) → (if x3 = 0 then (inI (m1 376 20) x3) ∧ ∀ m3 : MM, m3 = up m1 (m1 376 20) x3 1 → P_X6_roots_2 Q n x1 x2 (x3 + 1) m3 else (inI (m1 376 20) x3) ∧ ∀ m2 : MM, m2 = up m1 (m1 376 20) x3 0 → P_X6_roots_2 Q n x1 x2 (x3 + 1) m2)) := h
    refine b_iload_n dX6_roots_2 rfl ?_
    refine b_bipush dX6_roots_3 (by decide) ?_
    obtain ⟨g1, h⟩ := h
    refine b_icmp_ge 45 dX6_roots_5 g1 (by decide) (by decide) (fun c1 => ?_) (fun c1 => ?_)
    · have h := ifT c1 h
      refine b_fgt [true, true, false, false, false, false] (ls' := [vR 376, vI x1, vU, vU, vU, vU]) rfl rfl ?_
      exact pl_X6_roots_45 hf _ _ h
    · have h := ifF c1 h
      refine b_aload_n dX6_roots_8 rfl ?_
      refine b_getM dX6_roots_9 fk_X6_47 ly_376 ?_
      refine b_iload_n dX6_roots_12 rfl ?_
      refine b_aload_n dX6_roots_13 rfl ?_
      refine b_getR dX6_roots_14 fk_X6_73 ly_376 gg_376_4 ?_
      refine b_iload_n dX6_roots_17 rfl ?_
      refine b_iconst dX6_roots_18 ?_
      refine b_iload_n dX6_roots_19 rfl ?_
      refine b_imul dX6_roots_20 ?_
      refine b_iadd dX6_roots_21 ?_
      obtain ⟨g2, h⟩ := h
      refine b_iald dX6_roots_22 ly_379 g2 ?_
      obtain ⟨g3, h⟩ := h
      refine b_iastX dX6_roots_23 g3 (fun m1 em1 => ?_)
      have h := h m1 em1
      refine b_aload_n dX6_roots_24 rfl ?_
      refine b_getM dX6_roots_25 fk_X6_50 ly_376 ?_
      refine b_iload_n dX6_roots_28 rfl ?_
      refine b_iload_n dX6_roots_29 rfl ?_
      refine b_if_ne 37 dX6_roots_30 g1 (by decide) (fun c2 => ?_) (fun c2 => ?_)
      · have h := ifF c2 h
        refine b_iconst dX6_roots_37 ?_
        obtain ⟨g4, h⟩ := h
        refine b_iastX dX6_roots_38 g4 (fun m2 em2 => ?_)
        have h := h m2 em2
        refine b_iinc (ls' := [vR 376, vI x1, vI x2, vI (x3 + 1), vU, vU]) dX6_roots_39 rfl rfl ?_
        refine b_goto 2 dX6_roots_42 (by decide) ?_
        exact ih _ _ _ _ h
      · have h := ifT (Decidable.of_not_not c2) h
        refine b_iconst dX6_roots_33 ?_
        refine b_goto 38 dX6_roots_34 (by decide) ?_
        obtain ⟨g5, h⟩ := h
        refine b_iastX dX6_roots_38 g5 (fun m3 em3 => ?_)
        have h := h m3 em3
        refine b_iinc (ls' := [vR 376, vI x1, vI x2, vI (x3 + 1), vU, vU]) dX6_roots_39 rfl rfl ?_
        refine b_goto 2 dX6_roots_42 (by decide) ?_
        exact ih _ _ _ _ h
theorem p_X6_roots {f : Nat} {Q : Int → MM → Prop} {T : MM → Prop} (hf : 5 ≤ f) (x1 : Int) (x2 : Int) (m : MM) (h : P_X6_roots x1 x2 m Q) : CC f M_X6_roots [vR 376, vI x1, vI x2] m Q T := by
  refine CC.of (plainFor_of_name (by decide)) (Nat.le_of_ble_eq_true rfl) (ls := [vR 376, vI x1, vI x2, vU, vU, vU]) rfl ?_
  have h : ∃ nn, P_X6_roots_2 Q nn x1 x2 0 m := h
  refine b_iconst dX6_roots_0 ?_
  refine b_istore_n (ls' := [vR 376, vI x1, vI x2, vI 0, vU, vU]) dX6_roots_1 (Nat.le_of_ble_eq_true rfl) rfl ?_
  obtain ⟨nn, h⟩ := h
  exact pl_X6_roots_2 hf nn _ _ _ _ h
theorem dX6_trace_0 : decode cX6_trace 0 = .ok (.iload_n 1, 1) := by decide +kernel
theorem dX6_trace_1 : decode cX6_trace 1 = .ok (.invokestatic 154, 3) := by decide +kernel
theorem dX6_trace_4 : decode cX6_trace 4 = .ok (.istore_n 3, 1) := by decide +kernel
theorem dX6_trace_5 : decode cX6_trace 5 = .ok (.aload_n 0, 1) := by decide +kernel
theorem dX6_trace_6 : decode cX6_trace 6 = .ok (.getfield 21, 3) := by decide +kernel
theorem dX6_trace_9 : decode cX6_trace 9 = .ok (.ldc 157, 2) := by decide +kernel
theorem dX6_trace_11 : decode cX6_trace 11 = .ok (.iload_n 3, 1) := by decide +kernel
theorem dX6_trace_12 : decode cX6_trace 12 = .ok (.invokevirtual 175, 3) := by decide +kernel
theorem dX6_trace_15 : decode cX6_trace 15 = .ok (.iconst 0, 1) := by decide +kernel
theorem dX6_trace_16 : decode cX6_trace 16 = .ok (.istore 4, 2) := by decide +kernel
theorem dX6_trace_18 : decode cX6_trace 18 = .ok (.iload 4, 2) := by decide +kernel
theorem dX6_trace_20 : decode cX6_trace 20 = .ok (.iload_n 1, 1) := by decide +kernel
theorem dX6_trace_21 : decode cX6_trace 21 = .ok (.invokestatic 336, 3) := by decide +kernel
theorem dX6_trace_24 : decode cX6_trace 24 = .ok (.if_icmp .ge 52, 3) := by decide +kernel
theorem dX6_trace_27 : decode cX6_trace 27 = .ok (.aload_n 0, 1) := by decide +kernel
theorem dX6_trace_28 : decode cX6_trace 28 = .ok (.getfield 21, 3) := by decide +kernel
theorem dX6_trace_31 : decode cX6_trace 31 = .ok (.getfield 109, 3) := by decide +kernel
theorem dX6_trace_34 : decode cX6_trace 34 = .ok (.ifCond .ne 42, 3) := by decide +kernel
theorem dX6_trace_37 : decode cX6_trace 37 = .ok (.aload_n 0, 1) := by decide +kernel
theorem dX6_trace_38 : decode cX6_trace 38 = .ok (.getfield 21, 3) := by decide +kernel
theorem dX6_trace_41 : decode cX6_trace 41 = .ok (.iload_n 1, 1) := by decide +kernel
theorem dX6_trace_42 : decode cX6_trace 42 = .ok (.invokestatic 197, 3) := by decide +kernel
theorem dX6_trace_45 : decode cX6_trace 45 = .ok (.ldc 157, 2) := by decide +kernel
theorem dX6_trace_47 : decode cX6_trace 47 = .ok (.iload_n 2, 1) := by decide +kernel
theorem dX6_trace_48 : decode cX6_trace 48 = .ok (.iconst 2, 1) := by decide +kernel
theorem dX6_trace_49 : decode cX6_trace 49 = .ok (.iload_n 3, 1) := by decide +kernel
theorem dX6_trace_50 : decode cX6_trace 50 = .ok (.imul, 1) := by decide +kernel
theorem dX6_trace_51 : decode cX6_trace 51 = .ok (.iload_n 1, 1) := by decide +kernel
theorem dX6_trace_52 : decode cX6_trace 52 = .ok (.invokestatic 336, 3) := by decide +kernel
theorem dX6_trace_55 : decode cX6_trace 55 = .ok (.iload 4, 2) := by decide +kernel
theorem dX6_trace_57 : decode cX6_trace 57 = .ok (.imul, 1) := by decide +kernel
theorem dX6_trace_58 : decode cX6_trace 58 = .ok (.iload 4, 2) := by decide +kernel
theorem dX6_trace_60 : decode cX6_trace 60 = .ok (.iadd, 1) := by decide +kernel
theorem dX6_trace_61 : decode cX6_trace 61 = .ok (.imul, 1) := by decide +kernel
theorem dX6_trace_62 : decode cX6_trace 62 = .ok (.iadd, 1) := by decide +kernel
theorem dX6_trace_63 : decode cX6_trace 63 = .ok (.ldc 157, 2) := by decide +kernel
theorem dX6_trace_65 : decode cX6_trace 65 = .ok (.iload_n 3, 1) := by decide +kernel
theorem dX6_trace_66 : decode cX6_trace 66 = .ok (.iconst 0, 1) := by decide +kernel
theorem dX6_trace_67 : decode cX6_trace 67 = .ok (.invokevirtual 255, 3) := by decide +kernel
theorem dX6_trace_70 : decode cX6_trace 70 = .ok (.iinc 4 1, 3) := by decide +kernel
theorem dX6_trace_73 : decode cX6_trace 73 = .ok (.goto (-55), 3) := by decide +kernel
theorem dX6_trace_76 : decode cX6_trace 76 = .ok (.return_, 1) := by decide +kernel
/-! AlgebraHouse$Machine.trace(II)V -/
def P_X6_trace_18 (Q : Int → MM → Prop) : Nat → Int → Int → Int → Int → MM → Prop
  | 0, _, _, _, _, _ => False
  | n + 1, x1, x2, x3, x4, m => P_X11_size x1 m (fun r1 m1 => (RI x4) ∧ (RI r1) ∧ (if r1 ≤ x4 then Q 0 m1 else (RI (m1 378 2)) ∧ (if (m1 378 2) = 0 then P_X11_base x1 m1 (fun r2 m2 => P_X11_size x1 m2 (fun r3 m3 => P_X8_addAll r2 1155420 (x2 + ((2 * x3) * ((r3 * x4) + x4))) 1155420 x3 0 m3 (fun r4 m4 => P_X6_trace_18 Q n x1 x2 x3 (x4 + 1) m4))) else Q 0 m1)))
def P_X6_trace (x1 : Int) (x2 : Int) (m : MM) (Q : Int → MM → Prop) : Prop := P_X11_coefficients x1 m (fun r1 m1 => P_X8_clear 1155420 r1 m1 (fun r2 m2 => ∃ nn, P_X6_trace_18 Q nn x1 x2 r1 0 m2))
theorem pl_X6_trace_18 {f : Nat} {Q : Int → MM → Prop} {T : MM → Prop} (hf : 6 ≤ f) : ∀ (n : Nat) (x1 : Int) (x2 : Int) (x3 : Int) (x4 : Int) (m : MM), P_X6_trace_18 Q n x1 x2 x3 x4 m → B f M_X6_trace 18 [vR 376, vI x1, vI x2, vI x3, vI x4] [] m Q T := by
  intro n
  induction n with
  | zero => intro x1 x2 x3 x4 m h; exact h.elim
  | succ n ih =>
    intro x1 x2 x3 x4 m h
    have h : P_X11_size x1 m (fun r1 m1 => (RI x4) ∧ (RI r1) ∧ (if r1 ≤ x4 then Q 0 m1 else (RI (m1 378 2)) ∧ (if (m1 378 2) = 0 then P_X11_base x1 m1 (fun r2 m2 => P_X11_size x1 m2 (fun r3 m3 => P_X8_addAll r2 1155420 (x2 + ((2 * x3) * ((r3 * x4) + x4))) 1155420 x3 0 m3 (fun r4 m4 => P_X6_trace_18 Q n x1 x2 x3 (x4 + 1) m4))) else Q 0 m1))) := h
    refine b_iload dX6_trace_18 rfl ?_
    refine b_iload_n dX6_trace_20 rfl ?_
    refine b_cSi (as := [vI x1]) (st := [vI x4]) dX6_trace_21 mf_X11_size lk_X6_336 (p_X11_size (f := 1) (Nat.le_refl _) _ _ h) (by omega) rfl rfl (Nat.le_of_ble_eq_true rfl) (by decide) rfl (fun _ => rfl) (fun r1 m1 h => ?_) (fun _ h => h)
    obtain ⟨g1, h⟩ := h
    obtain ⟨g2, h⟩ := h
    refine b_icmp_ge 76 dX6_trace_24 g1 g2 (by decide) (fun c1 => ?_) (fun c1 => ?_)
    · have h := ifT c1 h
      exact b_vret dX6_trace_76 rfl h
    · have h := ifF c1 h
      refine b_aload_n dX6_trace_27 rfl ?_
      refine b_getR dX6_trace_28 fk_X6_21 ly_376 gg_376_3 ?_
      refine b_getI dX6_trace_31 fk_X6_109 ly_378 ?_
      obtain ⟨g3, h⟩ := h
      refine b_if_ne 76 dX6_trace_34 g3 (by decide) (fun c2 => ?_) (fun c2 => ?_)
      · have h := ifF c2 h
        exact b_vret dX6_trace_76 rfl h
      · have h := ifT (Decidable.of_not_not c2) h
        refine b_aload_n dX6_trace_37 rfl ?_
        refine b_getR dX6_trace_38 fk_X6_21 ly_376 gg_376_3 ?_
        refine b_iload_n dX6_trace_41 rfl ?_
        refine b_cSi (as := [vI x1]) (st := [vR 378]) dX6_trace_42 mf_X11_base lk_X6_197 (p_X11_base (f := 1) (Nat.le_refl _) _ _ h) (by omega) rfl rfl (Nat.le_of_ble_eq_true rfl) (by decide) rfl (fun _ => rfl) (fun r2 m2 h => ?_) (fun _ h => h)
        refine b_ldc (1155420) dX6_trace_45 q1374 (by decide) ?_
        refine b_iload_n dX6_trace_47 rfl ?_
        refine b_iconst dX6_trace_48 ?_
        refine b_iload_n dX6_trace_49 rfl ?_
        refine b_imul dX6_trace_50 ?_
        refine b_iload_n dX6_trace_51 rfl ?_
        refine b_cSi (as := [vI x1]) (st := [vI (2 * x3), vI x2, vI 1155420, vI r2, vR 378]) dX6_trace_52 mf_X11_size lk_X6_336 (p_X11_size (f := 1) (Nat.le_refl _) _ _ h) (by omega) rfl rfl (Nat.le_of_ble_eq_true rfl) (by decide) rfl (fun _ => rfl) (fun r3 m3 h => ?_) (fun _ h => h)
        refine b_iload dX6_trace_55 rfl ?_
        refine b_imul dX6_trace_57 ?_
        refine b_iload dX6_trace_58 rfl ?_
        refine b_iadd dX6_trace_60 ?_
        refine b_imul dX6_trace_61 ?_
        refine b_iadd dX6_trace_62 ?_
        refine b_ldc (1155420) dX6_trace_63 q1374 (by decide) ?_
        refine b_iload_n dX6_trace_65 rfl ?_
        refine b_iconst dX6_trace_66 ?_
        refine b_cVv (as := [vI r2, vI 1155420, vI (x2 + ((2 * x3) * ((r3 * x4) + x4))), vI 1155420, vI x3, vI 0]) (st := []) dX6_trace_67 mf_X8_addAll q1426 lk_X6_255 ly_378 rfl (p_X8_addAll (f := 5) (Nat.le_refl _) _ _ _ _ _ _ _ h) (by omega) rfl rfl (Nat.le_of_ble_eq_true rfl) (by decide) rfl (fun _ => rfl) (fun r4 m4 h => ?_) (fun _ h => h)
        refine b_iinc (ls' := [vR 376, vI x1, vI x2, vI x3, vI (x4 + 1)]) dX6_trace_70 rfl rfl ?_
        refine b_goto 18 dX6_trace_73 (by decide) ?_
        exact ih _ _ _ _ _ h
theorem p_X6_trace {f : Nat} {Q : Int → MM → Prop} {T : MM → Prop} (hf : 6 ≤ f) (x1 : Int) (x2 : Int) (m : MM) (h : P_X6_trace x1 x2 m Q) : CC f M_X6_trace [vR 376, vI x1, vI x2] m Q T := by
  refine CC.of (plainFor_of_name (by decide)) (Nat.le_of_ble_eq_true rfl) (ls := [vR 376, vI x1, vI x2, vU, vU]) rfl ?_
  have h : P_X11_coefficients x1 m (fun r1 m1 => P_X8_clear 1155420 r1 m1 (fun r2 m2 => ∃ nn, P_X6_trace_18 Q nn x1 x2 r1 0 m2)) := h
  refine b_iload_n dX6_trace_0 rfl ?_
  refine b_cSi (as := [vI x1]) (st := []) dX6_trace_1 mf_X11_coefficients lk_X6_154 (p_X11_coefficients (f := 2) (Nat.le_refl _) _ _ h) (by omega) rfl rfl (Nat.le_of_ble_eq_true rfl) (by decide) rfl (fun _ => rfl) (fun r1 m1 h => ?_) (fun _ h => h)
  refine b_istore_n (ls' := [vR 376, vI x1, vI x2, vI r1, vU]) dX6_trace_4 (Nat.le_of_ble_eq_true rfl) rfl ?_
  refine b_aload_n dX6_trace_5 rfl ?_
  refine b_getR dX6_trace_6 fk_X6_21 ly_376 gg_376_3 ?_
  refine b_ldc (1155420) dX6_trace_9 q1374 (by decide) ?_
  refine b_iload_n dX6_trace_11 rfl ?_
  refine b_cVv (as := [vI 1155420, vI r1]) (st := []) dX6_trace_12 mf_X8_clear q1305 lk_X6_175 ly_378 rfl (p_X8_clear (f := 1) (Nat.le_refl _) _ _ _ h) (by omega) rfl rfl (Nat.le_of_ble_eq_true rfl) (by decide) rfl (fun _ => rfl) (fun r2 m2 h => ?_) (fun _ h => h)
  refine b_iconst dX6_trace_15 ?_
  refine b_istore (ls' := [vR 376, vI x1, vI x2, vI r1, vI 0]) dX6_trace_16 (Nat.le_of_ble_eq_true rfl) rfl ?_
  obtain ⟨nn, h⟩ := h
  exact pl_X6_trace_18 hf nn _ _ _ _ _ h
theorem dX6_turned_0 : decode cX6_turned 0 = .ok (.iload_n 1, 1) := by decide +kernel
theorem dX6_turned_1 : decode cX6_turned 1 = .ok (.invokestatic 154, 3) := by decide +kernel
theorem dX6_turned_4 : decode cX6_turned 4 = .ok (.istore_n 3, 1) := by decide +kernel
theorem dX6_turned_5 : decode cX6_turned 5 = .ok (.iload_n 1, 1) := by decide +kernel
theorem dX6_turned_6 : decode cX6_turned 6 = .ok (.invokestatic 336, 3) := by decide +kernel
theorem dX6_turned_9 : decode cX6_turned 9 = .ok (.istore 4, 2) := by decide +kernel
theorem dX6_turned_11 : decode cX6_turned 11 = .ok (.iconst 0, 1) := by decide +kernel
theorem dX6_turned_12 : decode cX6_turned 12 = .ok (.istore 5, 2) := by decide +kernel
theorem dX6_turned_14 : decode cX6_turned 14 = .ok (.iload 5, 2) := by decide +kernel
theorem dX6_turned_16 : decode cX6_turned 16 = .ok (.iload 4, 2) := by decide +kernel
theorem dX6_turned_18 : decode cX6_turned 18 = .ok (.iload 4, 2) := by decide +kernel
theorem dX6_turned_20 : decode cX6_turned 20 = .ok (.imul, 1) := by decide +kernel
theorem dX6_turned_21 : decode cX6_turned 21 = .ok (.if_icmp .ge 46, 3) := by decide +kernel
theorem dX6_turned_24 : decode cX6_turned 24 = .ok (.aload_n 0, 1) := by decide +kernel
theorem dX6_turned_25 : decode cX6_turned 25 = .ok (.getfield 21, 3) := by decide +kernel
theorem dX6_turned_28 : decode cX6_turned 28 = .ok (.iload_n 2, 1) := by decide +kernel
theorem dX6_turned_29 : decode cX6_turned 29 = .ok (.iconst 2, 1) := by decide +kernel
theorem dX6_turned_30 : decode cX6_turned 30 = .ok (.iload_n 3, 1) := by decide +kernel
theorem dX6_turned_31 : decode cX6_turned 31 = .ok (.imul, 1) := by decide +kernel
theorem dX6_turned_32 : decode cX6_turned 32 = .ok (.iload 5, 2) := by decide +kernel
theorem dX6_turned_34 : decode cX6_turned 34 = .ok (.imul, 1) := by decide +kernel
theorem dX6_turned_35 : decode cX6_turned 35 = .ok (.iadd, 1) := by decide +kernel
theorem dX6_turned_36 : decode cX6_turned 36 = .ok (.ldc 157, 2) := by decide +kernel
theorem dX6_turned_38 : decode cX6_turned 38 = .ok (.iconst 2, 1) := by decide +kernel
theorem dX6_turned_39 : decode cX6_turned 39 = .ok (.iload_n 3, 1) := by decide +kernel
theorem dX6_turned_40 : decode cX6_turned 40 = .ok (.imul, 1) := by decide +kernel
theorem dX6_turned_41 : decode cX6_turned 41 = .ok (.iload 4, 2) := by decide +kernel
theorem dX6_turned_43 : decode cX6_turned 43 = .ok (.iload 5, 2) := by decide +kernel
theorem dX6_turned_45 : decode cX6_turned 45 = .ok (.iload 4, 2) := by decide +kernel
theorem dX6_turned_47 : decode cX6_turned 47 = .ok (.irem, 1) := by decide +kernel
theorem dX6_turned_48 : decode cX6_turned 48 = .ok (.imul, 1) := by decide +kernel
theorem dX6_turned_49 : decode cX6_turned 49 = .ok (.iload 5, 2) := by decide +kernel
theorem dX6_turned_51 : decode cX6_turned 51 = .ok (.iload 4, 2) := by decide +kernel
theorem dX6_turned_53 : decode cX6_turned 53 = .ok (.idiv, 1) := by decide +kernel
theorem dX6_turned_54 : decode cX6_turned 54 = .ok (.iadd, 1) := by decide +kernel
theorem dX6_turned_55 : decode cX6_turned 55 = .ok (.imul, 1) := by decide +kernel
theorem dX6_turned_56 : decode cX6_turned 56 = .ok (.iadd, 1) := by decide +kernel
theorem dX6_turned_57 : decode cX6_turned 57 = .ok (.iload_n 3, 1) := by decide +kernel
theorem dX6_turned_58 : decode cX6_turned 58 = .ok (.invokevirtual 161, 3) := by decide +kernel
theorem dX6_turned_61 : decode cX6_turned 61 = .ok (.iinc 5 1, 3) := by decide +kernel
theorem dX6_turned_64 : decode cX6_turned 64 = .ok (.goto (-50), 3) := by decide +kernel
theorem dX6_turned_67 : decode cX6_turned 67 = .ok (.return_, 1) := by decide +kernel
/-! AlgebraHouse$Machine.turned(II)V -/
def P_X6_turned_14 (Q : Int → MM → Prop) : Nat → Int → Int → Int → Int → MM → Prop
  | 0, _, _, _, _, _ => False
  | n + 1, x2, x3, x4, x5, m => (RI x5) ∧ (RI (x4 * x4)) ∧ (if (x4 * x4) ≤ x5 then Q 0 m else (RI x4) ∧ (x4 ≠ 0) ∧ P_X8_copy (x2 + ((2 * x3) * x5)) (1155420 + ((2 * x3) * ((x4 * (Int.tmod x5 x4)) + (Int.tdiv x5 x4)))) x3 m (fun r1 m1 => P_X6_turned_14 Q n x2 x3 x4 (x5 + 1) m1))
def P_X6_turned (x1 : Int) (x2 : Int) (m : MM) (Q : Int → MM → Prop) : Prop := P_X11_coefficients x1 m (fun r1 m1 => P_X11_size x1 m1 (fun r2 m2 => ∃ nn, P_X6_turned_14 Q nn x2 r1 r2 0 m2))
theorem pl_X6_turned_14 {f : Nat} {Q : Int → MM → Prop} {T : MM → Prop} (hf : 3 ≤ f) : ∀ (n : Nat) (x2 : Int) (x3 : Int) (x4 : Int) (x5 : Int) (m : MM), P_X6_turned_14 Q n x2 x3 x4 x5 m → B f M_X6_turned 14 [vR 376, vU, vI x2, vI x3, vI x4, vI x5] [] m Q T := by
  intro n
  induction n with
  | zero => intro x2 x3 x4 x5 m h; exact h.elim
  | succ n ih =>
    intro x2 x3 x4 x5 m h
    have h : (RI x5) ∧ (RI (x4 * x4)) ∧ (if (x4 * x4) ≤ x5 then Q 0 m else (RI x4) ∧ (x4 ≠ 0) ∧ P_X8_copy (x2 + ((2 * x3) * x5)) (1155420 + ((2 * x3) * ((x4 * (Int.tmod x5 x4)) + (Int.tdiv x5 x4)))) x3 m (fun r1 m1 => P_X6_turned_14 Q n x2 x3 x4 (x5 + 1) m1)) := h
    refine b_iload dX6_turned_14 rfl ?_
    refine b_iload dX6_turned_16 rfl ?_
    refine b_iload dX6_turned_18 rfl ?_
    refine b_imul dX6_turned_20 ?_
    obtain ⟨g1, h⟩ := h
    obtain ⟨g2, h⟩ := h
    refine b_icmp_ge 67 dX6_turned_21 g1 g2 (by decide) (fun c1 => ?_) (fun c1 => ?_)
    · have h := ifT c1 h
      exact b_vret dX6_turned_67 rfl h
    · have h := ifF c1 h
      refine b_aload_n dX6_turned_24 rfl ?_
      refine b_getR dX6_turned_25 fk_X6_21 ly_376 gg_376_3 ?_
      refine b_iload_n dX6_turned_28 rfl ?_
      refine b_iconst dX6_turned_29 ?_
      refine b_iload_n dX6_turned_30 rfl ?_
      refine b_imul dX6_turned_31 ?_
      refine b_iload dX6_turned_32 rfl ?_
      refine b_imul dX6_turned_34 ?_
      refine b_iadd dX6_turned_35 ?_
      refine b_ldc (1155420) dX6_turned_36 q1374 (by decide) ?_
      refine b_iconst dX6_turned_38 ?_
      refine b_iload_n dX6_turned_39 rfl ?_
      refine b_imul dX6_turned_40 ?_
      refine b_iload dX6_turned_41 rfl ?_
      refine b_iload dX6_turned_43 rfl ?_
      refine b_iload dX6_turned_45 rfl ?_
      obtain ⟨g3, h⟩ := h
      obtain ⟨g4, h⟩ := h
      refine b_irem dX6_turned_47 g1 g3 g4 ?_
      refine b_imul dX6_turned_48 ?_
      refine b_iload dX6_turned_49 rfl ?_
      refine b_iload dX6_turned_51 rfl ?_
      refine b_idiv dX6_turned_53 g1 g3 g4 ?_
      refine b_iadd dX6_turned_54 ?_
      refine b_imul dX6_turned_55 ?_
      refine b_iadd dX6_turned_56 ?_
      refine b_iload_n dX6_turned_57 rfl ?_
      refine b_cVv (as := [vI (x2 + ((2 * x3) * x5)), vI (1155420 + ((2 * x3) * ((x4 * (Int.tmod x5 x4)) + (Int.tdiv x5 x4)))), vI x3]) (st := []) dX6_turned_58 mf_X8_copy q1320 lk_X6_161 ly_378 rfl (p_X8_copy (f := 2) (Nat.le_refl _) _ _ _ _ h) (by omega) rfl rfl (Nat.le_of_ble_eq_true rfl) (by decide) rfl (fun _ => rfl) (fun r1 m1 h => ?_) (fun _ h => h)
      refine b_iinc (ls' := [vR 376, vU, vI x2, vI x3, vI x4, vI (x5 + 1)]) dX6_turned_61 rfl rfl ?_
      refine b_goto 14 dX6_turned_64 (by decide) ?_
      exact ih _ _ _ _ _ h
theorem p_X6_turned {f : Nat} {Q : Int → MM → Prop} {T : MM → Prop} (hf : 3 ≤ f) (x1 : Int) (x2 : Int) (m : MM) (h : P_X6_turned x1 x2 m Q) : CC f M_X6_turned [vR 376, vI x1, vI x2] m Q T := by
  refine CC.of (plainFor_of_name (by decide)) (Nat.le_of_ble_eq_true rfl) (ls := [vR 376, vI x1, vI x2, vU, vU, vU]) rfl ?_
  have h : P_X11_coefficients x1 m (fun r1 m1 => P_X11_size x1 m1 (fun r2 m2 => ∃ nn, P_X6_turned_14 Q nn x2 r1 r2 0 m2)) := h
  refine b_iload_n dX6_turned_0 rfl ?_
  refine b_cSi (as := [vI x1]) (st := []) dX6_turned_1 mf_X11_coefficients lk_X6_154 (p_X11_coefficients (f := 2) (Nat.le_refl _) _ _ h) (by omega) rfl rfl (Nat.le_of_ble_eq_true rfl) (by decide) rfl (fun _ => rfl) (fun r1 m1 h => ?_) (fun _ h => h)
  refine b_istore_n (ls' := [vR 376, vI x1, vI x2, vI r1, vU, vU]) dX6_turned_4 (Nat.le_of_ble_eq_true rfl) rfl ?_
  refine b_iload_n dX6_turned_5 rfl ?_
  refine b_cSi (as := [vI x1]) (st := []) dX6_turned_6 mf_X11_size lk_X6_336 (p_X11_size (f := 1) (Nat.le_refl _) _ _ h) (by omega) rfl rfl (Nat.le_of_ble_eq_true rfl) (by decide) rfl (fun _ => rfl) (fun r2 m2 h => ?_) (fun _ h => h)
  refine b_istore (ls' := [vR 376, vI x1, vI x2, vI r1, vI r2, vU]) dX6_turned_9 (Nat.le_of_ble_eq_true rfl) rfl ?_
  refine b_iconst dX6_turned_11 ?_
  refine b_istore (ls' := [vR 376, vI x1, vI x2, vI r1, vI r2, vI 0]) dX6_turned_12 (Nat.le_of_ble_eq_true rfl) rfl ?_
  refine b_fgt [true, false, true, true, true, true] (ls' := [vR 376, vU, vI x2, vI r1, vI r2, vI 0]) rfl rfl ?_
  obtain ⟨nn, h⟩ := h
  exact pl_X6_turned_14 hf nn _ _ _ _ _ h
theorem dX6_function_0 : decode cX6_function 0 = .ok (.aload_n 0, 1) := by decide +kernel
theorem dX6_function_1 : decode cX6_function 1 = .ok (.getfield 31, 3) := by decide +kernel
theorem dX6_function_4 : decode cX6_function 4 = .ok (.aload_n 0, 1) := by decide +kernel
theorem dX6_function_5 : decode cX6_function 5 = .ok (.getfield 112, 3) := by decide +kernel
theorem dX6_function_8 : decode cX6_function 8 = .ok (.iconst 1, 1) := by decide +kernel
theorem dX6_function_9 : decode cX6_function 9 = .ok (.isub, 1) := by decide +kernel
theorem dX6_function_10 : decode cX6_function 10 = .ok (.iaload, 1) := by decide +kernel
theorem dX6_function_11 : decode cX6_function 11 = .ok (.istore 4, 2) := by decide +kernel
theorem dX6_function_13 : decode cX6_function 13 = .ok (.iload_n 1, 1) := by decide +kernel
theorem dX6_function_14 : decode cX6_function 14 = .ok (.ifCond .eq 13, 3) := by decide +kernel
theorem dX6_function_17 : decode cX6_function 17 = .ok (.iload_n 1, 1) := by decide +kernel
theorem dX6_function_18 : decode cX6_function 18 = .ok (.iconst 2, 1) := by decide +kernel
theorem dX6_function_19 : decode cX6_function 19 = .ok (.if_icmp .eq 8, 3) := by decide +kernel
theorem dX6_function_22 : decode cX6_function 22 = .ok (.iload_n 1, 1) := by decide +kernel
theorem dX6_function_23 : decode cX6_function 23 = .ok (.iconst 3, 1) := by decide +kernel
theorem dX6_function_24 : decode cX6_function 24 = .ok (.if_icmp .ne 7, 3) := by decide +kernel
theorem dX6_function_27 : decode cX6_function 27 = .ok (.iconst 2, 1) := by decide +kernel
theorem dX6_function_28 : decode cX6_function 28 = .ok (.goto 4, 3) := by decide +kernel
theorem dX6_function_31 : decode cX6_function 31 = .ok (.iconst 1, 1) := by decide +kernel
theorem dX6_function_32 : decode cX6_function 32 = .ok (.istore 5, 2) := by decide +kernel
theorem dX6_function_34 : decode cX6_function 34 = .ok (.iload_n 2, 1) := by decide +kernel
theorem dX6_function_35 : decode cX6_function 35 = .ok (.invokestatic 197, 3) := by decide +kernel
theorem dX6_function_38 : decode cX6_function 38 = .ok (.istore 6, 2) := by decide +kernel
theorem dX6_function_40 : decode cX6_function 40 = .ok (.iload_n 1, 1) := by decide +kernel
theorem dX6_function_41 : decode cX6_function 41 = .ok (.tableswitch 338 0 11 #[63, 84, 139, 214, 236, 246, 261, 271, 281, 296, 306, 316], 63) := by decide +kernel
theorem dX6_function_104 : decode cX6_function 104 = .ok (.aload_n 0, 1) := by decide +kernel
theorem dX6_function_105 : decode cX6_function 105 = .ok (.iload_n 3, 1) := by decide +kernel
theorem dX6_function_106 : decode cX6_function 106 = .ok (.aload_n 0, 1) := by decide +kernel
theorem dX6_function_107 : decode cX6_function 107 = .ok (.getfield 31, 3) := by decide +kernel
theorem dX6_function_110 : decode cX6_function 110 = .ok (.aload_n 0, 1) := by decide +kernel
theorem dX6_function_111 : decode cX6_function 111 = .ok (.getfield 112, 3) := by decide +kernel
theorem dX6_function_114 : decode cX6_function 114 = .ok (.iconst 2, 1) := by decide +kernel
theorem dX6_function_115 : decode cX6_function 115 = .ok (.isub, 1) := by decide +kernel
theorem dX6_function_116 : decode cX6_function 116 = .ok (.iaload, 1) := by decide +kernel
theorem dX6_function_117 : decode cX6_function 117 = .ok (.iload 4, 2) := by decide +kernel
theorem dX6_function_119 : decode cX6_function 119 = .ok (.invokevirtual 285, 3) := by decide +kernel
theorem dX6_function_122 : decode cX6_function 122 = .ok (.goto 273, 3) := by decide +kernel
theorem dX6_function_125 : decode cX6_function 125 = .ok (.bipush 6, 2) := by decide +kernel
theorem dX6_function_127 : decode cX6_function 127 = .ok (.istore 7, 2) := by decide +kernel
theorem dX6_function_129 : decode cX6_function 129 = .ok (.iload_n 2, 1) := by decide +kernel
theorem dX6_function_130 : decode cX6_function 130 = .ok (.invokestatic 154, 3) := by decide +kernel
theorem dX6_function_133 : decode cX6_function 133 = .ok (.bipush 7, 2) := by decide +kernel
theorem dX6_function_135 : decode cX6_function 135 = .ok (.idiv, 1) := by decide +kernel
theorem dX6_function_136 : decode cX6_function 136 = .ok (.istore 8, 2) := by decide +kernel
theorem dX6_function_138 : decode cX6_function 138 = .ok (.iload 7, 2) := by decide +kernel
theorem dX6_function_140 : decode cX6_function 140 = .ok (.ifCond .lt 31, 3) := by decide +kernel
theorem dX6_function_143 : decode cX6_function 143 = .ok (.aload_n 0, 1) := by decide +kernel
theorem dX6_function_144 : decode cX6_function 144 = .ok (.getfield 21, 3) := by decide +kernel
theorem dX6_function_147 : decode cX6_function 147 = .ok (.iload 4, 2) := by decide +kernel
theorem dX6_function_149 : decode cX6_function 149 = .ok (.iconst 2, 1) := by decide +kernel
theorem dX6_function_150 : decode cX6_function 150 = .ok (.iload 8, 2) := by decide +kernel
theorem dX6_function_152 : decode cX6_function 152 = .ok (.imul, 1) := by decide +kernel
theorem dX6_function_153 : decode cX6_function 153 = .ok (.iload 7, 2) := by decide +kernel
theorem dX6_function_155 : decode cX6_function 155 = .ok (.imul, 1) := by decide +kernel
theorem dX6_function_156 : decode cX6_function 156 = .ok (.iadd, 1) := by decide +kernel
theorem dX6_function_157 : decode cX6_function 157 = .ok (.iload 8, 2) := by decide +kernel
theorem dX6_function_159 : decode cX6_function 159 = .ok (.invokevirtual 288, 3) := by decide +kernel
theorem dX6_function_162 : decode cX6_function 162 = .ok (.ifCond .eq 9, 3) := by decide +kernel
theorem dX6_function_165 : decode cX6_function 165 = .ok (.iinc 7 (-1), 3) := by decide +kernel
theorem dX6_function_168 : decode cX6_function 168 = .ok (.goto (-30), 3) := by decide +kernel
theorem dX6_function_171 : decode cX6_function 171 = .ok (.aload_n 0, 1) := by decide +kernel
theorem dX6_function_172 : decode cX6_function 172 = .ok (.iload 7, 2) := by decide +kernel
theorem dX6_function_174 : decode cX6_function 174 = .ok (.invokevirtual 292, 3) := by decide +kernel
theorem dX6_function_177 : decode cX6_function 177 = .ok (.goto 218, 3) := by decide +kernel
theorem dX6_function_180 : decode cX6_function 180 = .ok (.aload_n 0, 1) := by decide +kernel
theorem dX6_function_181 : decode cX6_function 181 = .ok (.getfield 73, 3) := by decide +kernel
theorem dX6_function_184 : decode cX6_function 184 = .ok (.iload 4, 2) := by decide +kernel
theorem dX6_function_186 : decode cX6_function 186 = .ok (.iaload, 1) := by decide +kernel
theorem dX6_function_187 : decode cX6_function 187 = .ok (.istore 7, 2) := by decide +kernel
theorem dX6_function_189 : decode cX6_function 189 = .ok (.aload_n 0, 1) := by decide +kernel
theorem dX6_function_190 : decode cX6_function 190 = .ok (.iload_n 3, 1) := by decide +kernel
theorem dX6_function_191 : decode cX6_function 191 = .ok (.invokevirtual 158, 3) := by decide +kernel
theorem dX6_function_194 : decode cX6_function 194 = .ok (.istore 8, 2) := by decide +kernel
theorem dX6_function_196 : decode cX6_function 196 = .ok (.iload 7, 2) := by decide +kernel
theorem dX6_function_198 : decode cX6_function 198 = .ok (.ifCond .lt 10, 3) := by decide +kernel
theorem dX6_function_201 : decode cX6_function 201 = .ok (.iload 7, 2) := by decide +kernel
theorem dX6_function_203 : decode cX6_function 203 = .ok (.bipush 7, 2) := by decide +kernel
theorem dX6_function_205 : decode cX6_function 205 = .ok (.if_icmp .lt 17, 3) := by decide +kernel
theorem dX6_function_208 : decode cX6_function 208 = .ok (.aload_n 0, 1) := by decide +kernel
theorem dX6_function_209 : decode cX6_function 209 = .ok (.getfield 21, 3) := by decide +kernel
theorem dX6_function_212 : decode cX6_function 212 = .ok (.ldc 157, 2) := by decide +kernel
theorem dX6_function_214 : decode cX6_function 214 = .ok (.iload 8, 2) := by decide +kernel
theorem dX6_function_216 : decode cX6_function 216 = .ok (.invokevirtual 175, 3) := by decide +kernel
theorem dX6_function_219 : decode cX6_function 219 = .ok (.goto 176, 3) := by decide +kernel
theorem dX6_function_222 : decode cX6_function 222 = .ok (.aload_n 0, 1) := by decide +kernel
theorem dX6_function_223 : decode cX6_function 223 = .ok (.getfield 21, 3) := by decide +kernel
theorem dX6_function_226 : decode cX6_function 226 = .ok (.aload_n 0, 1) := by decide +kernel
theorem dX6_function_227 : decode cX6_function 227 = .ok (.getfield 31, 3) := by decide +kernel
theorem dX6_function_230 : decode cX6_function 230 = .ok (.aload_n 0, 1) := by decide +kernel
theorem dX6_function_231 : decode cX6_function 231 = .ok (.getfield 112, 3) := by decide +kernel
theorem dX6_function_234 : decode cX6_function 234 = .ok (.iconst 2, 1) := by decide +kernel
theorem dX6_function_235 : decode cX6_function 235 = .ok (.isub, 1) := by decide +kernel
theorem dX6_function_236 : decode cX6_function 236 = .ok (.iaload, 1) := by decide +kernel
theorem dX6_function_237 : decode cX6_function 237 = .ok (.iconst 2, 1) := by decide +kernel
theorem dX6_function_238 : decode cX6_function 238 = .ok (.iload 8, 2) := by decide +kernel
theorem dX6_function_240 : decode cX6_function 240 = .ok (.imul, 1) := by decide +kernel
theorem dX6_function_241 : decode cX6_function 241 = .ok (.iload 7, 2) := by decide +kernel
theorem dX6_function_243 : decode cX6_function 243 = .ok (.imul, 1) := by decide +kernel
theorem dX6_function_244 : decode cX6_function 244 = .ok (.iadd, 1) := by decide +kernel
theorem dX6_function_245 : decode cX6_function 245 = .ok (.ldc 157, 2) := by decide +kernel
theorem dX6_function_247 : decode cX6_function 247 = .ok (.iload 8, 2) := by decide +kernel
theorem dX6_function_249 : decode cX6_function 249 = .ok (.invokevirtual 161, 3) := by decide +kernel
theorem dX6_function_252 : decode cX6_function 252 = .ok (.goto 143, 3) := by decide +kernel
theorem dX6_function_255 : decode cX6_function 255 = .ok (.aload_n 0, 1) := by decide +kernel
theorem dX6_function_256 : decode cX6_function 256 = .ok (.iload_n 2, 1) := by decide +kernel
theorem dX6_function_257 : decode cX6_function 257 = .ok (.iload_n 3, 1) := by decide +kernel
theorem dX6_function_258 : decode cX6_function 258 = .ok (.aload_n 0, 1) := by decide +kernel
theorem dX6_function_259 : decode cX6_function 259 = .ok (.getfield 31, 3) := by decide +kernel
theorem dX6_function_262 : decode cX6_function 262 = .ok (.aload_n 0, 1) := by decide +kernel
theorem dX6_function_263 : decode cX6_function 263 = .ok (.getfield 112, 3) := by decide +kernel
theorem dX6_function_266 : decode cX6_function 266 = .ok (.iconst 2, 1) := by decide +kernel
theorem dX6_function_267 : decode cX6_function 267 = .ok (.isub, 1) := by decide +kernel
theorem dX6_function_268 : decode cX6_function 268 = .ok (.iaload, 1) := by decide +kernel
theorem dX6_function_269 : decode cX6_function 269 = .ok (.iload 4, 2) := by decide +kernel
theorem dX6_function_271 : decode cX6_function 271 = .ok (.invokevirtual 295, 3) := by decide +kernel
theorem dX6_function_274 : decode cX6_function 274 = .ok (.goto 121, 3) := by decide +kernel
theorem dX6_function_277 : decode cX6_function 277 = .ok (.aload_n 0, 1) := by decide +kernel
theorem dX6_function_278 : decode cX6_function 278 = .ok (.iload_n 2, 1) := by decide +kernel
theorem dX6_function_279 : decode cX6_function 279 = .ok (.iload 4, 2) := by decide +kernel
theorem dX6_function_281 : decode cX6_function 281 = .ok (.invokevirtual 298, 3) := by decide +kernel
theorem dX6_function_284 : decode cX6_function 284 = .ok (.goto 111, 3) := by decide +kernel
theorem dX6_function_287 : decode cX6_function 287 = .ok (.aload_n 0, 1) := by decide +kernel
theorem dX6_function_288 : decode cX6_function 288 = .ok (.getfield 21, 3) := by decide +kernel
theorem dX6_function_291 : decode cX6_function 291 = .ok (.iload_n 2, 1) := by decide +kernel
theorem dX6_function_292 : decode cX6_function 292 = .ok (.iload 4, 2) := by decide +kernel
theorem dX6_function_294 : decode cX6_function 294 = .ok (.ldc 157, 2) := by decide +kernel
theorem dX6_function_296 : decode cX6_function 296 = .ok (.invokevirtual 301, 3) := by decide +kernel
theorem dX6_function_299 : decode cX6_function 299 = .ok (.goto 96, 3) := by decide +kernel
theorem dX6_function_302 : decode cX6_function 302 = .ok (.aload_n 0, 1) := by decide +kernel
theorem dX6_function_303 : decode cX6_function 303 = .ok (.iload_n 2, 1) := by decide +kernel
theorem dX6_function_304 : decode cX6_function 304 = .ok (.iload 4, 2) := by decide +kernel
theorem dX6_function_306 : decode cX6_function 306 = .ok (.invokevirtual 304, 3) := by decide +kernel
theorem dX6_function_309 : decode cX6_function 309 = .ok (.goto 86, 3) := by decide +kernel
theorem dX6_function_312 : decode cX6_function 312 = .ok (.aload_n 0, 1) := by decide +kernel
theorem dX6_function_313 : decode cX6_function 313 = .ok (.iload_n 2, 1) := by decide +kernel
theorem dX6_function_314 : decode cX6_function 314 = .ok (.iload 4, 2) := by decide +kernel
theorem dX6_function_316 : decode cX6_function 316 = .ok (.invokevirtual 307, 3) := by decide +kernel
theorem dX6_function_319 : decode cX6_function 319 = .ok (.goto 76, 3) := by decide +kernel
theorem dX6_function_322 : decode cX6_function 322 = .ok (.aload_n 0, 1) := by decide +kernel
theorem dX6_function_323 : decode cX6_function 323 = .ok (.getfield 21, 3) := by decide +kernel
theorem dX6_function_326 : decode cX6_function 326 = .ok (.iload_n 2, 1) := by decide +kernel
theorem dX6_function_327 : decode cX6_function 327 = .ok (.iload 4, 2) := by decide +kernel
theorem dX6_function_329 : decode cX6_function 329 = .ok (.ldc 157, 2) := by decide +kernel
theorem dX6_function_331 : decode cX6_function 331 = .ok (.invokevirtual 310, 3) := by decide +kernel
theorem dX6_function_334 : decode cX6_function 334 = .ok (.goto 61, 3) := by decide +kernel
theorem dX6_function_337 : decode cX6_function 337 = .ok (.aload_n 0, 1) := by decide +kernel
theorem dX6_function_338 : decode cX6_function 338 = .ok (.iload_n 2, 1) := by decide +kernel
theorem dX6_function_339 : decode cX6_function 339 = .ok (.iload 4, 2) := by decide +kernel
theorem dX6_function_341 : decode cX6_function 341 = .ok (.invokevirtual 313, 3) := by decide +kernel
theorem dX6_function_344 : decode cX6_function 344 = .ok (.goto 51, 3) := by decide +kernel
theorem dX6_function_347 : decode cX6_function 347 = .ok (.aload_n 0, 1) := by decide +kernel
theorem dX6_function_348 : decode cX6_function 348 = .ok (.iload_n 2, 1) := by decide +kernel
theorem dX6_function_349 : decode cX6_function 349 = .ok (.iload 4, 2) := by decide +kernel
theorem dX6_function_351 : decode cX6_function 351 = .ok (.invokevirtual 316, 3) := by decide +kernel
theorem dX6_function_354 : decode cX6_function 354 = .ok (.goto 41, 3) := by decide +kernel
theorem dX6_function_357 : decode cX6_function 357 = .ok (.aload_n 0, 1) := by decide +kernel
theorem dX6_function_358 : decode cX6_function 358 = .ok (.aload_n 0, 1) := by decide +kernel
theorem dX6_function_359 : decode cX6_function 359 = .ok (.aload_n 0, 1) := by decide +kernel
theorem dX6_function_360 : decode cX6_function 360 = .ok (.getfield 21, 3) := by decide +kernel
theorem dX6_function_363 : decode cX6_function 363 = .ok (.iload 6, 2) := by decide +kernel
theorem dX6_function_365 : decode cX6_function 365 = .ok (.invokevirtual 319, 3) := by decide +kernel
theorem dX6_function_368 : decode cX6_function 368 = .ok (.iload 4, 2) := by decide +kernel
theorem dX6_function_370 : decode cX6_function 370 = .ok (.invokevirtual 322, 3) := by decide +kernel
theorem dX6_function_373 : decode cX6_function 373 = .ok (.invokevirtual 292, 3) := by decide +kernel
theorem dX6_function_376 : decode cX6_function 376 = .ok (.goto 19, 3) := by decide +kernel
theorem dX6_function_379 : decode cX6_function 379 = .ok (.aload_n 0, 1) := by decide +kernel
theorem dX6_function_380 : decode cX6_function 380 = .ok (.aload_n 0, 1) := by decide +kernel
theorem dX6_function_381 : decode cX6_function 381 = .ok (.getfield 73, 3) := by decide +kernel
theorem dX6_function_384 : decode cX6_function 384 = .ok (.iload 4, 2) := by decide +kernel
theorem dX6_function_386 : decode cX6_function 386 = .ok (.iload_n 1, 1) := by decide +kernel
theorem dX6_function_387 : decode cX6_function 387 = .ok (.iadd, 1) := by decide +kernel
theorem dX6_function_388 : decode cX6_function 388 = .ok (.bipush 12, 2) := by decide +kernel
theorem dX6_function_390 : decode cX6_function 390 = .ok (.isub, 1) := by decide +kernel
theorem dX6_function_391 : decode cX6_function 391 = .ok (.iaload, 1) := by decide +kernel
theorem dX6_function_392 : decode cX6_function 392 = .ok (.invokevirtual 292, 3) := by decide +kernel
theorem dX6_function_395 : decode cX6_function 395 = .ok (.aload_n 0, 1) := by decide +kernel
theorem dX6_function_396 : decode cX6_function 396 = .ok (.getfield 21, 3) := by decide +kernel
theorem dX6_function_399 : decode cX6_function 399 = .ok (.getfield 109, 3) := by decide +kernel
theorem dX6_function_402 : decode cX6_function 402 = .ok (.ifCond .ne 10, 3) := by decide +kernel
theorem dX6_function_405 : decode cX6_function 405 = .ok (.aload_n 0, 1) := by decide +kernel
theorem dX6_function_406 : decode cX6_function 406 = .ok (.iload_n 3, 1) := by decide +kernel
theorem dX6_function_407 : decode cX6_function 407 = .ok (.iload 5, 2) := by decide +kernel
theorem dX6_function_409 : decode cX6_function 409 = .ok (.invokevirtual 168, 3) := by decide +kernel
theorem dX6_function_412 : decode cX6_function 412 = .ok (.return_, 1) := by decide +kernel
/-! AlgebraHouse$Machine.function(III)V -/
def P_X6_function_395 (Q : Int → MM → Prop) (x3 : Int) (x5 : Int) (m : MM) : Prop := (RI (m 378 2)) ∧ (if (m 378 2) = 0 then P_X6_made x3 x5 m (fun r1 m1 => Q 0 m1) else Q 0 m)
def P_X6_function_171 (Q : Int → MM → Prop) (x3 : Int) (x5 : Int) (x7 : Int) (m : MM) : Prop := P_X6_integer x7 m (fun r1 m1 => P_X6_function_395 Q x3 x5 m1)
def P_X6_function_138 (Q : Int → MM → Prop) : Nat → Int → Int → Int → Int → Int → MM → Prop
  | 0, _, _, _, _, _, _ => False
  | n + 1, x3, x4, x5, x7, x8, m => (RI x7) ∧ (if x7 < 0 then P_X6_function_171 Q x3 x5 x7 m else P_X8_isClear (x4 + ((2 * x8) * x7)) x8 m (fun r1 m1 => (RI r1) ∧ (if r1 = 0 then P_X6_function_171 Q x3 x5 x7 m1 else P_X6_function_138 Q n x3 x4 x5 (x7 + (-1)) x8 m1)))
def P_X6_function_208 (Q : Int → MM → Prop) (x3 : Int) (x5 : Int) (x8 : Int) (m : MM) : Prop := P_X8_clear 1155420 x8 m (fun r1 m1 => P_X6_function_395 Q x3 x5 m1)
def P_X6_function (x1 : Int) (x2 : Int) (x3 : Int) (m : MM) (Q : Int → MM → Prop) : Prop := (0 ≤ ((m 376 8) - 1) ∧ ((m 376 8) - 1) < 1701) ∧ ((RI x1)) ∧ P_X11_base x2 m (fun r1 m1 => (RI x1) ∧ (if x1 = 0 then (0 ≤ ((m1 376 8) - 2) ∧ ((m1 376 8) - 2) < 1701) ∧ P_X6_common x3 (m1 381 ((m1 376 8) - 2)) (m 381 ((m 376 8) - 1)) m1 (fun r2 m2 => P_X6_function_395 Q x3 (if x1 = 0 then 2 else (if x1 = 2 then 2 else (if x1 = 3 then 2 else 1 : Int) : Int) : Int) m2) else (if x1 = 1 then P_X11_coefficients x2 m1 (fun r3 m3 => (RI r3) ∧ ∃ nn, P_X6_function_138 Q nn x3 (m 381 ((m 376 8) - 1)) (if x1 = 0 then 2 else (if x1 = 2 then 2 else (if x1 = 3 then 2 else 1 : Int) : Int) : Int) 6 (Int.tdiv r3 7) m3) else (if x1 = 2 then (0 ≤ (m 381 ((m 376 8) - 1)) ∧ (m 381 ((m 376 8) - 1)) < 1159540) ∧ P_X6_number x3 m1 (fun r4 m4 => (RI (m1 379 (m 381 ((m 376 8) - 1)))) ∧ (if (m1 379 (m 381 ((m 376 8) - 1))) < 0 then P_X6_function_208 Q x3 (if x1 = 0 then 2 else (if x1 = 2 then 2 else (if x1 = 3 then 2 else 1 : Int) : Int) : Int) r4 m4 else (if (m1 379 (m 381 ((m 376 8) - 1))) < 7 then (0 ≤ ((m4 376 8) - 2) ∧ ((m4 376 8) - 2) < 1701) ∧ P_X8_copy ((m4 381 ((m4 376 8) - 2)) + ((2 * r4) * (m1 379 (m 381 ((m 376 8) - 1))))) 1155420 r4 m4 (fun r5 m5 => P_X6_function_395 Q x3 (if x1 = 0 then 2 else (if x1 = 2 then 2 else (if x1 = 3 then 2 else 1 : Int) : Int) : Int) m5) else P_X6_function_208 Q x3 (if x1 = 0 then 2 else (if x1 = 2 then 2 else (if x1 = 3 then 2 else 1 : Int) : Int) : Int) r4 m4))) else (if x1 = 3 then (0 ≤ ((m1 376 8) - 2) ∧ ((m1 376 8) - 2) < 1701) ∧ P_X6_atValue x2 x3 (m1 381 ((m1 376 8) - 2)) (m 381 ((m 376 8) - 1)) m1 (fun r6 m6 => P_X6_function_395 Q x3 (if x1 = 0 then 2 else (if x1 = 2 then 2 else (if x1 = 3 then 2 else 1 : Int) : Int) : Int) m6) else (if x1 = 4 then P_X6_derived x2 (m 381 ((m 376 8) - 1)) m1 (fun r7 m7 => P_X6_function_395 Q x3 (if x1 = 0 then 2 else (if x1 = 2 then 2 else (if x1 = 3 then 2 else 1 : Int) : Int) : Int) m7) else (if x1 = 5 then P_X8_determinant x2 (m 381 ((m 376 8) - 1)) 1155420 m1 (fun r8 m8 => P_X6_function_395 Q x3 (if x1 = 0 then 2 else (if x1 = 2 then 2 else (if x1 = 3 then 2 else 1 : Int) : Int) : Int) m8) else (if x1 = 6 then P_X6_trace x2 (m 381 ((m 376 8) - 1)) m1 (fun r9 m9 => P_X6_function_395 Q x3 (if x1 = 0 then 2 else (if x1 = 2 then 2 else (if x1 = 3 then 2 else 1 : Int) : Int) : Int) m9) else (if x1 = 7 then P_X6_turned x2 (m 381 ((m 376 8) - 1)) m1 (fun r10 m10 => P_X6_function_395 Q x3 (if x1 = 0 then 2 else (if x1 = 2 then 2 else (if x1 = 3 then 2 else 1 : Int) : Int) : Int) m10) else (if x1 = 8 then P_X8_adjugate x2 (m 381 ((m 376 8) - 1)) 1155420 m1 (fun r11 m11 => P_X6_function_395 Q x3 (if x1 = 0 then 2 else (if x1 = 2 then 2 else (if x1 = 3 then 2 else 1 : Int) : Int) : Int) m11) else (if x1 = 9 then P_X6_inverse x2 (m 381 ((m 376 8) - 1)) m1 (fun r12 m12 => P_X6_function_395 Q x3 (if x1 = 0 then 2 else (if x1 = 2 then 2 else (if x1 = 3 then 2 else 1 : Int) : Int) : Int) m12) else (if x1 = 10 then P_X6_characteristic x2 (m 381 ((m 376 8) - 1)) m1 (fun r13 m13 => P_X6_function_395 Q x3 (if x1 = 0 then 2 else (if x1 = 2 then 2 else (if x1 = 3 then 2 else 1 : Int) : Int) : Int) m13) else (if x1 = 11 then P_X8_modulus r1 m1 (fun r14 m14 => P_X6_roots r14 (m 381 ((m 376 8) - 1)) m14 (fun r15 m15 => P_X6_integer r15 m15 (fun r16 m16 => P_X6_function_395 Q x3 (if x1 = 0 then 2 else (if x1 = 2 then 2 else (if x1 = 3 then 2 else 1 : Int) : Int) : Int) m16))) else (0 ≤ (((m 381 ((m 376 8) - 1)) + x1) - 12) ∧ (((m 381 ((m 376 8) - 1)) + x1) - 12) < 1159540) ∧ P_X6_integer (m1 379 (((m 381 ((m 376 8) - 1)) + x1) - 12)) m1 (fun r17 m17 => P_X6_function_395 Q x3 (if x1 = 0 then 2 else (if x1 = 2 then 2 else (if x1 = 3 then 2 else 1 : Int) : Int) : Int) m17))))))))))))))
theorem pl_X6_function_395 {f : Nat} {Q : Int → MM → Prop} {T : MM → Prop} (hf : 15 ≤ f) : ∀ (x3 : Int) (x5 : Int) (m : MM), P_X6_function_395 Q x3 x5 m → B f M_X6_function 395 [vR 376, vU, vU, vI x3, vU, vI x5, vU, vU, vU] [] m Q T := by
  intro x3 x5 m h
  have h : (RI (m 378 2)) ∧ (if (m 378 2) = 0 then P_X6_made x3 x5 m (fun r1 m1 => Q 0 m1) else Q 0 m) := h
  refine b_aload_n dX6_function_395 rfl ?_
  refine b_getR dX6_function_396 fk_X6_21 ly_376 gg_376_3 ?_
  refine b_getI dX6_function_399 fk_X6_109 ly_378 ?_
  obtain ⟨g1, h⟩ := h
  refine b_if_ne 412 dX6_function_402 g1 (by decide) (fun c1 => ?_) (fun c1 => ?_)
  · have h := ifF c1 h
    exact b_vret dX6_function_412 rfl h
  · have h := ifT (Decidable.of_not_not c1) h
    refine b_aload_n dX6_function_405 rfl ?_
    refine b_iload_n dX6_function_406 rfl ?_
    refine b_iload dX6_function_407 rfl ?_
    refine b_cVv (as := [vI x3, vI x5]) (st := []) dX6_function_409 mf_X6_made qs86 lk_X6_168 ly_376 rfl (p_X6_made (f := 4) (Nat.le_refl _) _ _ _ h) (by omega) rfl rfl (Nat.le_of_ble_eq_true rfl) (by decide) rfl (fun _ => rfl) (fun r1 m1 h => ?_) (fun _ h => h)
    exact b_vret dX6_function_412 rfl h
theorem pl_X6_function_171 {f : Nat} {Q : Int → MM → Prop} {T : MM → Prop} (hf : 15 ≤ f) : ∀ (x3 : Int) (x5 : Int) (x7 : Int) (m : MM), P_X6_function_171 Q x3 x5 x7 m → B f M_X6_function 171 [vR 376, vU, vU, vI x3, vU, vI x5, vU, vI x7, vU] [] m Q T := by
  intro x3 x5 x7 m h
  have h : P_X6_integer x7 m (fun r1 m1 => P_X6_function_395 Q x3 x5 m1) := h
  refine b_aload_n dX6_function_171 rfl ?_
  refine b_iload dX6_function_172 rfl ?_
  refine b_cVv (as := [vI x7]) (st := []) dX6_function_174 mf_X6_integer qs76 lk_X6_292 ly_376 rfl (p_X6_integer (f := 1) (Nat.le_refl _) _ _ h) (by omega) rfl rfl (Nat.le_of_ble_eq_true rfl) (by decide) rfl (fun _ => rfl) (fun r1 m1 h => ?_) (fun _ h => h)
  refine b_goto 395 dX6_function_177 (by decide) ?_
  refine b_fgt [true, false, false, true, false, true, false, false, false] (ls' := [vR 376, vU, vU, vI x3, vU, vI x5, vU, vU, vU]) rfl rfl ?_
  exact pl_X6_function_395 hf _ _ _ h
theorem pl_X6_function_138 {f : Nat} {Q : Int → MM → Prop} {T : MM → Prop} (hf : 15 ≤ f) : ∀ (n : Nat) (x3 : Int) (x4 : Int) (x5 : Int) (x7 : Int) (x8 : Int) (m : MM), P_X6_function_138 Q n x3 x4 x5 x7 x8 m → B f M_X6_function 138 [vR 376, vU, vU, vI x3, vI x4, vI x5, vU, vI x7, vI x8] [] m Q T := by
  intro n
  induction n with
  | zero => intro x3 x4 x5 x7 x8 m h; exact h.elim
  | succ n ih =>
    intro x3 x4 x5 x7 x8 m h
    have h : (RI x7) ∧ (if x7 < 0 then P_X6_function_171 Q x3 x5 x7 m else P_X8_isClear (x4 + ((2 * x8) * x7)) x8 m (fun r1 m1 => (RI r1) ∧ (if r1 = 0 then P_X6_function_171 Q x3 x5 x7 m1 else P_X6_function_138 Q n x3 x4 x5 (x7 + (-1)) x8 m1))) := h
    refine b_iload dX6_function_138 rfl ?_
    obtain ⟨g1, h⟩ := h
    refine b_if_lt 171 dX6_function_140 g1 (by decide) (fun c1 => ?_) (fun c1 => ?_)
    · have h := ifT c1 h
      refine b_fgt [true, false, false, true, false, true, false, true, false] (ls' := [vR 376, vU, vU, vI x3, vU, vI x5, vU, vI x7, vU]) rfl rfl ?_
      exact pl_X6_function_171 hf _ _ _ _ h
    · have h := ifF c1 h
      refine b_aload_n dX6_function_143 rfl ?_
      refine b_getR dX6_function_144 fk_X6_21 ly_376 gg_376_3 ?_
      refine b_iload dX6_function_147 rfl ?_
      refine b_iconst dX6_function_149 ?_
      refine b_iload dX6_function_150 rfl ?_
      refine b_imul dX6_function_152 ?_
      refine b_iload dX6_function_153 rfl ?_
      refine b_imul dX6_function_155 ?_
      refine b_iadd dX6_function_156 ?_
      refine b_iload dX6_function_157 rfl ?_
      refine b_cVi (as := [vI (x4 + ((2 * x8) * x7)), vI x8]) (st := []) dX6_function_159 mf_X8_isClear q1339 lk_X6_288 ly_378 rfl (p_X8_isClear (f := 1) (Nat.le_refl _) _ _ _ h) (by omega) rfl rfl (Nat.le_of_ble_eq_true rfl) (by decide) rfl (fun _ => rfl) (fun r1 m1 h => ?_) (fun _ h => h)
      obtain ⟨g2, h⟩ := h
      refine b_if_eq 171 dX6_function_162 g2 (by decide) (fun c2 => ?_) (fun c2 => ?_)
      · have h := ifT c2 h
        refine b_fgt [true, false, false, true, false, true, false, true, false] (ls' := [vR 376, vU, vU, vI x3, vU, vI x5, vU, vI x7, vU]) rfl rfl ?_
        exact pl_X6_function_171 hf _ _ _ _ h
      · have h := ifF c2 h
        refine b_iinc (ls' := [vR 376, vU, vU, vI x3, vI x4, vI x5, vU, vI (x7 + (-1)), vI x8]) dX6_function_165 rfl rfl ?_
        refine b_goto 138 dX6_function_168 (by decide) ?_
        exact ih _ _ _ _ _ _ h
theorem pl_X6_function_208 {f : Nat} {Q : Int → MM → Prop} {T : MM → Prop} (hf : 15 ≤ f) : ∀ (x3 : Int) (x5 : Int) (x8 : Int) (m : MM), P_X6_function_208 Q x3 x5 x8 m → B f M_X6_function 208 [vR 376, vU, vU, vI x3, vU, vI x5, vU, vU, vI x8] [] m Q T := by
  intro x3 x5 x8 m h
  have h : P_X8_clear 1155420 x8 m (fun r1 m1 => P_X6_function_395 Q x3 x5 m1) := h
  refine b_aload_n dX6_function_208 rfl ?_
  refine b_getR dX6_function_209 fk_X6_21 ly_376 gg_376_3 ?_
  refine b_ldc (1155420) dX6_function_212 q1374 (by decide) ?_
  refine b_iload dX6_function_214 rfl ?_
  refine b_cVv (as := [vI 1155420, vI x8]) (st := []) dX6_function_216 mf_X8_clear q1305 lk_X6_175 ly_378 rfl (p_X8_clear (f := 1) (Nat.le_refl _) _ _ _ h) (by omega) rfl rfl (Nat.le_of_ble_eq_true rfl) (by decide) rfl (fun _ => rfl) (fun r1 m1 h => ?_) (fun _ h => h)
  refine b_goto 395 dX6_function_219 (by decide) ?_
  refine b_fgt [true, false, false, true, false, true, false, false, false] (ls' := [vR 376, vU, vU, vI x3, vU, vI x5, vU, vU, vU]) rfl rfl ?_
  exact pl_X6_function_395 hf _ _ _ h
theorem p_X6_function {f : Nat} {Q : Int → MM → Prop} {T : MM → Prop} (hf : 15 ≤ f) (x1 : Int) (x2 : Int) (x3 : Int) (m : MM) (h : P_X6_function x1 x2 x3 m Q) : CC f M_X6_function [vR 376, vI x1, vI x2, vI x3] m Q T := by
  refine CC.of (plainFor_of_name (by decide)) (Nat.le_of_ble_eq_true rfl) (ls := [vR 376, vI x1, vI x2, vI x3, vU, vU, vU, vU, vU]) rfl ?_
  have h : (0 ≤ ((m 376 8) - 1) ∧ ((m 376 8) - 1) < 1701) ∧ ((RI x1)) ∧ P_X11_base x2 m (fun r1 m1 => (RI x1) ∧ (if x1 = 0 then (0 ≤ ((m1 376 8) - 2) ∧ ((m1 376 8) - 2) < 1701) ∧ P_X6_common x3 (m1 381 ((m1 376 8) - 2)) (m 381 ((m 376 8) - 1)) m1 (fun r2 m2 => P_X6_function_395 Q x3 (if x1 = 0 then 2 else (if x1 = 2 then 2 else (if x1 = 3 then 2 else 1 : Int) : Int) : Int) m2) else (if x1 = 1 then P_X11_coefficients x2 m1 (fun r3 m3 => (RI r3) ∧ ∃ nn, P_X6_function_138 Q nn x3 (m 381 ((m 376 8) - 1)) (if x1 = 0 then 2 else (if x1 = 2 then 2 else (if x1 = 3 then 2 else 1 : Int) : Int) : Int) 6 (Int.tdiv r3 7) m3) else (if x1 = 2 then (0 ≤ (m 381 ((m 376 8) - 1)) ∧ (m 381 ((m 376 8) - 1)) < 1159540) ∧ P_X6_number x3 m1 (fun r4 m4 => (RI (m1 379 (m 381 ((m 376 8) - 1)))) ∧ (if (m1 379 (m 381 ((m 376 8) - 1))) < 0 then P_X6_function_208 Q x3 (if x1 = 0 then 2 else (if x1 = 2 then 2 else (if x1 = 3 then 2 else 1 : Int) : Int) : Int) r4 m4 else (if (m1 379 (m 381 ((m 376 8) - 1))) < 7 then (0 ≤ ((m4 376 8) - 2) ∧ ((m4 376 8) - 2) < 1701) ∧ P_X8_copy ((m4 381 ((m4 376 8) - 2)) + ((2 * r4) * (m1 379 (m 381 ((m 376 8) - 1))))) 1155420 r4 m4 (fun r5 m5 => P_X6_function_395 Q x3 (if x1 = 0 then 2 else (if x1 = 2 then 2 else (if x1 = 3 then 2 else 1 : Int) : Int) : Int) m5) else P_X6_function_208 Q x3 (if x1 = 0 then 2 else (if x1 = 2 then 2 else (if x1 = 3 then 2 else 1 : Int) : Int) : Int) r4 m4))) else (if x1 = 3 then (0 ≤ ((m1 376 8) - 2) ∧ ((m1 376 8) - 2) < 1701) ∧ P_X6_atValue x2 x3 (m1 381 ((m1 376 8) - 2)) (m 381 ((m 376 8) - 1)) m1 (fun r6 m6 => P_X6_function_395 Q x3 (if x1 = 0 then 2 else (if x1 = 2 then 2 else (if x1 = 3 then 2 else 1 : Int) : Int) : Int) m6) else (if x1 = 4 then P_X6_derived x2 (m 381 ((m 376 8) - 1)) m1 (fun r7 m7 => P_X6_function_395 Q x3 (if x1 = 0 then 2 else (if x1 = 2 then 2 else (if x1 = 3 then 2 else 1 : Int) : Int) : Int) m7) else (if x1 = 5 then P_X8_determinant x2 (m 381 ((m 376 8) - 1)) 1155420 m1 (fun r8 m8 => P_X6_function_395 Q x3 (if x1 = 0 then 2 else (if x1 = 2 then 2 else (if x1 = 3 then 2 else 1 : Int) : Int) : Int) m8) else (if x1 = 6 then P_X6_trace x2 (m 381 ((m 376 8) - 1)) m1 (fun r9 m9 => P_X6_function_395 Q x3 (if x1 = 0 then 2 else (if x1 = 2 then 2 else (if x1 = 3 then 2 else 1 : Int) : Int) : Int) m9) else (if x1 = 7 then P_X6_turned x2 (m 381 ((m 376 8) - 1)) m1 (fun r10 m10 => P_X6_function_395 Q x3 (if x1 = 0 then 2 else (if x1 = 2 then 2 else (if x1 = 3 then 2 else 1 : Int) : Int) : Int) m10) else (if x1 = 8 then P_X8_adjugate x2 (m 381 ((m 376 8) - 1)) 1155420 m1 (fun r11 m11 => P_X6_function_395 Q x3 (if x1 = 0 then 2 else (if x1 = 2 then 2 else (if x1 = 3 then 2 else 1 : Int) : Int) : Int) m11) else (if x1 = 9 then P_X6_inverse x2 (m 381 ((m 376 8) - 1)) m1 (fun r12 m12 => P_X6_function_395 Q x3 (if x1 = 0 then 2 else (if x1 = 2 then 2 else (if x1 = 3 then 2 else 1 : Int) : Int) : Int) m12) else (if x1 = 10 then P_X6_characteristic x2 (m 381 ((m 376 8) - 1)) m1 (fun r13 m13 => P_X6_function_395 Q x3 (if x1 = 0 then 2 else (if x1 = 2 then 2 else (if x1 = 3 then 2 else 1 : Int) : Int) : Int) m13) else (if x1 = 11 then P_X8_modulus r1 m1 (fun r14 m14 => P_X6_roots r14 (m 381 ((m 376 8) - 1)) m14 (fun r15 m15 => P_X6_integer r15 m15 (fun r16 m16 => P_X6_function_395 Q x3 (if x1 = 0 then 2 else (if x1 = 2 then 2 else (if x1 = 3 then 2 else 1 : Int) : Int) : Int) m16))) else (0 ≤ (((m 381 ((m 376 8) - 1)) + x1) - 12) ∧ (((m 381 ((m 376 8) - 1)) + x1) - 12) < 1159540) ∧ P_X6_integer (m1 379 (((m 381 ((m 376 8) - 1)) + x1) - 12)) m1 (fun r17 m17 => P_X6_function_395 Q x3 (if x1 = 0 then 2 else (if x1 = 2 then 2 else (if x1 = 3 then 2 else 1 : Int) : Int) : Int) m17)))))))))))))) := h
  refine b_aload_n dX6_function_0 rfl ?_
  refine b_getR dX6_function_1 fk_X6_31 ly_376 gg_376_7 ?_
  refine b_aload_n dX6_function_4 rfl ?_
  refine b_getI dX6_function_5 fk_X6_112 ly_376 ?_
  refine b_iconst dX6_function_8 ?_
  refine b_isub dX6_function_9 ?_
  obtain ⟨g1, h⟩ := h
  refine b_iald dX6_function_10 ly_381 g1 ?_
  refine b_istore (ls' := [vR 376, vI x1, vI x2, vI x3, vI (m 381 ((m 376 8) - 1)), vU, vU, vU, vU]) dX6_function_11 (Nat.le_of_ble_eq_true rfl) rfl ?_
  refine b_iload_n dX6_function_13 rfl ?_
  obtain ⟨hs, h⟩ := h
  have K : B f M_X6_function 32 [vR 376, vI x1, vI x2, vI x3, vI (m 381 ((m 376 8) - 1)), vU, vU, vU, vU] [vI (if x1 = 0 then 2 else (if x1 = 2 then 2 else (if x1 = 3 then 2 else 1 : Int) : Int) : Int)] m Q T := by
    clear hs
    refine b_istore (ls' := [vR 376, vI x1, vI x2, vI x3, vI (m 381 ((m 376 8) - 1)), vI (if x1 = 0 then 2 else (if x1 = 2 then 2 else (if x1 = 3 then 2 else 1 : Int) : Int) : Int), vU, vU, vU]) dX6_function_32 (Nat.le_of_ble_eq_true rfl) rfl ?_
    refine b_iload_n dX6_function_34 rfl ?_
    refine b_cSi (as := [vI x2]) (st := []) dX6_function_35 mf_X11_base lk_X6_197 (p_X11_base (f := 1) (Nat.le_refl _) _ _ h) (by omega) rfl rfl (Nat.le_of_ble_eq_true rfl) (by decide) rfl (fun _ => rfl) (fun r1 m1 h => ?_) (fun _ h => h)
    refine b_istore (ls' := [vR 376, vI x1, vI x2, vI x3, vI (m 381 ((m 376 8) - 1)), vI (if x1 = 0 then 2 else (if x1 = 2 then 2 else (if x1 = 3 then 2 else 1 : Int) : Int) : Int), vI r1, vU, vU]) dX6_function_38 (Nat.le_of_ble_eq_true rfl) rfl ?_
    refine b_iload_n dX6_function_40 rfl ?_
    obtain ⟨g3, h⟩ := h
    by_cases c1 : x1 = 0
    · have h := ifT c1 h
      refine b_tswIn 104 dX6_function_41 g3 (by omega) (by omega) (by rw [c1]; rfl) (by decide) ?_
      refine b_aload_n dX6_function_104 rfl ?_
      refine b_iload_n dX6_function_105 rfl ?_
      refine b_aload_n dX6_function_106 rfl ?_
      refine b_getR dX6_function_107 fk_X6_31 ly_376 gg_376_7 ?_
      refine b_aload_n dX6_function_110 rfl ?_
      refine b_getI dX6_function_111 fk_X6_112 ly_376 ?_
      refine b_iconst dX6_function_114 ?_
      refine b_isub dX6_function_115 ?_
      obtain ⟨g4, h⟩ := h
      refine b_iald dX6_function_116 ly_381 g4 ?_
      refine b_iload dX6_function_117 rfl ?_
      refine b_cVv (as := [vI x3, vI (m1 381 ((m1 376 8) - 2)), vI (m 381 ((m 376 8) - 1))]) (st := []) dX6_function_119 mf_X6_common qs75 lk_X6_285 ly_376 rfl (p_X6_common (f := 6) (Nat.le_refl _) _ _ _ _ h) (by omega) rfl rfl (Nat.le_of_ble_eq_true rfl) (by decide) rfl (fun _ => rfl) (fun r2 m2 h => ?_) (fun _ h => h)
      refine b_goto 395 dX6_function_122 (by decide) ?_
      refine b_fgt [true, false, false, true, false, true, false, false, false] (ls' := [vR 376, vU, vU, vI x3, vU, vI (if x1 = 0 then 2 else (if x1 = 2 then 2 else (if x1 = 3 then 2 else 1 : Int) : Int) : Int), vU, vU, vU]) rfl rfl ?_
      exact pl_X6_function_395 hf _ _ _ h
    have h := ifF c1 h
    by_cases c2 : x1 = 1
    · have h := ifT c2 h
      refine b_tswIn 125 dX6_function_41 g3 (by omega) (by omega) (by rw [c2]; rfl) (by decide) ?_
      refine b_bipush dX6_function_125 (by decide) ?_
      refine b_istore (ls' := [vR 376, vI x1, vI x2, vI x3, vI (m 381 ((m 376 8) - 1)), vI (if x1 = 0 then 2 else (if x1 = 2 then 2 else (if x1 = 3 then 2 else 1 : Int) : Int) : Int), vI r1, vI 6, vU]) dX6_function_127 (Nat.le_of_ble_eq_true rfl) rfl ?_
      refine b_iload_n dX6_function_129 rfl ?_
      refine b_cSi (as := [vI x2]) (st := []) dX6_function_130 mf_X11_coefficients lk_X6_154 (p_X11_coefficients (f := 2) (Nat.le_refl _) _ _ h) (by omega) rfl rfl (Nat.le_of_ble_eq_true rfl) (by decide) rfl (fun _ => rfl) (fun r3 m3 h => ?_) (fun _ h => h)
      refine b_bipush dX6_function_133 (by decide) ?_
      obtain ⟨g5, h⟩ := h
      refine b_idiv dX6_function_135 g5 (by decide) (by decide) ?_
      refine b_istore (ls' := [vR 376, vI x1, vI x2, vI x3, vI (m 381 ((m 376 8) - 1)), vI (if x1 = 0 then 2 else (if x1 = 2 then 2 else (if x1 = 3 then 2 else 1 : Int) : Int) : Int), vI r1, vI 6, vI (Int.tdiv r3 7)]) dX6_function_136 (Nat.le_of_ble_eq_true rfl) rfl ?_
      refine b_fgt [true, false, false, true, true, true, false, true, true] (ls' := [vR 376, vU, vU, vI x3, vI (m 381 ((m 376 8) - 1)), vI (if x1 = 0 then 2 else (if x1 = 2 then 2 else (if x1 = 3 then 2 else 1 : Int) : Int) : Int), vU, vI 6, vI (Int.tdiv r3 7)]) rfl rfl ?_
      obtain ⟨nn, h⟩ := h
      exact pl_X6_function_138 hf nn _ _ _ _ _ _ h
    have h := ifF c2 h
    by_cases c3 : x1 = 2
    · have h := ifT c3 h
      refine b_tswIn 180 dX6_function_41 g3 (by omega) (by omega) (by rw [c3]; rfl) (by decide) ?_
      refine b_aload_n dX6_function_180 rfl ?_
      refine b_getR dX6_function_181 fk_X6_73 ly_376 gg_376_4 ?_
      refine b_iload dX6_function_184 rfl ?_
      obtain ⟨g6, h⟩ := h
      refine b_iald dX6_function_186 ly_379 g6 ?_
      refine b_istore (ls' := [vR 376, vI x1, vI x2, vI x3, vI (m 381 ((m 376 8) - 1)), vI (if x1 = 0 then 2 else (if x1 = 2 then 2 else (if x1 = 3 then 2 else 1 : Int) : Int) : Int), vI r1, vI (m1 379 (m 381 ((m 376 8) - 1))), vU]) dX6_function_187 (Nat.le_of_ble_eq_true rfl) rfl ?_
      refine b_aload_n dX6_function_189 rfl ?_
      refine b_iload_n dX6_function_190 rfl ?_
      refine b_cVi (as := [vI x3]) (st := []) dX6_function_191 mf_X6_number qs69 lk_X6_158 ly_376 rfl (p_X6_number (f := 3) (Nat.le_refl _) _ _ h) (by omega) rfl rfl (Nat.le_of_ble_eq_true rfl) (by decide) rfl (fun _ => rfl) (fun r4 m4 h => ?_) (fun _ h => h)
      refine b_istore (ls' := [vR 376, vI x1, vI x2, vI x3, vI (m 381 ((m 376 8) - 1)), vI (if x1 = 0 then 2 else (if x1 = 2 then 2 else (if x1 = 3 then 2 else 1 : Int) : Int) : Int), vI r1, vI (m1 379 (m 381 ((m 376 8) - 1))), vI r4]) dX6_function_194 (Nat.le_of_ble_eq_true rfl) rfl ?_
      refine b_iload dX6_function_196 rfl ?_
      obtain ⟨g7, h⟩ := h
      refine b_if_lt 208 dX6_function_198 g7 (by decide) (fun c4 => ?_) (fun c4 => ?_)
      · have h := ifT c4 h
        refine b_fgt [true, false, false, true, false, true, false, false, true] (ls' := [vR 376, vU, vU, vI x3, vU, vI (if x1 = 0 then 2 else (if x1 = 2 then 2 else (if x1 = 3 then 2 else 1 : Int) : Int) : Int), vU, vU, vI r4]) rfl rfl ?_
        exact pl_X6_function_208 hf _ _ _ _ h
      · have h := ifF c4 h
        refine b_iload dX6_function_201 rfl ?_
        refine b_bipush dX6_function_203 (by decide) ?_
        refine b_icmp_lt 222 dX6_function_205 g7 (by decide) (by decide) (fun c5 => ?_) (fun c5 => ?_)
        · have h := ifT c5 h
          refine b_aload_n dX6_function_222 rfl ?_
          refine b_getR dX6_function_223 fk_X6_21 ly_376 gg_376_3 ?_
          refine b_aload_n dX6_function_226 rfl ?_
          refine b_getR dX6_function_227 fk_X6_31 ly_376 gg_376_7 ?_
          refine b_aload_n dX6_function_230 rfl ?_
          refine b_getI dX6_function_231 fk_X6_112 ly_376 ?_
          refine b_iconst dX6_function_234 ?_
          refine b_isub dX6_function_235 ?_
          obtain ⟨g8, h⟩ := h
          refine b_iald dX6_function_236 ly_381 g8 ?_
          refine b_iconst dX6_function_237 ?_
          refine b_iload dX6_function_238 rfl ?_
          refine b_imul dX6_function_240 ?_
          refine b_iload dX6_function_241 rfl ?_
          refine b_imul dX6_function_243 ?_
          refine b_iadd dX6_function_244 ?_
          refine b_ldc (1155420) dX6_function_245 q1374 (by decide) ?_
          refine b_iload dX6_function_247 rfl ?_
          refine b_cVv (as := [vI ((m4 381 ((m4 376 8) - 2)) + ((2 * r4) * (m1 379 (m 381 ((m 376 8) - 1))))), vI 1155420, vI r4]) (st := []) dX6_function_249 mf_X8_copy q1320 lk_X6_161 ly_378 rfl (p_X8_copy (f := 2) (Nat.le_refl _) _ _ _ _ h) (by omega) rfl rfl (Nat.le_of_ble_eq_true rfl) (by decide) rfl (fun _ => rfl) (fun r5 m5 h => ?_) (fun _ h => h)
          refine b_goto 395 dX6_function_252 (by decide) ?_
          refine b_fgt [true, false, false, true, false, true, false, false, false] (ls' := [vR 376, vU, vU, vI x3, vU, vI (if x1 = 0 then 2 else (if x1 = 2 then 2 else (if x1 = 3 then 2 else 1 : Int) : Int) : Int), vU, vU, vU]) rfl rfl ?_
          exact pl_X6_function_395 hf _ _ _ h
        · have h := ifF c5 h
          refine b_fgt [true, false, false, true, false, true, false, false, true] (ls' := [vR 376, vU, vU, vI x3, vU, vI (if x1 = 0 then 2 else (if x1 = 2 then 2 else (if x1 = 3 then 2 else 1 : Int) : Int) : Int), vU, vU, vI r4]) rfl rfl ?_
          exact pl_X6_function_208 hf _ _ _ _ h
    have h := ifF c3 h
    by_cases c6 : x1 = 3
    · have h := ifT c6 h
      refine b_tswIn 255 dX6_function_41 g3 (by omega) (by omega) (by rw [c6]; rfl) (by decide) ?_
      refine b_aload_n dX6_function_255 rfl ?_
      refine b_iload_n dX6_function_256 rfl ?_
      refine b_iload_n dX6_function_257 rfl ?_
      refine b_aload_n dX6_function_258 rfl ?_
      refine b_getR dX6_function_259 fk_X6_31 ly_376 gg_376_7 ?_
      refine b_aload_n dX6_function_262 rfl ?_
      refine b_getI dX6_function_263 fk_X6_112 ly_376 ?_
      refine b_iconst dX6_function_266 ?_
      refine b_isub dX6_function_267 ?_
      obtain ⟨g9, h⟩ := h
      refine b_iald dX6_function_268 ly_381 g9 ?_
      refine b_iload dX6_function_269 rfl ?_
      refine b_cVv (as := [vI x2, vI x3, vI (m1 381 ((m1 376 8) - 2)), vI (m 381 ((m 376 8) - 1))]) (st := []) dX6_function_271 mf_X6_atValue qs77 lk_X6_295 ly_376 rfl (p_X6_atValue (f := 8) (Nat.le_refl _) _ _ _ _ _ h) (by omega) rfl rfl (Nat.le_of_ble_eq_true rfl) (by decide) rfl (fun _ => rfl) (fun r6 m6 h => ?_) (fun _ h => h)
      refine b_goto 395 dX6_function_274 (by decide) ?_
      refine b_fgt [true, false, false, true, false, true, false, false, false] (ls' := [vR 376, vU, vU, vI x3, vU, vI (if x1 = 0 then 2 else (if x1 = 2 then 2 else (if x1 = 3 then 2 else 1 : Int) : Int) : Int), vU, vU, vU]) rfl rfl ?_
      exact pl_X6_function_395 hf _ _ _ h
    have h := ifF c6 h
    by_cases c7 : x1 = 4
    · have h := ifT c7 h
      refine b_tswIn 277 dX6_function_41 g3 (by omega) (by omega) (by rw [c7]; rfl) (by decide) ?_
      refine b_aload_n dX6_function_277 rfl ?_
      refine b_iload_n dX6_function_278 rfl ?_
      refine b_iload dX6_function_279 rfl ?_
      refine b_cVv (as := [vI x2, vI (m 381 ((m 376 8) - 1))]) (st := []) dX6_function_281 mf_X6_derived qs78 lk_X6_298 ly_376 rfl (p_X6_derived (f := 5) (Nat.le_refl _) _ _ _ h) (by omega) rfl rfl (Nat.le_of_ble_eq_true rfl) (by decide) rfl (fun _ => rfl) (fun r7 m7 h => ?_) (fun _ h => h)
      refine b_goto 395 dX6_function_284 (by decide) ?_
      refine b_fgt [true, false, false, true, false, true, false, false, false] (ls' := [vR 376, vU, vU, vI x3, vU, vI (if x1 = 0 then 2 else (if x1 = 2 then 2 else (if x1 = 3 then 2 else 1 : Int) : Int) : Int), vU, vU, vU]) rfl rfl ?_
      exact pl_X6_function_395 hf _ _ _ h
    have h := ifF c7 h
    by_cases c8 : x1 = 5
    · have h := ifT c8 h
      refine b_tswIn 287 dX6_function_41 g3 (by omega) (by omega) (by rw [c8]; rfl) (by decide) ?_
      refine b_aload_n dX6_function_287 rfl ?_
      refine b_getR dX6_function_288 fk_X6_21 ly_376 gg_376_3 ?_
      refine b_iload_n dX6_function_291 rfl ?_
      refine b_iload dX6_function_292 rfl ?_
      refine b_ldc (1155420) dX6_function_294 q1374 (by decide) ?_
      refine b_cVv (as := [vI x2, vI (m 381 ((m 376 8) - 1)), vI 1155420]) (st := []) dX6_function_296 mf_X8_determinant q1481 lk_X6_301 ly_378 rfl (p_X8_determinant (f := 13) (Nat.le_refl _) _ _ _ _ h) (by omega) rfl rfl (Nat.le_of_ble_eq_true rfl) (by decide) rfl (fun _ => rfl) (fun r8 m8 h => ?_) (fun _ h => h)
      refine b_goto 395 dX6_function_299 (by decide) ?_
      refine b_fgt [true, false, false, true, false, true, false, false, false] (ls' := [vR 376, vU, vU, vI x3, vU, vI (if x1 = 0 then 2 else (if x1 = 2 then 2 else (if x1 = 3 then 2 else 1 : Int) : Int) : Int), vU, vU, vU]) rfl rfl ?_
      exact pl_X6_function_395 hf _ _ _ h
    have h := ifF c8 h
    by_cases c9 : x1 = 6
    · have h := ifT c9 h
      refine b_tswIn 302 dX6_function_41 g3 (by omega) (by omega) (by rw [c9]; rfl) (by decide) ?_
      refine b_aload_n dX6_function_302 rfl ?_
      refine b_iload_n dX6_function_303 rfl ?_
      refine b_iload dX6_function_304 rfl ?_
      refine b_cVv (as := [vI x2, vI (m 381 ((m 376 8) - 1))]) (st := []) dX6_function_306 mf_X6_trace qs80 lk_X6_304 ly_376 rfl (p_X6_trace (f := 6) (Nat.le_refl _) _ _ _ h) (by omega) rfl rfl (Nat.le_of_ble_eq_true rfl) (by decide) rfl (fun _ => rfl) (fun r9 m9 h => ?_) (fun _ h => h)
      refine b_goto 395 dX6_function_309 (by decide) ?_
      refine b_fgt [true, false, false, true, false, true, false, false, false] (ls' := [vR 376, vU, vU, vI x3, vU, vI (if x1 = 0 then 2 else (if x1 = 2 then 2 else (if x1 = 3 then 2 else 1 : Int) : Int) : Int), vU, vU, vU]) rfl rfl ?_
      exact pl_X6_function_395 hf _ _ _ h
    have h := ifF c9 h
    by_cases c10 : x1 = 7
    · have h := ifT c10 h
      refine b_tswIn 312 dX6_function_41 g3 (by omega) (by omega) (by rw [c10]; rfl) (by decide) ?_
      refine b_aload_n dX6_function_312 rfl ?_
      refine b_iload_n dX6_function_313 rfl ?_
      refine b_iload dX6_function_314 rfl ?_
      refine b_cVv (as := [vI x2, vI (m 381 ((m 376 8) - 1))]) (st := []) dX6_function_316 mf_X6_turned qs81 lk_X6_307 ly_376 rfl (p_X6_turned (f := 3) (Nat.le_refl _) _ _ _ h) (by omega) rfl rfl (Nat.le_of_ble_eq_true rfl) (by decide) rfl (fun _ => rfl) (fun r10 m10 h => ?_) (fun _ h => h)
      refine b_goto 395 dX6_function_319 (by decide) ?_
      refine b_fgt [true, false, false, true, false, true, false, false, false] (ls' := [vR 376, vU, vU, vI x3, vU, vI (if x1 = 0 then 2 else (if x1 = 2 then 2 else (if x1 = 3 then 2 else 1 : Int) : Int) : Int), vU, vU, vU]) rfl rfl ?_
      exact pl_X6_function_395 hf _ _ _ h
    have h := ifF c10 h
    by_cases c11 : x1 = 8
    · have h := ifT c11 h
      refine b_tswIn 322 dX6_function_41 g3 (by omega) (by omega) (by rw [c11]; rfl) (by decide) ?_
      refine b_aload_n dX6_function_322 rfl ?_
      refine b_getR dX6_function_323 fk_X6_21 ly_376 gg_376_3 ?_
      refine b_iload_n dX6_function_326 rfl ?_
      refine b_iload dX6_function_327 rfl ?_
      refine b_ldc (1155420) dX6_function_329 q1374 (by decide) ?_
      refine b_cVv (as := [vI x2, vI (m 381 ((m 376 8) - 1)), vI 1155420]) (st := []) dX6_function_331 mf_X8_adjugate q1505 lk_X6_310 ly_378 rfl (p_X8_adjugate (f := 13) (Nat.le_refl _) _ _ _ _ h) (by omega) rfl rfl (Nat.le_of_ble_eq_true rfl) (by decide) rfl (fun _ => rfl) (fun r11 m11 h => ?_) (fun _ h => h)
      refine b_goto 395 dX6_function_334 (by decide) ?_
      refine b_fgt [true, false, false, true, false, true, false, false, false] (ls' := [vR 376, vU, vU, vI x3, vU, vI (if x1 = 0 then 2 else (if x1 = 2 then 2 else (if x1 = 3 then 2 else 1 : Int) : Int) : Int), vU, vU, vU]) rfl rfl ?_
      exact pl_X6_function_395 hf _ _ _ h
    have h := ifF c11 h
    by_cases c12 : x1 = 9
    · have h := ifT c12 h
      refine b_tswIn 337 dX6_function_41 g3 (by omega) (by omega) (by rw [c12]; rfl) (by decide) ?_
      refine b_aload_n dX6_function_337 rfl ?_
      refine b_iload_n dX6_function_338 rfl ?_
      refine b_iload dX6_function_339 rfl ?_
      refine b_cVv (as := [vI x2, vI (m 381 ((m 376 8) - 1))]) (st := []) dX6_function_341 mf_X6_inverse qs82 lk_X6_313 ly_376 rfl (p_X6_inverse (f := 14) (Nat.le_refl _) _ _ _ h) (by omega) rfl rfl (Nat.le_of_ble_eq_true rfl) (by decide) rfl (fun _ => rfl) (fun r12 m12 h => ?_) (fun _ h => h)
      refine b_goto 395 dX6_function_344 (by decide) ?_
      refine b_fgt [true, false, false, true, false, true, false, false, false] (ls' := [vR 376, vU, vU, vI x3, vU, vI (if x1 = 0 then 2 else (if x1 = 2 then 2 else (if x1 = 3 then 2 else 1 : Int) : Int) : Int), vU, vU, vU]) rfl rfl ?_
      exact pl_X6_function_395 hf _ _ _ h
    have h := ifF c12 h
    by_cases c13 : x1 = 10
    · have h := ifT c13 h
      refine b_tswIn 347 dX6_function_41 g3 (by omega) (by omega) (by rw [c13]; rfl) (by decide) ?_
      refine b_aload_n dX6_function_347 rfl ?_
      refine b_iload_n dX6_function_348 rfl ?_
      refine b_iload dX6_function_349 rfl ?_
      refine b_cVv (as := [vI x2, vI (m 381 ((m 376 8) - 1))]) (st := []) dX6_function_351 mf_X6_characteristic qs83 lk_X6_316 ly_376 rfl (p_X6_characteristic (f := 14) (Nat.le_refl _) _ _ _ h) (by omega) rfl rfl (Nat.le_of_ble_eq_true rfl) (by decide) rfl (fun _ => rfl) (fun r13 m13 h => ?_) (fun _ h => h)
      refine b_goto 395 dX6_function_354 (by decide) ?_
      refine b_fgt [true, false, false, true, false, true, false, false, false] (ls' := [vR 376, vU, vU, vI x3, vU, vI (if x1 = 0 then 2 else (if x1 = 2 then 2 else (if x1 = 3 then 2 else 1 : Int) : Int) : Int), vU, vU, vU]) rfl rfl ?_
      exact pl_X6_function_395 hf _ _ _ h
    have h := ifF c13 h
    by_cases c14 : x1 = 11
    · have h := ifT c14 h
      refine b_tswIn 357 dX6_function_41 g3 (by omega) (by omega) (by rw [c14]; rfl) (by decide) ?_
      refine b_aload_n dX6_function_357 rfl ?_
      refine b_aload_n dX6_function_358 rfl ?_
      refine b_aload_n dX6_function_359 rfl ?_
      refine b_getR dX6_function_360 fk_X6_21 ly_376 gg_376_3 ?_
      refine b_iload dX6_function_363 rfl ?_
      refine b_cVi (as := [vI r1]) (st := [vR 376, vR 376]) dX6_function_365 mf_X8_modulus qs66 lk_X6_319 ly_378 rfl (p_X8_modulus (f := 1) (Nat.le_refl _) _ _ h) (by omega) rfl rfl (Nat.le_of_ble_eq_true rfl) (by decide) rfl (fun _ => rfl) (fun r14 m14 h => ?_) (fun _ h => h)
      refine b_iload dX6_function_368 rfl ?_
      refine b_cVi (as := [vI r14, vI (m 381 ((m 376 8) - 1))]) (st := [vR 376]) dX6_function_370 mf_X6_roots qs84 lk_X6_322 ly_376 rfl (p_X6_roots (f := 5) (Nat.le_refl _) _ _ _ h) (by omega) rfl rfl (Nat.le_of_ble_eq_true rfl) (by decide) rfl (fun _ => rfl) (fun r15 m15 h => ?_) (fun _ h => h)
      refine b_cVv (as := [vI r15]) (st := []) dX6_function_373 mf_X6_integer qs76 lk_X6_292 ly_376 rfl (p_X6_integer (f := 1) (Nat.le_refl _) _ _ h) (by omega) rfl rfl (Nat.le_of_ble_eq_true rfl) (by decide) rfl (fun _ => rfl) (fun r16 m16 h => ?_) (fun _ h => h)
      refine b_goto 395 dX6_function_376 (by decide) ?_
      refine b_fgt [true, false, false, true, false, true, false, false, false] (ls' := [vR 376, vU, vU, vI x3, vU, vI (if x1 = 0 then 2 else (if x1 = 2 then 2 else (if x1 = 3 then 2 else 1 : Int) : Int) : Int), vU, vU, vU]) rfl rfl ?_
      exact pl_X6_function_395 hf _ _ _ h
    have h := ifF c14 h
    refine b_tswOut 379 dX6_function_41 g3 (by omega) (by decide) ?_
    refine b_aload_n dX6_function_379 rfl ?_
    refine b_aload_n dX6_function_380 rfl ?_
    refine b_getR dX6_function_381 fk_X6_73 ly_376 gg_376_4 ?_
    refine b_iload dX6_function_384 rfl ?_
    refine b_iload_n dX6_function_386 rfl ?_
    refine b_iadd dX6_function_387 ?_
    refine b_bipush dX6_function_388 (by decide) ?_
    refine b_isub dX6_function_390 ?_
    obtain ⟨g10, h⟩ := h
    refine b_iald dX6_function_391 ly_379 g10 ?_
    refine b_cVv (as := [vI (m1 379 (((m 381 ((m 376 8) - 1)) + x1) - 12))]) (st := []) dX6_function_392 mf_X6_integer qs76 lk_X6_292 ly_376 rfl (p_X6_integer (f := 1) (Nat.le_refl _) _ _ h) (by omega) rfl rfl (Nat.le_of_ble_eq_true rfl) (by decide) rfl (fun _ => rfl) (fun r17 m17 h => ?_) (fun _ h => h)
    refine b_fgt [true, false, false, true, false, true, false, false, false] (ls' := [vR 376, vU, vU, vI x3, vU, vI (if x1 = 0 then 2 else (if x1 = 2 then 2 else (if x1 = 3 then 2 else 1 : Int) : Int) : Int), vU, vU, vU]) rfl rfl ?_
    exact pl_X6_function_395 hf _ _ _ h
  have g2 := hs
  refine b_if_eq 27 dX6_function_14 g2 (by decide) (fun c15 => ?_) (fun c15 => ?_)
  ·
    refine b_iconst dX6_function_27 ?_
    refine b_goto 32 dX6_function_28 (by decide) ?_
    rw [if_pos c15] at K
    exact K
  ·
    refine b_iload_n dX6_function_17 rfl ?_
    refine b_iconst dX6_function_18 ?_
    refine b_icmp_eq 27 dX6_function_19 g2 (by decide) (by decide) (fun c16 => ?_) (fun c16 => ?_)
    ·
      refine b_iconst dX6_function_27 ?_
      refine b_goto 32 dX6_function_28 (by decide) ?_
      rw [if_neg c15, if_pos c16] at K
      exact K
    ·
      refine b_iload_n dX6_function_22 rfl ?_
      refine b_iconst dX6_function_23 ?_
      refine b_icmp_ne 31 dX6_function_24 g2 (by decide) (by decide) (fun c17 => ?_) (fun c17 => ?_)
      ·
        refine b_iconst dX6_function_31 ?_
        rw [if_neg c15, if_neg c16, if_neg c17] at K
        exact K
      ·
        have c17 := Decidable.of_not_not c17
        refine b_iconst dX6_function_27 ?_
        refine b_goto 32 dX6_function_28 (by decide) ?_
        rw [if_neg c15, if_neg c16, if_pos c17] at K
        exact K
theorem dX6_power_0 : decode cX6_power 0 = .ok (.aload_n 0, 1) := by decide +kernel
theorem dX6_power_1 : decode cX6_power 1 = .ok (.getfield 31, 3) := by decide +kernel
theorem dX6_power_4 : decode cX6_power 4 = .ok (.aload_n 0, 1) := by decide +kernel
theorem dX6_power_5 : decode cX6_power 5 = .ok (.getfield 112, 3) := by decide +kernel
theorem dX6_power_8 : decode cX6_power 8 = .ok (.iconst 1, 1) := by decide +kernel
theorem dX6_power_9 : decode cX6_power 9 = .ok (.isub, 1) := by decide +kernel
theorem dX6_power_10 : decode cX6_power 10 = .ok (.iaload, 1) := by decide +kernel
theorem dX6_power_11 : decode cX6_power 11 = .ok (.istore_n 3, 1) := by decide +kernel
theorem dX6_power_12 : decode cX6_power 12 = .ok (.aload_n 0, 1) := by decide +kernel
theorem dX6_power_13 : decode cX6_power 13 = .ok (.getfield 21, 3) := by decide +kernel
theorem dX6_power_16 : decode cX6_power 16 = .ok (.iload_n 1, 1) := by decide +kernel
theorem dX6_power_17 : decode cX6_power 17 = .ok (.ldc 239, 2) := by decide +kernel
theorem dX6_power_19 : decode cX6_power 19 = .ok (.invokevirtual 240, 3) := by decide +kernel
theorem dX6_power_22 : decode cX6_power 22 = .ok (.iconst 0, 1) := by decide +kernel
theorem dX6_power_23 : decode cX6_power 23 = .ok (.istore 4, 2) := by decide +kernel
theorem dX6_power_25 : decode cX6_power 25 = .ok (.iload 4, 2) := by decide +kernel
theorem dX6_power_27 : decode cX6_power 27 = .ok (.iload_n 2, 1) := by decide +kernel
theorem dX6_power_28 : decode cX6_power 28 = .ok (.if_icmp .ge 58, 3) := by decide +kernel
theorem dX6_power_31 : decode cX6_power 31 = .ok (.aload_n 0, 1) := by decide +kernel
theorem dX6_power_32 : decode cX6_power 32 = .ok (.getfield 21, 3) := by decide +kernel
theorem dX6_power_35 : decode cX6_power 35 = .ok (.getfield 109, 3) := by decide +kernel
theorem dX6_power_38 : decode cX6_power 38 = .ok (.ifCond .ne 48, 3) := by decide +kernel
theorem dX6_power_41 : decode cX6_power 41 = .ok (.aload_n 0, 1) := by decide +kernel
theorem dX6_power_42 : decode cX6_power 42 = .ok (.getfield 21, 3) := by decide +kernel
theorem dX6_power_45 : decode cX6_power 45 = .ok (.iload_n 1, 1) := by decide +kernel
theorem dX6_power_46 : decode cX6_power 46 = .ok (.ldc 239, 2) := by decide +kernel
theorem dX6_power_48 : decode cX6_power 48 = .ok (.iload_n 3, 1) := by decide +kernel
theorem dX6_power_49 : decode cX6_power 49 = .ok (.ldc 157, 2) := by decide +kernel
theorem dX6_power_51 : decode cX6_power 51 = .ok (.invokevirtual 243, 3) := by decide +kernel
theorem dX6_power_54 : decode cX6_power 54 = .ok (.aload_n 0, 1) := by decide +kernel
theorem dX6_power_55 : decode cX6_power 55 = .ok (.getfield 21, 3) := by decide +kernel
theorem dX6_power_58 : decode cX6_power 58 = .ok (.getfield 109, 3) := by decide +kernel
theorem dX6_power_61 : decode cX6_power 61 = .ok (.ifCond .ne 19, 3) := by decide +kernel
theorem dX6_power_64 : decode cX6_power 64 = .ok (.aload_n 0, 1) := by decide +kernel
theorem dX6_power_65 : decode cX6_power 65 = .ok (.getfield 21, 3) := by decide +kernel
theorem dX6_power_68 : decode cX6_power 68 = .ok (.ldc 157, 2) := by decide +kernel
theorem dX6_power_70 : decode cX6_power 70 = .ok (.ldc 239, 2) := by decide +kernel
theorem dX6_power_72 : decode cX6_power 72 = .ok (.aload_n 0, 1) := by decide +kernel
theorem dX6_power_73 : decode cX6_power 73 = .ok (.iload_n 1, 1) := by decide +kernel
theorem dX6_power_74 : decode cX6_power 74 = .ok (.invokevirtual 158, 3) := by decide +kernel
theorem dX6_power_77 : decode cX6_power 77 = .ok (.invokevirtual 161, 3) := by decide +kernel
theorem dX6_power_80 : decode cX6_power 80 = .ok (.iinc 4 1, 3) := by decide +kernel
theorem dX6_power_83 : decode cX6_power 83 = .ok (.goto (-58), 3) := by decide +kernel
theorem dX6_power_86 : decode cX6_power 86 = .ok (.aload_n 0, 1) := by decide +kernel
theorem dX6_power_87 : decode cX6_power 87 = .ok (.getfield 21, 3) := by decide +kernel
theorem dX6_power_90 : decode cX6_power 90 = .ok (.ldc 239, 2) := by decide +kernel
theorem dX6_power_92 : decode cX6_power 92 = .ok (.iload_n 3, 1) := by decide +kernel
theorem dX6_power_93 : decode cX6_power 93 = .ok (.aload_n 0, 1) := by decide +kernel
theorem dX6_power_94 : decode cX6_power 94 = .ok (.iload_n 1, 1) := by decide +kernel
theorem dX6_power_95 : decode cX6_power 95 = .ok (.invokevirtual 158, 3) := by decide +kernel
theorem dX6_power_98 : decode cX6_power 98 = .ok (.invokevirtual 161, 3) := by decide +kernel
theorem dX6_power_101 : decode cX6_power 101 = .ok (.return_, 1) := by decide +kernel
/-! AlgebraHouse$Machine.power(II)V -/
def P_X6_power_86 (Q : Int → MM → Prop) (x1 : Int) (x3 : Int) (m : MM) : Prop := P_X6_number x1 m (fun r1 m1 => P_X8_copy 1156302 x3 r1 m1 (fun r2 m2 => Q 0 m2))
def P_X6_power_25 (Q : Int → MM → Prop) : Nat → Int → Int → Int → Int → MM → Prop
  | 0, _, _, _, _, _ => False
  | n + 1, x1, x2, x3, x4, m => (RI x4) ∧ (RI x2) ∧ (if x2 ≤ x4 then P_X6_power_86 Q x1 x3 m else (RI (m 378 2)) ∧ (if (m 378 2) = 0 then P_X8_multiply x1 1156302 x3 1155420 m (fun r1 m1 => (RI (m1 378 2)) ∧ (if (m1 378 2) = 0 then P_X6_number x1 m1 (fun r2 m2 => P_X8_copy 1155420 1156302 r2 m2 (fun r3 m3 => P_X6_power_25 Q n x1 x2 x3 (x4 + 1) m3)) else P_X6_power_25 Q n x1 x2 x3 (x4 + 1) m1)) else P_X6_power_86 Q x1 x3 m))
def P_X6_power (x1 : Int) (x2 : Int) (m : MM) (Q : Int → MM → Prop) : Prop := (0 ≤ ((m 376 8) - 1) ∧ ((m 376 8) - 1) < 1701) ∧ P_X8_unit x1 1156302 m (fun r1 m1 => ∃ nn, P_X6_power_25 Q nn x1 x2 (m 381 ((m 376 8) - 1)) 0 m1)
theorem pl_X6_power_86 {f : Nat} {Q : Int → MM → Prop} {T : MM → Prop} (hf : 8 ≤ f) : ∀ (x1 : Int) (x3 : Int) (m : MM), P_X6_power_86 Q x1 x3 m → B f M_X6_power 86 [vR 376, vI x1, vU, vI x3, vU] [] m Q T := by
  intro x1 x3 m h
  have h : P_X6_number x1 m (fun r1 m1 => P_X8_copy 1156302 x3 r1 m1 (fun r2 m2 => Q 0 m2)) := h
  refine b_aload_n dX6_power_86 rfl ?_
  refine b_getR dX6_power_87 fk_X6_21 ly_376 gg_376_3 ?_
  refine b_ldc (1156302) dX6_power_90 q1368 (by decide) ?_
  refine b_iload_n dX6_power_92 rfl ?_
  refine b_aload_n dX6_power_93 rfl ?_
  refine b_iload_n dX6_power_94 rfl ?_
  refine b_cVi (as := [vI x1]) (st := [vI x3, vI 1156302, vR 378]) dX6_power_95 mf_X6_number qs69 lk_X6_158 ly_376 rfl (p_X6_number (f := 3) (Nat.le_refl _) _ _ h) (by omega) rfl rfl (Nat.le_of_ble_eq_true rfl) (by decide) rfl (fun _ => rfl) (fun r1 m1 h => ?_) (fun _ h => h)
  refine b_cVv (as := [vI 1156302, vI x3, vI r1]) (st := []) dX6_power_98 mf_X8_copy q1320 lk_X6_161 ly_378 rfl (p_X8_copy (f := 2) (Nat.le_refl _) _ _ _ _ h) (by omega) rfl rfl (Nat.le_of_ble_eq_true rfl) (by decide) rfl (fun _ => rfl) (fun r2 m2 h => ?_) (fun _ h => h)
  exact b_vret dX6_power_101 rfl h
theorem pl_X6_power_25 {f : Nat} {Q : Int → MM → Prop} {T : MM → Prop} (hf : 8 ≤ f) : ∀ (n : Nat) (x1 : Int) (x2 : Int) (x3 : Int) (x4 : Int) (m : MM), P_X6_power_25 Q n x1 x2 x3 x4 m → B f M_X6_power 25 [vR 376, vI x1, vI x2, vI x3, vI x4] [] m Q T := by
  intro n
  induction n with
  | zero => intro x1 x2 x3 x4 m h; exact h.elim
  | succ n ih =>
    intro x1 x2 x3 x4 m h
    have h : (RI x4) ∧ (RI x2) ∧ (if x2 ≤ x4 then P_X6_power_86 Q x1 x3 m else (RI (m 378 2)) ∧ (if (m 378 2) = 0 then P_X8_multiply x1 1156302 x3 1155420 m (fun r1 m1 => (RI (m1 378 2)) ∧ (if (m1 378 2) = 0 then P_X6_number x1 m1 (fun r2 m2 => P_X8_copy 1155420 1156302 r2 m2 (fun r3 m3 => P_X6_power_25 Q n x1 x2 x3 (x4 + 1) m3)) else P_X6_power_25 Q n x1 x2 x3 (x4 + 1) m1)) else P_X6_power_86 Q x1 x3 m)) := h
    refine b_iload dX6_power_25 rfl ?_
    refine b_iload_n dX6_power_27 rfl ?_
    obtain ⟨g1, h⟩ := h
    obtain ⟨g2, h⟩ := h
    refine b_icmp_ge 86 dX6_power_28 g1 g2 (by decide) (fun c1 => ?_) (fun c1 => ?_)
    · have h := ifT c1 h
      refine b_fgt [true, true, false, true, false] (ls' := [vR 376, vI x1, vU, vI x3, vU]) rfl rfl ?_
      exact pl_X6_power_86 hf _ _ _ h
    · have h := ifF c1 h
      refine b_aload_n dX6_power_31 rfl ?_
      refine b_getR dX6_power_32 fk_X6_21 ly_376 gg_376_3 ?_
      refine b_getI dX6_power_35 fk_X6_109 ly_378 ?_
      obtain ⟨g3, h⟩ := h
      refine b_if_ne 86 dX6_power_38 g3 (by decide) (fun c2 => ?_) (fun c2 => ?_)
      · have h := ifF c2 h
        refine b_fgt [true, true, false, true, false] (ls' := [vR 376, vI x1, vU, vI x3, vU]) rfl rfl ?_
        exact pl_X6_power_86 hf _ _ _ h
      · have h := ifT (Decidable.of_not_not c2) h
        refine b_aload_n dX6_power_41 rfl ?_
        refine b_getR dX6_power_42 fk_X6_21 ly_376 gg_376_3 ?_
        refine b_iload_n dX6_power_45 rfl ?_
        refine b_ldc (1156302) dX6_power_46 q1368 (by decide) ?_
        refine b_iload_n dX6_power_48 rfl ?_
        refine b_ldc (1155420) dX6_power_49 q1374 (by decide) ?_
        refine b_cVv (as := [vI x1, vI 1156302, vI x3, vI 1155420]) (st := []) dX6_power_51 mf_X8_multiply q1377 lk_X6_243 ly_378 rfl (p_X8_multiply (f := 7) (Nat.le_refl _) _ _ _ _ _ h) (by omega) rfl rfl (Nat.le_of_ble_eq_true rfl) (by decide) rfl (fun _ => rfl) (fun r1 m1 h => ?_) (fun _ h => h)
        refine b_aload_n dX6_power_54 rfl ?_
        refine b_getR dX6_power_55 fk_X6_21 ly_376 gg_376_3 ?_
        refine b_getI dX6_power_58 fk_X6_109 ly_378 ?_
        obtain ⟨g4, h⟩ := h
        refine b_if_ne 80 dX6_power_61 g4 (by decide) (fun c3 => ?_) (fun c3 => ?_)
        · have h := ifF c3 h
          refine b_iinc (ls' := [vR 376, vI x1, vI x2, vI x3, vI (x4 + 1)]) dX6_power_80 rfl rfl ?_
          refine b_goto 25 dX6_power_83 (by decide) ?_
          exact ih _ _ _ _ _ h
        · have h := ifT (Decidable.of_not_not c3) h
          refine b_aload_n dX6_power_64 rfl ?_
          refine b_getR dX6_power_65 fk_X6_21 ly_376 gg_376_3 ?_
          refine b_ldc (1155420) dX6_power_68 q1374 (by decide) ?_
          refine b_ldc (1156302) dX6_power_70 q1368 (by decide) ?_
          refine b_aload_n dX6_power_72 rfl ?_
          refine b_iload_n dX6_power_73 rfl ?_
          refine b_cVi (as := [vI x1]) (st := [vI 1156302, vI 1155420, vR 378]) dX6_power_74 mf_X6_number qs69 lk_X6_158 ly_376 rfl (p_X6_number (f := 3) (Nat.le_refl _) _ _ h) (by omega) rfl rfl (Nat.le_of_ble_eq_true rfl) (by decide) rfl (fun _ => rfl) (fun r2 m2 h => ?_) (fun _ h => h)
          refine b_cVv (as := [vI 1155420, vI 1156302, vI r2]) (st := []) dX6_power_77 mf_X8_copy q1320 lk_X6_161 ly_378 rfl (p_X8_copy (f := 2) (Nat.le_refl _) _ _ _ _ h) (by omega) rfl rfl (Nat.le_of_ble_eq_true rfl) (by decide) rfl (fun _ => rfl) (fun r3 m3 h => ?_) (fun _ h => h)
          refine b_iinc (ls' := [vR 376, vI x1, vI x2, vI x3, vI (x4 + 1)]) dX6_power_80 rfl rfl ?_
          refine b_goto 25 dX6_power_83 (by decide) ?_
          exact ih _ _ _ _ _ h
theorem p_X6_power {f : Nat} {Q : Int → MM → Prop} {T : MM → Prop} (hf : 8 ≤ f) (x1 : Int) (x2 : Int) (m : MM) (h : P_X6_power x1 x2 m Q) : CC f M_X6_power [vR 376, vI x1, vI x2] m Q T := by
  refine CC.of (plainFor_of_name (by decide)) (Nat.le_of_ble_eq_true rfl) (ls := [vR 376, vI x1, vI x2, vU, vU]) rfl ?_
  have h : (0 ≤ ((m 376 8) - 1) ∧ ((m 376 8) - 1) < 1701) ∧ P_X8_unit x1 1156302 m (fun r1 m1 => ∃ nn, P_X6_power_25 Q nn x1 x2 (m 381 ((m 376 8) - 1)) 0 m1) := h
  refine b_aload_n dX6_power_0 rfl ?_
  refine b_getR dX6_power_1 fk_X6_31 ly_376 gg_376_7 ?_
  refine b_aload_n dX6_power_4 rfl ?_
  refine b_getI dX6_power_5 fk_X6_112 ly_376 ?_
  refine b_iconst dX6_power_8 ?_
  refine b_isub dX6_power_9 ?_
  obtain ⟨g1, h⟩ := h
  refine b_iald dX6_power_10 ly_381 g1 ?_
  refine b_istore_n (ls' := [vR 376, vI x1, vI x2, vI (m 381 ((m 376 8) - 1)), vU]) dX6_power_11 (Nat.le_of_ble_eq_true rfl) rfl ?_
  refine b_aload_n dX6_power_12 rfl ?_
  refine b_getR dX6_power_13 fk_X6_21 ly_376 gg_376_3 ?_
  refine b_iload_n dX6_power_16 rfl ?_
  refine b_ldc (1156302) dX6_power_17 q1368 (by decide) ?_
  refine b_cVv (as := [vI x1, vI 1156302]) (st := []) dX6_power_19 mf_X8_unit q1371 lk_X6_240 ly_378 rfl (p_X8_unit (f := 3) (Nat.le_refl _) _ _ _ h) (by omega) rfl rfl (Nat.le_of_ble_eq_true rfl) (by decide) rfl (fun _ => rfl) (fun r1 m1 h => ?_) (fun _ h => h)
  refine b_iconst dX6_power_22 ?_
  refine b_istore (ls' := [vR 376, vI x1, vI x2, vI (m 381 ((m 376 8) - 1)), vI 0]) dX6_power_23 (Nat.le_of_ble_eq_true rfl) rfl ?_
  obtain ⟨nn, h⟩ := h
  exact pl_X6_power_25 hf nn _ _ _ _ _ h
theorem dX6_push_0 : decode cX6_push 0 = .ok (.aload_n 0, 1) := by decide +kernel
theorem dX6_push_1 : decode cX6_push 1 = .ok (.getfield 31, 3) := by decide +kernel
theorem dX6_push_4 : decode cX6_push 4 = .ok (.aload_n 0, 1) := by decide +kernel
theorem dX6_push_5 : decode cX6_push 5 = .ok (.getfield 112, 3) := by decide +kernel
theorem dX6_push_8 : decode cX6_push 8 = .ok (.iaload, 1) := by decide +kernel
theorem dX6_push_9 : decode cX6_push 9 = .ok (.istore_n 2, 1) := by decide +kernel
theorem dX6_push_10 : decode cX6_push 10 = .ok (.aload_n 0, 1) := by decide +kernel
theorem dX6_push_11 : decode cX6_push 11 = .ok (.dup, 1) := by decide +kernel
theorem dX6_push_12 : decode cX6_push 12 = .ok (.getfield 112, 3) := by decide +kernel
theorem dX6_push_15 : decode cX6_push 15 = .ok (.iconst 1, 1) := by decide +kernel
theorem dX6_push_16 : decode cX6_push 16 = .ok (.iadd, 1) := by decide +kernel
theorem dX6_push_17 : decode cX6_push 17 = .ok (.putfield 112, 3) := by decide +kernel
theorem dX6_push_20 : decode cX6_push 20 = .ok (.aload_n 0, 1) := by decide +kernel
theorem dX6_push_21 : decode cX6_push 21 = .ok (.getfield 31, 3) := by decide +kernel
theorem dX6_push_24 : decode cX6_push 24 = .ok (.aload_n 0, 1) := by decide +kernel
theorem dX6_push_25 : decode cX6_push 25 = .ok (.getfield 112, 3) := by decide +kernel
theorem dX6_push_28 : decode cX6_push 28 = .ok (.iload_n 2, 1) := by decide +kernel
theorem dX6_push_29 : decode cX6_push 29 = .ok (.iload_n 1, 1) := by decide +kernel
theorem dX6_push_30 : decode cX6_push 30 = .ok (.iadd, 1) := by decide +kernel
theorem dX6_push_31 : decode cX6_push 31 = .ok (.iastore, 1) := by decide +kernel
theorem dX6_push_32 : decode cX6_push 32 = .ok (.iload_n 2, 1) := by decide +kernel
theorem dX6_push_33 : decode cX6_push 33 = .ok (.ireturn, 1) := by decide +kernel
/-! AlgebraHouse$Machine.push(I)I -/
def P_X6_push (x1 : Int) (m : MM) (Q : Int → MM → Prop) : Prop := (0 ≤ (m 376 8) ∧ (m 376 8) < 1701) ∧ ∀ m1 : MM, m1 = up m 376 8 ((m 376 8) + 1) → (0 ≤ (m1 376 8) ∧ (m1 376 8) < 1701) ∧ ∀ m2 : MM, m2 = up m1 381 (m1 376 8) ((m 381 (m 376 8)) + x1) → Q (m 381 (m 376 8)) m2
theorem p_X6_push {f : Nat} {Q : Int → MM → Prop} {T : MM → Prop} (hf : 1 ≤ f) (x1 : Int) (m : MM) (h : P_X6_push x1 m Q) : CC f M_X6_push [vR 376, vI x1] m Q T := by
  refine CC.of (plainFor_of_name (by decide)) (Nat.le_of_ble_eq_true rfl) (ls := [vR 376, vI x1, vU]) rfl ?_
  have h : (0 ≤ (m 376 8) ∧ (m 376 8) < 1701) ∧ ∀ m1 : MM, m1 = up m 376 8 ((m 376 8) + 1) → (0 ≤ (m1 376 8) ∧ (m1 376 8) < 1701) ∧ ∀ m2 : MM, m2 = up m1 381 (m1 376 8) ((m 381 (m 376 8)) + x1) → Q (m 381 (m 376 8)) m2 := h
  refine b_aload_n dX6_push_0 rfl ?_
  refine b_getR dX6_push_1 fk_X6_31 ly_376 gg_376_7 ?_
  refine b_aload_n dX6_push_4 rfl ?_
  refine b_getI dX6_push_5 fk_X6_112 ly_376 ?_
  obtain ⟨g1, h⟩ := h
  refine b_iald dX6_push_8 ly_381 g1 ?_
  refine b_istore_n (ls' := [vR 376, vI x1, vI (m 381 (m 376 8))]) dX6_push_9 (Nat.le_of_ble_eq_true rfl) rfl ?_
  refine b_aload_n dX6_push_10 rfl ?_
  refine b_dup dX6_push_11 rfl ?_
  refine b_getI dX6_push_12 fk_X6_112 ly_376 ?_
  refine b_iconst dX6_push_15 ?_
  refine b_iadd dX6_push_16 ?_
  refine b_putI dX6_push_17 fk_X6_112 ly_376 (fun m1 em1 => ?_)
  have h := h m1 em1
  refine b_aload_n dX6_push_20 rfl ?_
  refine b_getR dX6_push_21 fk_X6_31 ly_376 gg_376_7 ?_
  refine b_aload_n dX6_push_24 rfl ?_
  refine b_getI dX6_push_25 fk_X6_112 ly_376 ?_
  refine b_iload_n dX6_push_28 rfl ?_
  refine b_iload_n dX6_push_29 rfl ?_
  refine b_iadd dX6_push_30 ?_
  obtain ⟨g2, h⟩ := h
  refine b_iast dX6_push_31 ly_381 g2 (fun m2 em2 => ?_)
  have h := h m2 em2
  refine b_iload_n dX6_push_32 rfl ?_
  exact b_iret dX6_push_33 rfl h
theorem dX6_rest_0 : decode cX6_rest 0 = .ok (.iload_n 2, 1) := by decide +kernel
theorem dX6_rest_1 : decode cX6_rest 1 = .ok (.invokestatic 268, 3) := by decide +kernel
theorem dX6_rest_4 : decode cX6_rest 4 = .ok (.ifCond .le 42, 3) := by decide +kernel
theorem dX6_rest_7 : decode cX6_rest 7 = .ok (.aload_n 0, 1) := by decide +kernel
theorem dX6_rest_8 : decode cX6_rest 8 = .ok (.getfield 21, 3) := by decide +kernel
theorem dX6_rest_11 : decode cX6_rest 11 = .ok (.iload_n 2, 1) := by decide +kernel
theorem dX6_rest_12 : decode cX6_rest 12 = .ok (.invokestatic 197, 3) := by decide +kernel
theorem dX6_rest_15 : decode cX6_rest 15 = .ok (.iload_n 3, 1) := by decide +kernel
theorem dX6_rest_16 : decode cX6_rest 16 = .ok (.iload 4, 2) := by decide +kernel
theorem dX6_rest_18 : decode cX6_rest 18 = .ok (.invokevirtual 271, 3) := by decide +kernel
theorem dX6_rest_21 : decode cX6_rest 21 = .ok (.aload_n 0, 1) := by decide +kernel
theorem dX6_rest_22 : decode cX6_rest 22 = .ok (.getfield 21, 3) := by decide +kernel
theorem dX6_rest_25 : decode cX6_rest 25 = .ok (.iload_n 1, 1) := by decide +kernel
theorem dX6_rest_26 : decode cX6_rest 26 = .ok (.ifCond .eq 9, 3) := by decide +kernel
theorem dX6_rest_29 : decode cX6_rest 29 = .ok (.ldc_w 274, 3) := by decide +kernel
theorem dX6_rest_32 : decode cX6_rest 32 = .ok (.goto 6, 3) := by decide +kernel
theorem dX6_rest_35 : decode cX6_rest 35 = .ok (.ldc_w 275, 3) := by decide +kernel
theorem dX6_rest_38 : decode cX6_rest 38 = .ok (.ldc 157, 2) := by decide +kernel
theorem dX6_rest_40 : decode cX6_rest 40 = .ok (.bipush 7, 2) := by decide +kernel
theorem dX6_rest_42 : decode cX6_rest 42 = .ok (.invokevirtual 161, 3) := by decide +kernel
theorem dX6_rest_45 : decode cX6_rest 45 = .ok (.return_, 1) := by decide +kernel
theorem dX6_rest_46 : decode cX6_rest 46 = .ok (.aload_n 0, 1) := by decide +kernel
theorem dX6_rest_47 : decode cX6_rest 47 = .ok (.getfield 73, 3) := by decide +kernel
theorem dX6_rest_50 : decode cX6_rest 50 = .ok (.iload_n 3, 1) := by decide +kernel
theorem dX6_rest_51 : decode cX6_rest 51 = .ok (.iaload, 1) := by decide +kernel
theorem dX6_rest_52 : decode cX6_rest 52 = .ok (.istore 5, 2) := by decide +kernel
theorem dX6_rest_54 : decode cX6_rest 54 = .ok (.aload_n 0, 1) := by decide +kernel
theorem dX6_rest_55 : decode cX6_rest 55 = .ok (.getfield 73, 3) := by decide +kernel
theorem dX6_rest_58 : decode cX6_rest 58 = .ok (.iload 4, 2) := by decide +kernel
theorem dX6_rest_60 : decode cX6_rest 60 = .ok (.iaload, 1) := by decide +kernel
theorem dX6_rest_61 : decode cX6_rest 61 = .ok (.istore 6, 2) := by decide +kernel
theorem dX6_rest_63 : decode cX6_rest 63 = .ok (.iload 6, 2) := by decide +kernel
theorem dX6_rest_65 : decode cX6_rest 65 = .ok (.ifCond .ne 12, 3) := by decide +kernel
theorem dX6_rest_68 : decode cX6_rest 68 = .ok (.aload_n 0, 1) := by decide +kernel
theorem dX6_rest_69 : decode cX6_rest 69 = .ok (.getfield 21, 3) := by decide +kernel
theorem dX6_rest_72 : decode cX6_rest 72 = .ok (.iconst 2, 1) := by decide +kernel
theorem dX6_rest_73 : decode cX6_rest 73 = .ok (.putfield 109, 3) := by decide +kernel
theorem dX6_rest_76 : decode cX6_rest 76 = .ok (.return_, 1) := by decide +kernel
theorem dX6_rest_77 : decode cX6_rest 77 = .ok (.iload 6, 2) := by decide +kernel
theorem dX6_rest_79 : decode cX6_rest 79 = .ok (.ifCond .le 13, 3) := by decide +kernel
theorem dX6_rest_82 : decode cX6_rest 82 = .ok (.iload 5, 2) := by decide +kernel
theorem dX6_rest_84 : decode cX6_rest 84 = .ok (.iload 6, 2) := by decide +kernel
theorem dX6_rest_86 : decode cX6_rest 86 = .ok (.invokestatic 276, 3) := by decide +kernel
theorem dX6_rest_89 : decode cX6_rest 89 = .ok (.goto 12, 3) := by decide +kernel
theorem dX6_rest_92 : decode cX6_rest 92 = .ok (.iload 5, 2) := by decide +kernel
theorem dX6_rest_94 : decode cX6_rest 94 = .ok (.iload 6, 2) := by decide +kernel
theorem dX6_rest_96 : decode cX6_rest 96 = .ok (.ineg, 1) := by decide +kernel
theorem dX6_rest_97 : decode cX6_rest 97 = .ok (.invokestatic 276, 3) := by decide +kernel
theorem dX6_rest_100 : decode cX6_rest 100 = .ok (.ineg, 1) := by decide +kernel
theorem dX6_rest_101 : decode cX6_rest 101 = .ok (.istore 7, 2) := by decide +kernel
theorem dX6_rest_103 : decode cX6_rest 103 = .ok (.aload_n 0, 1) := by decide +kernel
theorem dX6_rest_104 : decode cX6_rest 104 = .ok (.getfield 73, 3) := by decide +kernel
theorem dX6_rest_107 : decode cX6_rest 107 = .ok (.ldc 157, 2) := by decide +kernel
theorem dX6_rest_109 : decode cX6_rest 109 = .ok (.iload_n 1, 1) := by decide +kernel
theorem dX6_rest_110 : decode cX6_rest 110 = .ok (.ifCond .eq 8, 3) := by decide +kernel
theorem dX6_rest_113 : decode cX6_rest 113 = .ok (.iload 7, 2) := by decide +kernel
theorem dX6_rest_115 : decode cX6_rest 115 = .ok (.goto 13, 3) := by decide +kernel
theorem dX6_rest_118 : decode cX6_rest 118 = .ok (.iload 5, 2) := by decide +kernel
theorem dX6_rest_120 : decode cX6_rest 120 = .ok (.iload 6, 2) := by decide +kernel
theorem dX6_rest_122 : decode cX6_rest 122 = .ok (.invokestatic 279, 3) := by decide +kernel
theorem dX6_rest_125 : decode cX6_rest 125 = .ok (.invokestatic 282, 3) := by decide +kernel
theorem dX6_rest_128 : decode cX6_rest 128 = .ok (.iastore, 1) := by decide +kernel
theorem dX6_rest_129 : decode cX6_rest 129 = .ok (.aload_n 0, 1) := by decide +kernel
theorem dX6_rest_130 : decode cX6_rest 130 = .ok (.getfield 73, 3) := by decide +kernel
theorem dX6_rest_133 : decode cX6_rest 133 = .ok (.ldc 167, 2) := by decide +kernel
theorem dX6_rest_135 : decode cX6_rest 135 = .ok (.iconst 1, 1) := by decide +kernel
theorem dX6_rest_136 : decode cX6_rest 136 = .ok (.iastore, 1) := by decide +kernel
theorem dX6_rest_137 : decode cX6_rest 137 = .ok (.return_, 1) := by decide +kernel
/-! AlgebraHouse$Machine.rest(ZIII)V -/
def P_X6_rest_101 (Q : Int → MM → Prop) (x1 : Int) (x5 : Int) (x6 : Int) (s0 : Int) (m : MM) : Prop := (RI x1) ∧ (if x1 = 0 then P_J4_abs_2 x6 m (fun r1 m1 => P_J4_floorMod x5 r1 m1 (fun r2 m2 => ∀ m3 : MM, m3 = up m2 379 1155420 r2 → ∀ m4 : MM, m4 = up m3 379 1155421 1 → Q 0 m4)) else ∀ m5 : MM, m5 = up m 379 1155420 s0 → ∀ m6 : MM, m6 = up m5 379 1155421 1 → Q 0 m6)
def P_X6_rest (x1 : Int) (x2 : Int) (x3 : Int) (x4 : Int) (m : MM) (Q : Int → MM → Prop) : Prop := P_X11_depth x2 m (fun r1 m1 => (RI r1) ∧ (if r1 ≤ 0 then (0 ≤ x3 ∧ x3 < 1159540) ∧ (0 ≤ x4 ∧ x4 < 1159540) ∧ (RI (m1 379 x4)) ∧ (if (m1 379 x4) = 0 then ∀ m4 : MM, m4 = up m1 378 2 2 → Q 0 m4 else (if (m1 379 x4) ≤ 0 then P_J4_floorDiv (m1 379 x3) (-(m1 379 x4)) m1 (fun r2 m2 => P_X6_rest_101 Q x1 (m1 379 x3) (m1 379 x4) (-r2) m2) else P_J4_floorDiv (m1 379 x3) (m1 379 x4) m1 (fun r3 m3 => P_X6_rest_101 Q x1 (m1 379 x3) (m1 379 x4) r3 m3))) else P_X11_base x2 m1 (fun r4 m5 => P_X8_divide r4 x3 x4 m5 (fun r5 m6 => ((RI x1)) ∧ P_X8_copy (if x1 = 0 then 1157776 else 1158658 : Int) 1155420 7 m6 (fun r6 m7 => Q 0 m7)))))
theorem pl_X6_rest_101 {f : Nat} {Q : Int → MM → Prop} {T : MM → Prop} (hf : 6 ≤ f) : ∀ (x1 : Int) (x5 : Int) (x6 : Int) (s0 : Int) (m : MM), P_X6_rest_101 Q x1 x5 x6 s0 m → B f M_X6_rest 101 [vR 376, vI x1, vU, vU, vU, vI x5, vI x6, vU] [vI s0] m Q T := by
  intro x1 x5 x6 s0 m h
  have h : (RI x1) ∧ (if x1 = 0 then P_J4_abs_2 x6 m (fun r1 m1 => P_J4_floorMod x5 r1 m1 (fun r2 m2 => ∀ m3 : MM, m3 = up m2 379 1155420 r2 → ∀ m4 : MM, m4 = up m3 379 1155421 1 → Q 0 m4)) else ∀ m5 : MM, m5 = up m 379 1155420 s0 → ∀ m6 : MM, m6 = up m5 379 1155421 1 → Q 0 m6) := h
  refine b_istore (ls' := [vR 376, vI x1, vU, vU, vU, vI x5, vI x6, vI s0]) dX6_rest_101 (Nat.le_of_ble_eq_true rfl) rfl ?_
  refine b_aload_n dX6_rest_103 rfl ?_
  refine b_getR dX6_rest_104 fk_X6_73 ly_376 gg_376_4 ?_
  refine b_ldc (1155420) dX6_rest_107 q1374 (by decide) ?_
  refine b_iload_n dX6_rest_109 rfl ?_
  obtain ⟨g1, h⟩ := h
  refine b_if_eq 118 dX6_rest_110 g1 (by decide) (fun c1 => ?_) (fun c1 => ?_)
  · have h := ifT c1 h
    refine b_iload dX6_rest_118 rfl ?_
    refine b_iload dX6_rest_120 rfl ?_
    refine b_cSi (as := [vI x6]) (st := [vI x5, vI 1155420, vR 379]) dX6_rest_122 mf_J4_abs_2 lk_X6_279 (p_J4_abs_2 (f := 1) (Nat.le_refl _) _ _ h) (by omega) rfl rfl (Nat.le_of_ble_eq_true rfl) (by decide) rfl (fun _ => rfl) (fun r1 m1 h => ?_) (fun _ h => h)
    refine b_cSi (as := [vI x5, vI r1]) (st := [vI 1155420, vR 379]) dX6_rest_125 mf_J4_floorMod lk_X6_282 (p_J4_floorMod (f := 1) (Nat.le_refl _) _ _ _ h) (by omega) rfl rfl (Nat.le_of_ble_eq_true rfl) (by decide) rfl (fun _ => rfl) (fun r2 m2 h => ?_) (fun _ h => h)
    refine b_iast dX6_rest_128 ly_379 (by decide) (fun m3 em3 => ?_)
    have h := h m3 em3
    refine b_aload_n dX6_rest_129 rfl ?_
    refine b_getR dX6_rest_130 fk_X6_73 ly_376 gg_376_4 ?_
    refine b_ldc (1155421) dX6_rest_133 q1444 (by decide) ?_
    refine b_iconst dX6_rest_135 ?_
    refine b_iast dX6_rest_136 ly_379 (by decide) (fun m4 em4 => ?_)
    have h := h m4 em4
    exact b_vret dX6_rest_137 rfl h
  · have h := ifF c1 h
    refine b_iload dX6_rest_113 rfl ?_
    refine b_goto 128 dX6_rest_115 (by decide) ?_
    refine b_iast dX6_rest_128 ly_379 (by decide) (fun m5 em5 => ?_)
    have h := h m5 em5
    refine b_aload_n dX6_rest_129 rfl ?_
    refine b_getR dX6_rest_130 fk_X6_73 ly_376 gg_376_4 ?_
    refine b_ldc (1155421) dX6_rest_133 q1444 (by decide) ?_
    refine b_iconst dX6_rest_135 ?_
    refine b_iast dX6_rest_136 ly_379 (by decide) (fun m6 em6 => ?_)
    have h := h m6 em6
    exact b_vret dX6_rest_137 rfl h
theorem p_X6_rest {f : Nat} {Q : Int → MM → Prop} {T : MM → Prop} (hf : 6 ≤ f) (x1 : Int) (x2 : Int) (x3 : Int) (x4 : Int) (m : MM) (h : P_X6_rest x1 x2 x3 x4 m Q) : CC f M_X6_rest [vR 376, vI x1, vI x2, vI x3, vI x4] m Q T := by
  refine CC.of (plainFor_of_name (by decide)) (Nat.le_of_ble_eq_true rfl) (ls := [vR 376, vI x1, vI x2, vI x3, vI x4, vU, vU, vU]) rfl ?_
  have h : P_X11_depth x2 m (fun r1 m1 => (RI r1) ∧ (if r1 ≤ 0 then (0 ≤ x3 ∧ x3 < 1159540) ∧ (0 ≤ x4 ∧ x4 < 1159540) ∧ (RI (m1 379 x4)) ∧ (if (m1 379 x4) = 0 then ∀ m4 : MM, m4 = up m1 378 2 2 → Q 0 m4 else (if (m1 379 x4) ≤ 0 then P_J4_floorDiv (m1 379 x3) (-(m1 379 x4)) m1 (fun r2 m2 => P_X6_rest_101 Q x1 (m1 379 x3) (m1 379 x4) (-r2) m2) else P_J4_floorDiv (m1 379 x3) (m1 379 x4) m1 (fun r3 m3 => P_X6_rest_101 Q x1 (m1 379 x3) (m1 379 x4) r3 m3))) else P_X11_base x2 m1 (fun r4 m5 => P_X8_divide r4 x3 x4 m5 (fun r5 m6 => ((RI x1)) ∧ P_X8_copy (if x1 = 0 then 1157776 else 1158658 : Int) 1155420 7 m6 (fun r6 m7 => Q 0 m7))))) := h
  refine b_iload_n dX6_rest_0 rfl ?_
  refine b_cSi (as := [vI x2]) (st := []) dX6_rest_1 mf_X11_depth lk_X6_268 (p_X11_depth (f := 1) (Nat.le_refl _) _ _ h) (by omega) rfl rfl (Nat.le_of_ble_eq_true rfl) (by decide) rfl (fun _ => rfl) (fun r1 m1 h => ?_) (fun _ h => h)
  obtain ⟨g1, h⟩ := h
  refine b_if_le 46 dX6_rest_4 g1 (by decide) (fun c1 => ?_) (fun c1 => ?_)
  · have h := ifT c1 h
    refine b_aload_n dX6_rest_46 rfl ?_
    refine b_getR dX6_rest_47 fk_X6_73 ly_376 gg_376_4 ?_
    refine b_iload_n dX6_rest_50 rfl ?_
    obtain ⟨g2, h⟩ := h
    refine b_iald dX6_rest_51 ly_379 g2 ?_
    refine b_istore (ls' := [vR 376, vI x1, vI x2, vI x3, vI x4, vI (m1 379 x3), vU, vU]) dX6_rest_52 (Nat.le_of_ble_eq_true rfl) rfl ?_
    refine b_aload_n dX6_rest_54 rfl ?_
    refine b_getR dX6_rest_55 fk_X6_73 ly_376 gg_376_4 ?_
    refine b_iload dX6_rest_58 rfl ?_
    obtain ⟨g3, h⟩ := h
    refine b_iald dX6_rest_60 ly_379 g3 ?_
    refine b_istore (ls' := [vR 376, vI x1, vI x2, vI x3, vI x4, vI (m1 379 x3), vI (m1 379 x4), vU]) dX6_rest_61 (Nat.le_of_ble_eq_true rfl) rfl ?_
    refine b_iload dX6_rest_63 rfl ?_
    obtain ⟨g4, h⟩ := h
    refine b_if_ne 77 dX6_rest_65 g4 (by decide) (fun c2 => ?_) (fun c2 => ?_)
    · have h := ifF c2 h
      refine b_iload dX6_rest_77 rfl ?_
      refine b_if_le 92 dX6_rest_79 g4 (by decide) (fun c3 => ?_) (fun c3 => ?_)
      · have h := ifT c3 h
        refine b_iload dX6_rest_92 rfl ?_
        refine b_iload dX6_rest_94 rfl ?_
        refine b_ineg dX6_rest_96 ?_
        refine b_cSi (as := [vI (m1 379 x3), vI (-(m1 379 x4))]) (st := []) dX6_rest_97 mf_J4_floorDiv lk_X6_276 (p_J4_floorDiv (f := 1) (Nat.le_refl _) _ _ _ h) (by omega) rfl rfl (Nat.le_of_ble_eq_true rfl) (by decide) rfl (fun _ => rfl) (fun r2 m2 h => ?_) (fun _ h => h)
        refine b_ineg dX6_rest_100 ?_
        refine b_fgt [true, true, false, false, false, true, true, false] (ls' := [vR 376, vI x1, vU, vU, vU, vI (m1 379 x3), vI (m1 379 x4), vU]) rfl rfl ?_
        exact pl_X6_rest_101 hf _ _ _ _ _ h
      · have h := ifF c3 h
        refine b_iload dX6_rest_82 rfl ?_
        refine b_iload dX6_rest_84 rfl ?_
        refine b_cSi (as := [vI (m1 379 x3), vI (m1 379 x4)]) (st := []) dX6_rest_86 mf_J4_floorDiv lk_X6_276 (p_J4_floorDiv (f := 1) (Nat.le_refl _) _ _ _ h) (by omega) rfl rfl (Nat.le_of_ble_eq_true rfl) (by decide) rfl (fun _ => rfl) (fun r3 m3 h => ?_) (fun _ h => h)
        refine b_goto 101 dX6_rest_89 (by decide) ?_
        refine b_fgt [true, true, false, false, false, true, true, false] (ls' := [vR 376, vI x1, vU, vU, vU, vI (m1 379 x3), vI (m1 379 x4), vU]) rfl rfl ?_
        exact pl_X6_rest_101 hf _ _ _ _ _ h
    · have h := ifT (Decidable.of_not_not c2) h
      refine b_aload_n dX6_rest_68 rfl ?_
      refine b_getR dX6_rest_69 fk_X6_21 ly_376 gg_376_3 ?_
      refine b_iconst dX6_rest_72 ?_
      refine b_putI dX6_rest_73 fk_X6_109 ly_378 (fun m4 em4 => ?_)
      have h := h m4 em4
      exact b_vret dX6_rest_76 rfl h
  · have h := ifF c1 h
    refine b_aload_n dX6_rest_7 rfl ?_
    refine b_getR dX6_rest_8 fk_X6_21 ly_376 gg_376_3 ?_
    refine b_iload_n dX6_rest_11 rfl ?_
    refine b_cSi (as := [vI x2]) (st := [vR 378]) dX6_rest_12 mf_X11_base lk_X6_197 (p_X11_base (f := 1) (Nat.le_refl _) _ _ h) (by omega) rfl rfl (Nat.le_of_ble_eq_true rfl) (by decide) rfl (fun _ => rfl) (fun r4 m5 h => ?_) (fun _ h => h)
    refine b_iload_n dX6_rest_15 rfl ?_
    refine b_iload dX6_rest_16 rfl ?_
    refine b_cVv (as := [vI r4, vI x3, vI x4]) (st := []) dX6_rest_18 mf_X8_divide q1451 lk_X6_271 ly_378 rfl (p_X8_divide (f := 5) (Nat.le_refl _) _ _ _ _ h) (by omega) rfl rfl (Nat.le_of_ble_eq_true rfl) (by decide) rfl (fun _ => rfl) (fun r5 m6 h => ?_) (fun _ h => h)
    refine b_aload_n dX6_rest_21 rfl ?_
    refine b_getR dX6_rest_22 fk_X6_21 ly_376 gg_376_3 ?_
    refine b_iload_n dX6_rest_25 rfl ?_
    obtain ⟨hs, h⟩ := h
    have K : B f M_X6_rest 38 [vR 376, vI x1, vI x2, vI x3, vI x4, vU, vU, vU] [vI (if x1 = 0 then 1157776 else 1158658 : Int), vR 378] m6 Q T := by
      clear hs
      refine b_ldc (1155420) dX6_rest_38 q1374 (by decide) ?_
      refine b_bipush dX6_rest_40 (by decide) ?_
      refine b_cVv (as := [vI (if x1 = 0 then 1157776 else 1158658 : Int), vI 1155420, vI 7]) (st := []) dX6_rest_42 mf_X8_copy q1320 lk_X6_161 ly_378 rfl (p_X8_copy (f := 2) (Nat.le_refl _) _ _ _ _ h) (by omega) rfl rfl (Nat.le_of_ble_eq_true rfl) (by decide) rfl (fun _ => rfl) (fun r6 m7 h => ?_) (fun _ h => h)
      exact b_vret dX6_rest_45 rfl h
    have g5 := hs
    refine b_if_eq 35 dX6_rest_26 g5 (by decide) (fun c4 => ?_) (fun c4 => ?_)
    ·
      refine b_ldcw (1157776) dX6_rest_35 q1463 (by decide) ?_
      rw [if_pos c4] at K
      exact K
    ·
      refine b_ldcw (1158658) dX6_rest_29 q1554 (by decide) ?_
      refine b_goto 38 dX6_rest_32 (by decide) ?_
      rw [if_neg c4] at K
      exact K
theorem dX6_truth_0 : decode cX6_truth 0 = .ok (.aload_n 0, 1) := by decide +kernel
theorem dX6_truth_1 : decode cX6_truth 1 = .ok (.getfield 73, 3) := by decide +kernel
theorem dX6_truth_4 : decode cX6_truth 4 = .ok (.ldc 157, 2) := by decide +kernel
theorem dX6_truth_6 : decode cX6_truth 6 = .ok (.iload_n 1, 1) := by decide +kernel
theorem dX6_truth_7 : decode cX6_truth 7 = .ok (.ifCond .eq 7, 3) := by decide +kernel
theorem dX6_truth_10 : decode cX6_truth 10 = .ok (.iconst 1, 1) := by decide +kernel
theorem dX6_truth_11 : decode cX6_truth 11 = .ok (.goto 4, 3) := by decide +kernel
theorem dX6_truth_14 : decode cX6_truth 14 = .ok (.iconst 0, 1) := by decide +kernel
theorem dX6_truth_15 : decode cX6_truth 15 = .ok (.iastore, 1) := by decide +kernel
theorem dX6_truth_16 : decode cX6_truth 16 = .ok (.aload_n 0, 1) := by decide +kernel
theorem dX6_truth_17 : decode cX6_truth 17 = .ok (.getfield 73, 3) := by decide +kernel
theorem dX6_truth_20 : decode cX6_truth 20 = .ok (.ldc 167, 2) := by decide +kernel
theorem dX6_truth_22 : decode cX6_truth 22 = .ok (.iconst 1, 1) := by decide +kernel
theorem dX6_truth_23 : decode cX6_truth 23 = .ok (.iastore, 1) := by decide +kernel
theorem dX6_truth_24 : decode cX6_truth 24 = .ok (.aload_n 0, 1) := by decide +kernel
theorem dX6_truth_25 : decode cX6_truth 25 = .ok (.bipush (-2), 2) := by decide +kernel
theorem dX6_truth_27 : decode cX6_truth 27 = .ok (.iload_n 2, 1) := by decide +kernel
theorem dX6_truth_28 : decode cX6_truth 28 = .ok (.invokevirtual 168, 3) := by decide +kernel
theorem dX6_truth_31 : decode cX6_truth 31 = .ok (.return_, 1) := by decide +kernel
/-! AlgebraHouse$Machine.truth(ZI)V -/
def P_X6_truth (x1 : Int) (x2 : Int) (m : MM) (Q : Int → MM → Prop) : Prop := ((RI x1)) ∧ ∀ m1 : MM, m1 = up m 379 1155420 (if x1 = 0 then 0 else 1 : Int) → ∀ m2 : MM, m2 = up m1 379 1155421 1 → P_X6_made (-2) x2 m2 (fun r1 m3 => Q 0 m3)
theorem p_X6_truth {f : Nat} {Q : Int → MM → Prop} {T : MM → Prop} (hf : 5 ≤ f) (x1 : Int) (x2 : Int) (m : MM) (h : P_X6_truth x1 x2 m Q) : CC f M_X6_truth [vR 376, vI x1, vI x2] m Q T := by
  refine CC.of (plainFor_of_name (by decide)) (Nat.le_of_ble_eq_true rfl) (ls := [vR 376, vI x1, vI x2]) rfl ?_
  have h : ((RI x1)) ∧ ∀ m1 : MM, m1 = up m 379 1155420 (if x1 = 0 then 0 else 1 : Int) → ∀ m2 : MM, m2 = up m1 379 1155421 1 → P_X6_made (-2) x2 m2 (fun r1 m3 => Q 0 m3) := h
  refine b_aload_n dX6_truth_0 rfl ?_
  refine b_getR dX6_truth_1 fk_X6_73 ly_376 gg_376_4 ?_
  refine b_ldc (1155420) dX6_truth_4 q1374 (by decide) ?_
  refine b_iload_n dX6_truth_6 rfl ?_
  obtain ⟨hs, h⟩ := h
  have K : B f M_X6_truth 15 [vR 376, vI x1, vI x2] [vI (if x1 = 0 then 0 else 1 : Int), vI 1155420, vR 379] m Q T := by
    clear hs
    refine b_iast dX6_truth_15 ly_379 (by decide) (fun m1 em1 => ?_)
    have h := h m1 em1
    refine b_aload_n dX6_truth_16 rfl ?_
    refine b_getR dX6_truth_17 fk_X6_73 ly_376 gg_376_4 ?_
    refine b_ldc (1155421) dX6_truth_20 q1444 (by decide) ?_
    refine b_iconst dX6_truth_22 ?_
    refine b_iast dX6_truth_23 ly_379 (by decide) (fun m2 em2 => ?_)
    have h := h m2 em2
    refine b_aload_n dX6_truth_24 rfl ?_
    refine b_bipush dX6_truth_25 (by decide) ?_
    refine b_iload_n dX6_truth_27 rfl ?_
    refine b_cVv (as := [vI (-2), vI x2]) (st := []) dX6_truth_28 mf_X6_made qs86 lk_X6_168 ly_376 rfl (p_X6_made (f := 4) (Nat.le_refl _) _ _ _ h) (by omega) rfl rfl (Nat.le_of_ble_eq_true rfl) (by decide) rfl (fun _ => rfl) (fun r1 m3 h => ?_) (fun _ h => h)
    exact b_vret dX6_truth_31 rfl h
  have g1 := hs
  refine b_if_eq 14 dX6_truth_7 g1 (by decide) (fun c1 => ?_) (fun c1 => ?_)
  ·
    refine b_iconst dX6_truth_14 ?_
    rw [if_pos c1] at K
    exact K
  ·
    refine b_iconst dX6_truth_10 ?_
    refine b_goto 15 dX6_truth_11 (by decide) ?_
    rw [if_neg c1] at K
    exact K
theorem dX6_two_0 : decode cX6_two 0 = .ok (.aload_n 0, 1) := by decide +kernel
theorem dX6_two_1 : decode cX6_two 1 = .ok (.getfield 31, 3) := by decide +kernel
theorem dX6_two_4 : decode cX6_two 4 = .ok (.aload_n 0, 1) := by decide +kernel
theorem dX6_two_5 : decode cX6_two 5 = .ok (.getfield 112, 3) := by decide +kernel
theorem dX6_two_8 : decode cX6_two 8 = .ok (.iconst 2, 1) := by decide +kernel
theorem dX6_two_9 : decode cX6_two 9 = .ok (.isub, 1) := by decide +kernel
theorem dX6_two_10 : decode cX6_two 10 = .ok (.iaload, 1) := by decide +kernel
theorem dX6_two_11 : decode cX6_two 11 = .ok (.istore_n 3, 1) := by decide +kernel
theorem dX6_two_12 : decode cX6_two 12 = .ok (.aload_n 0, 1) := by decide +kernel
theorem dX6_two_13 : decode cX6_two 13 = .ok (.getfield 31, 3) := by decide +kernel
theorem dX6_two_16 : decode cX6_two 16 = .ok (.aload_n 0, 1) := by decide +kernel
theorem dX6_two_17 : decode cX6_two 17 = .ok (.getfield 112, 3) := by decide +kernel
theorem dX6_two_20 : decode cX6_two 20 = .ok (.iconst 1, 1) := by decide +kernel
theorem dX6_two_21 : decode cX6_two 21 = .ok (.isub, 1) := by decide +kernel
theorem dX6_two_22 : decode cX6_two 22 = .ok (.iaload, 1) := by decide +kernel
theorem dX6_two_23 : decode cX6_two 23 = .ok (.istore 4, 2) := by decide +kernel
theorem dX6_two_25 : decode cX6_two 25 = .ok (.iload_n 2, 1) := by decide +kernel
theorem dX6_two_26 : decode cX6_two 26 = .ok (.invokestatic 197, 3) := by decide +kernel
theorem dX6_two_29 : decode cX6_two 29 = .ok (.istore 5, 2) := by decide +kernel
theorem dX6_two_31 : decode cX6_two 31 = .ok (.iload_n 1, 1) := by decide +kernel
theorem dX6_two_32 : decode cX6_two 32 = .ok (.tableswitch 280 15 22 #[48, 48, 128, 128, 155, 155, 188, 204], 48) := by decide +kernel
theorem dX6_two_80 : decode cX6_two 80 = .ok (.iconst 1, 1) := by decide +kernel
theorem dX6_two_81 : decode cX6_two 81 = .ok (.istore 6, 2) := by decide +kernel
theorem dX6_two_83 : decode cX6_two 83 = .ok (.iconst 0, 1) := by decide +kernel
theorem dX6_two_84 : decode cX6_two 84 = .ok (.istore 7, 2) := by decide +kernel
theorem dX6_two_86 : decode cX6_two 86 = .ok (.iload 7, 2) := by decide +kernel
theorem dX6_two_88 : decode cX6_two 88 = .ok (.iload_n 2, 1) := by decide +kernel
theorem dX6_two_89 : decode cX6_two 89 = .ok (.invokestatic 164, 3) := by decide +kernel
theorem dX6_two_92 : decode cX6_two 92 = .ok (.if_icmp .ge 41, 3) := by decide +kernel
theorem dX6_two_95 : decode cX6_two 95 = .ok (.iload 6, 2) := by decide +kernel
theorem dX6_two_97 : decode cX6_two 97 = .ok (.aload_n 0, 1) := by decide +kernel
theorem dX6_two_98 : decode cX6_two 98 = .ok (.getfield 73, 3) := by decide +kernel
theorem dX6_two_101 : decode cX6_two 101 = .ok (.iload_n 3, 1) := by decide +kernel
theorem dX6_two_102 : decode cX6_two 102 = .ok (.iload 7, 2) := by decide +kernel
theorem dX6_two_104 : decode cX6_two 104 = .ok (.iadd, 1) := by decide +kernel
theorem dX6_two_105 : decode cX6_two 105 = .ok (.iaload, 1) := by decide +kernel
theorem dX6_two_106 : decode cX6_two 106 = .ok (.aload_n 0, 1) := by decide +kernel
theorem dX6_two_107 : decode cX6_two 107 = .ok (.getfield 73, 3) := by decide +kernel
theorem dX6_two_110 : decode cX6_two 110 = .ok (.iload 4, 2) := by decide +kernel
theorem dX6_two_112 : decode cX6_two 112 = .ok (.iload 7, 2) := by decide +kernel
theorem dX6_two_114 : decode cX6_two 114 = .ok (.iadd, 1) := by decide +kernel
theorem dX6_two_115 : decode cX6_two 115 = .ok (.iaload, 1) := by decide +kernel
theorem dX6_two_116 : decode cX6_two 116 = .ok (.if_icmp .ne 7, 3) := by decide +kernel
theorem dX6_two_119 : decode cX6_two 119 = .ok (.iconst 1, 1) := by decide +kernel
theorem dX6_two_120 : decode cX6_two 120 = .ok (.goto 4, 3) := by decide +kernel
theorem dX6_two_123 : decode cX6_two 123 = .ok (.iconst 0, 1) := by decide +kernel
theorem dX6_two_124 : decode cX6_two 124 = .ok (.iand, 1) := by decide +kernel
theorem dX6_two_125 : decode cX6_two 125 = .ok (.istore 6, 2) := by decide +kernel
theorem dX6_two_127 : decode cX6_two 127 = .ok (.iinc 7 1, 3) := by decide +kernel
theorem dX6_two_130 : decode cX6_two 130 = .ok (.goto (-44), 3) := by decide +kernel
theorem dX6_two_133 : decode cX6_two 133 = .ok (.aload_n 0, 1) := by decide +kernel
theorem dX6_two_134 : decode cX6_two 134 = .ok (.iload 6, 2) := by decide +kernel
theorem dX6_two_136 : decode cX6_two 136 = .ok (.iload_n 1, 1) := by decide +kernel
theorem dX6_two_137 : decode cX6_two 137 = .ok (.bipush 15, 2) := by decide +kernel
theorem dX6_two_139 : decode cX6_two 139 = .ok (.if_icmp .ne 7, 3) := by decide +kernel
theorem dX6_two_142 : decode cX6_two 142 = .ok (.iconst 1, 1) := by decide +kernel
theorem dX6_two_143 : decode cX6_two 143 = .ok (.goto 4, 3) := by decide +kernel
theorem dX6_two_146 : decode cX6_two 146 = .ok (.iconst 0, 1) := by decide +kernel
theorem dX6_two_147 : decode cX6_two 147 = .ok (.if_icmp .ne 7, 3) := by decide +kernel
theorem dX6_two_150 : decode cX6_two 150 = .ok (.iconst 1, 1) := by decide +kernel
theorem dX6_two_151 : decode cX6_two 151 = .ok (.goto 4, 3) := by decide +kernel
theorem dX6_two_154 : decode cX6_two 154 = .ok (.iconst 0, 1) := by decide +kernel
theorem dX6_two_155 : decode cX6_two 155 = .ok (.iconst 2, 1) := by decide +kernel
theorem dX6_two_156 : decode cX6_two 156 = .ok (.invokevirtual 247, 3) := by decide +kernel
theorem dX6_two_159 : decode cX6_two 159 = .ok (.return_, 1) := by decide +kernel
theorem dX6_two_160 : decode cX6_two 160 = .ok (.aload_n 0, 1) := by decide +kernel
theorem dX6_two_161 : decode cX6_two 161 = .ok (.aload_n 0, 1) := by decide +kernel
theorem dX6_two_162 : decode cX6_two 162 = .ok (.getfield 21, 3) := by decide +kernel
theorem dX6_two_165 : decode cX6_two 165 = .ok (.iload_n 3, 1) := by decide +kernel
theorem dX6_two_166 : decode cX6_two 166 = .ok (.iload 4, 2) := by decide +kernel
theorem dX6_two_168 : decode cX6_two 168 = .ok (.iload_n 1, 1) := by decide +kernel
theorem dX6_two_169 : decode cX6_two 169 = .ok (.bipush 18, 2) := by decide +kernel
theorem dX6_two_171 : decode cX6_two 171 = .ok (.if_icmp .ne 7, 3) := by decide +kernel
theorem dX6_two_174 : decode cX6_two 174 = .ok (.iconst 1, 1) := by decide +kernel
theorem dX6_two_175 : decode cX6_two 175 = .ok (.goto 4, 3) := by decide +kernel
theorem dX6_two_178 : decode cX6_two 178 = .ok (.iconst 0, 1) := by decide +kernel
theorem dX6_two_179 : decode cX6_two 179 = .ok (.invokevirtual 251, 3) := by decide +kernel
theorem dX6_two_182 : decode cX6_two 182 = .ok (.iconst 2, 1) := by decide +kernel
theorem dX6_two_183 : decode cX6_two 183 = .ok (.invokevirtual 247, 3) := by decide +kernel
theorem dX6_two_186 : decode cX6_two 186 = .ok (.return_, 1) := by decide +kernel
theorem dX6_two_187 : decode cX6_two 187 = .ok (.aload_n 0, 1) := by decide +kernel
theorem dX6_two_188 : decode cX6_two 188 = .ok (.getfield 21, 3) := by decide +kernel
theorem dX6_two_191 : decode cX6_two 191 = .ok (.iload 5, 2) := by decide +kernel
theorem dX6_two_193 : decode cX6_two 193 = .ok (.iload_n 3, 1) := by decide +kernel
theorem dX6_two_194 : decode cX6_two 194 = .ok (.iload 4, 2) := by decide +kernel
theorem dX6_two_196 : decode cX6_two 196 = .ok (.ldc 157, 2) := by decide +kernel
theorem dX6_two_198 : decode cX6_two 198 = .ok (.aload_n 0, 1) := by decide +kernel
theorem dX6_two_199 : decode cX6_two 199 = .ok (.iload_n 2, 1) := by decide +kernel
theorem dX6_two_200 : decode cX6_two 200 = .ok (.invokevirtual 158, 3) := by decide +kernel
theorem dX6_two_203 : decode cX6_two 203 = .ok (.iload_n 1, 1) := by decide +kernel
theorem dX6_two_204 : decode cX6_two 204 = .ok (.bipush 20, 2) := by decide +kernel
theorem dX6_two_206 : decode cX6_two 206 = .ok (.if_icmp .ne 7, 3) := by decide +kernel
theorem dX6_two_209 : decode cX6_two 209 = .ok (.iconst 1, 1) := by decide +kernel
theorem dX6_two_210 : decode cX6_two 210 = .ok (.goto 4, 3) := by decide +kernel
theorem dX6_two_213 : decode cX6_two 213 = .ok (.iconst 0, 1) := by decide +kernel
theorem dX6_two_214 : decode cX6_two 214 = .ok (.invokevirtual 255, 3) := by decide +kernel
theorem dX6_two_217 : decode cX6_two 217 = .ok (.goto 114, 3) := by decide +kernel
theorem dX6_two_220 : decode cX6_two 220 = .ok (.aload_n 0, 1) := by decide +kernel
theorem dX6_two_221 : decode cX6_two 221 = .ok (.getfield 21, 3) := by decide +kernel
theorem dX6_two_224 : decode cX6_two 224 = .ok (.iload_n 2, 1) := by decide +kernel
theorem dX6_two_225 : decode cX6_two 225 = .ok (.iload_n 3, 1) := by decide +kernel
theorem dX6_two_226 : decode cX6_two 226 = .ok (.iload 4, 2) := by decide +kernel
theorem dX6_two_228 : decode cX6_two 228 = .ok (.ldc 157, 2) := by decide +kernel
theorem dX6_two_230 : decode cX6_two 230 = .ok (.invokevirtual 243, 3) := by decide +kernel
theorem dX6_two_233 : decode cX6_two 233 = .ok (.goto 98, 3) := by decide +kernel
theorem dX6_two_236 : decode cX6_two 236 = .ok (.aload_n 0, 1) := by decide +kernel
theorem dX6_two_237 : decode cX6_two 237 = .ok (.getfield 21, 3) := by decide +kernel
theorem dX6_two_240 : decode cX6_two 240 = .ok (.iload 4, 2) := by decide +kernel
theorem dX6_two_242 : decode cX6_two 242 = .ok (.invokevirtual 259, 3) := by decide +kernel
theorem dX6_two_245 : decode cX6_two 245 = .ok (.ifCond .eq 11, 3) := by decide +kernel
theorem dX6_two_248 : decode cX6_two 248 = .ok (.aload_n 0, 1) := by decide +kernel
theorem dX6_two_249 : decode cX6_two 249 = .ok (.getfield 21, 3) := by decide +kernel
theorem dX6_two_252 : decode cX6_two 252 = .ok (.iconst 2, 1) := by decide +kernel
theorem dX6_two_253 : decode cX6_two 253 = .ok (.putfield 109, 3) := by decide +kernel
theorem dX6_two_256 : decode cX6_two 256 = .ok (.iconst 0, 1) := by decide +kernel
theorem dX6_two_257 : decode cX6_two 257 = .ok (.istore 6, 2) := by decide +kernel
theorem dX6_two_259 : decode cX6_two 259 = .ok (.iload 6, 2) := by decide +kernel
theorem dX6_two_261 : decode cX6_two 261 = .ok (.aload_n 0, 1) := by decide +kernel
theorem dX6_two_262 : decode cX6_two 262 = .ok (.iload_n 2, 1) := by decide +kernel
theorem dX6_two_263 : decode cX6_two 263 = .ok (.invokevirtual 158, 3) := by decide +kernel
theorem dX6_two_266 : decode cX6_two 266 = .ok (.if_icmp .ge 43, 3) := by decide +kernel
theorem dX6_two_269 : decode cX6_two 269 = .ok (.aload_n 0, 1) := by decide +kernel
theorem dX6_two_270 : decode cX6_two 270 = .ok (.getfield 21, 3) := by decide +kernel
theorem dX6_two_273 : decode cX6_two 273 = .ok (.getfield 109, 3) := by decide +kernel
theorem dX6_two_276 : decode cX6_two 276 = .ok (.ifCond .ne 33, 3) := by decide +kernel
theorem dX6_two_279 : decode cX6_two 279 = .ok (.aload_n 0, 1) := by decide +kernel
theorem dX6_two_280 : decode cX6_two 280 = .ok (.getfield 21, 3) := by decide +kernel
theorem dX6_two_283 : decode cX6_two 283 = .ok (.iload 5, 2) := by decide +kernel
theorem dX6_two_285 : decode cX6_two 285 = .ok (.iload_n 3, 1) := by decide +kernel
theorem dX6_two_286 : decode cX6_two 286 = .ok (.iconst 2, 1) := by decide +kernel
theorem dX6_two_287 : decode cX6_two 287 = .ok (.iload 6, 2) := by decide +kernel
theorem dX6_two_289 : decode cX6_two 289 = .ok (.imul, 1) := by decide +kernel
theorem dX6_two_290 : decode cX6_two 290 = .ok (.iadd, 1) := by decide +kernel
theorem dX6_two_291 : decode cX6_two 291 = .ok (.iload 4, 2) := by decide +kernel
theorem dX6_two_293 : decode cX6_two 293 = .ok (.ldc 157, 2) := by decide +kernel
theorem dX6_two_295 : decode cX6_two 295 = .ok (.iconst 2, 1) := by decide +kernel
theorem dX6_two_296 : decode cX6_two 296 = .ok (.iload 6, 2) := by decide +kernel
theorem dX6_two_298 : decode cX6_two 298 = .ok (.imul, 1) := by decide +kernel
theorem dX6_two_299 : decode cX6_two 299 = .ok (.iadd, 1) := by decide +kernel
theorem dX6_two_300 : decode cX6_two 300 = .ok (.invokevirtual 262, 3) := by decide +kernel
theorem dX6_two_303 : decode cX6_two 303 = .ok (.iinc 6 1, 3) := by decide +kernel
theorem dX6_two_306 : decode cX6_two 306 = .ok (.goto (-47), 3) := by decide +kernel
theorem dX6_two_309 : decode cX6_two 309 = .ok (.goto 22, 3) := by decide +kernel
theorem dX6_two_312 : decode cX6_two 312 = .ok (.aload_n 0, 1) := by decide +kernel
theorem dX6_two_313 : decode cX6_two 313 = .ok (.iload_n 1, 1) := by decide +kernel
theorem dX6_two_314 : decode cX6_two 314 = .ok (.bipush 23, 2) := by decide +kernel
theorem dX6_two_316 : decode cX6_two 316 = .ok (.if_icmp .ne 7, 3) := by decide +kernel
theorem dX6_two_319 : decode cX6_two 319 = .ok (.iconst 1, 1) := by decide +kernel
theorem dX6_two_320 : decode cX6_two 320 = .ok (.goto 4, 3) := by decide +kernel
theorem dX6_two_323 : decode cX6_two 323 = .ok (.iconst 0, 1) := by decide +kernel
theorem dX6_two_324 : decode cX6_two 324 = .ok (.iload_n 2, 1) := by decide +kernel
theorem dX6_two_325 : decode cX6_two 325 = .ok (.iload_n 3, 1) := by decide +kernel
theorem dX6_two_326 : decode cX6_two 326 = .ok (.iload 4, 2) := by decide +kernel
theorem dX6_two_328 : decode cX6_two 328 = .ok (.invokevirtual 265, 3) := by decide +kernel
theorem dX6_two_331 : decode cX6_two 331 = .ok (.aload_n 0, 1) := by decide +kernel
theorem dX6_two_332 : decode cX6_two 332 = .ok (.getfield 21, 3) := by decide +kernel
theorem dX6_two_335 : decode cX6_two 335 = .ok (.getfield 109, 3) := by decide +kernel
theorem dX6_two_338 : decode cX6_two 338 = .ok (.ifCond .ne 9, 3) := by decide +kernel
theorem dX6_two_341 : decode cX6_two 341 = .ok (.aload_n 0, 1) := by decide +kernel
theorem dX6_two_342 : decode cX6_two 342 = .ok (.iload_n 2, 1) := by decide +kernel
theorem dX6_two_343 : decode cX6_two 343 = .ok (.iconst 2, 1) := by decide +kernel
theorem dX6_two_344 : decode cX6_two 344 = .ok (.invokevirtual 168, 3) := by decide +kernel
theorem dX6_two_347 : decode cX6_two 347 = .ok (.return_, 1) := by decide +kernel
/-! AlgebraHouse$Machine.two(II)V -/
def P_X6_two_133 (Q : Int → MM → Prop) (x1 : Int) (x6 : Int) (m : MM) : Prop := ((RI x1)) ∧ ((RI x6) ∧ (RI (if x1 = 15 then 1 else 0 : Int))) ∧ P_X6_truth (if x6 = (if x1 = 15 then 1 else 0 : Int) then 1 else 0 : Int) 2 m (fun r1 m1 => Q 0 m1)
def P_X6_two_86 (Q : Int → MM → Prop) : Nat → Int → Int → Int → Int → Int → Int → MM → Prop
  | 0, _, _, _, _, _, _, _ => False
  | n + 1, x1, x2, x3, x4, x6, x7, m => P_X11_cells x2 m (fun r1 m1 => (RI x7) ∧ (RI r1) ∧ (if r1 ≤ x7 then P_X6_two_133 Q x1 x6 m1 else (0 ≤ (x3 + x7) ∧ (x3 + x7) < 1159540) ∧ (0 ≤ (x4 + x7) ∧ (x4 + x7) < 1159540) ∧ (RI (m1 379 (x3 + x7))) ∧ (RI (m1 379 (x4 + x7))) ∧ (if (m1 379 (x3 + x7)) = (m1 379 (x4 + x7)) then P_X6_two_86 Q n x1 x2 x3 x4 (iAnd x6 1) (x7 + 1) m1 else P_X6_two_86 Q n x1 x2 x3 x4 (iAnd x6 0) (x7 + 1) m1)))
def P_X6_two_160 (Q : Int → MM → Prop) (x1 : Int) (x3 : Int) (x4 : Int) (m : MM) : Prop := ((RI x1)) ∧ P_X8_isLess x3 x4 (if x1 = 18 then 1 else 0 : Int) m (fun r1 m1 => P_X6_truth r1 2 m1 (fun r2 m2 => Q 0 m2))
def P_X6_two_331 (Q : Int → MM → Prop) (x2 : Int) (m : MM) : Prop := (RI (m 378 2)) ∧ (if (m 378 2) = 0 then P_X6_made x2 2 m (fun r1 m1 => Q 0 m1) else Q 0 m)
def P_X6_two_187 (Q : Int → MM → Prop) (x1 : Int) (x2 : Int) (x3 : Int) (x4 : Int) (x5 : Int) (m : MM) : Prop := P_X6_number x2 m (fun r1 m1 => ((RI x1)) ∧ P_X8_addAll x5 x3 x4 1155420 r1 (if x1 = 20 then 1 else 0 : Int) m1 (fun r2 m2 => P_X6_two_331 Q x2 m2))
def P_X6_two_309 (Q : Int → MM → Prop) (x2 : Int) (m : MM) : Prop := P_X6_two_331 Q x2 m
def P_X6_two_259 (Q : Int → MM → Prop) : Nat → Int → Int → Int → Int → Int → MM → Prop
  | 0, _, _, _, _, _, _ => False
  | n + 1, x2, x3, x4, x5, x6, m => P_X6_number x2 m (fun r1 m1 => (RI x6) ∧ (RI r1) ∧ (if r1 ≤ x6 then P_X6_two_309 Q x2 m1 else (RI (m1 378 2)) ∧ (if (m1 378 2) = 0 then P_X8_by x5 (x3 + (2 * x6)) x4 (1155420 + (2 * x6)) m1 (fun r2 m2 => P_X6_two_259 Q n x2 x3 x4 x5 (x6 + 1) m2) else P_X6_two_309 Q x2 m1)))
def P_X6_two (x1 : Int) (x2 : Int) (m : MM) (Q : Int → MM → Prop) : Prop := (0 ≤ ((m 376 8) - 2) ∧ ((m 376 8) - 2) < 1701) ∧ (0 ≤ ((m 376 8) - 1) ∧ ((m 376 8) - 1) < 1701) ∧ P_X11_base x2 m (fun r1 m1 => (RI x1) ∧ (if x1 = 15 then ∃ nn, P_X6_two_86 Q nn x1 x2 (m 381 ((m 376 8) - 2)) (m 381 ((m 376 8) - 1)) 1 0 m1 else (if x1 = 16 then ∃ nn, P_X6_two_86 Q nn x1 x2 (m 381 ((m 376 8) - 2)) (m 381 ((m 376 8) - 1)) 1 0 m1 else (if x1 = 17 then P_X6_two_160 Q x1 (m 381 ((m 376 8) - 2)) (m 381 ((m 376 8) - 1)) m1 else (if x1 = 18 then P_X6_two_160 Q x1 (m 381 ((m 376 8) - 2)) (m 381 ((m 376 8) - 1)) m1 else (if x1 = 19 then P_X6_two_187 Q x1 x2 (m 381 ((m 376 8) - 2)) (m 381 ((m 376 8) - 1)) r1 m1 else (if x1 = 20 then P_X6_two_187 Q x1 x2 (m 381 ((m 376 8) - 2)) (m 381 ((m 376 8) - 1)) r1 m1 else (if x1 = 21 then P_X8_multiply x2 (m 381 ((m 376 8) - 2)) (m 381 ((m 376 8) - 1)) 1155420 m1 (fun r2 m2 => P_X6_two_331 Q x2 m2) else (if x1 = 22 then P_X8_isZero (m 381 ((m 376 8) - 1)) m1 (fun r3 m3 => (RI r3) ∧ (if r3 = 0 then ∃ nn, P_X6_two_259 Q nn x2 (m 381 ((m 376 8) - 2)) (m 381 ((m 376 8) - 1)) r1 0 m3 else ∀ m4 : MM, m4 = up m3 378 2 2 → ∃ nn, P_X6_two_259 Q nn x2 (m 381 ((m 376 8) - 2)) (m 381 ((m 376 8) - 1)) r1 0 m4)) else P_X6_rest (if x1 = 23 then 1 else 0 : Int) x2 (m 381 ((m 376 8) - 2)) (m 381 ((m 376 8) - 1)) m1 (fun r4 m5 => P_X6_two_331 Q x2 m5))))))))))
theorem pl_X6_two_133 {f : Nat} {Q : Int → MM → Prop} {T : MM → Prop} (hf : 8 ≤ f) : ∀ (x1 : Int) (x6 : Int) (m : MM), P_X6_two_133 Q x1 x6 m → B f M_X6_two 133 [vR 376, vI x1, vU, vU, vU, vU, vI x6, vU] [] m Q T := by
  intro x1 x6 m h
  have h : ((RI x1)) ∧ ((RI x6) ∧ (RI (if x1 = 15 then 1 else 0 : Int))) ∧ P_X6_truth (if x6 = (if x1 = 15 then 1 else 0 : Int) then 1 else 0 : Int) 2 m (fun r1 m1 => Q 0 m1) := h
  refine b_aload_n dX6_two_133 rfl ?_
  refine b_iload dX6_two_134 rfl ?_
  refine b_iload_n dX6_two_136 rfl ?_
  refine b_bipush dX6_two_137 (by decide) ?_
  obtain ⟨hs, h⟩ := h
  have K : B f M_X6_two 147 [vR 376, vI x1, vU, vU, vU, vU, vI x6, vU] [vI (if x1 = 15 then 1 else 0 : Int), vI x6, vR 376] m Q T := by
    clear hs
    obtain ⟨hs, h⟩ := h
    have K : B f M_X6_two 155 [vR 376, vI x1, vU, vU, vU, vU, vI x6, vU] [vI (if x6 = (if x1 = 15 then 1 else 0 : Int) then 1 else 0 : Int), vR 376] m Q T := by
      clear hs
      refine b_iconst dX6_two_155 ?_
      refine b_cVv (as := [vI (if x6 = (if x1 = 15 then 1 else 0 : Int) then 1 else 0 : Int), vI 2]) (st := []) dX6_two_156 mf_X6_truth qs88 lk_X6_247 ly_376 rfl (p_X6_truth (f := 5) (Nat.le_refl _) _ _ _ h) (by omega) rfl rfl (Nat.le_of_ble_eq_true rfl) (by decide) rfl (fun _ => rfl) (fun r1 m1 h => ?_) (fun _ h => h)
      exact b_vret dX6_two_159 rfl h
    obtain ⟨g2, g3⟩ := hs
    refine b_icmp_ne 154 dX6_two_147 g2 g3 (by decide) (fun c1 => ?_) (fun c1 => ?_)
    ·
      refine b_iconst dX6_two_154 ?_
      rw [if_neg c1] at K
      exact K
    ·
      have c1 := Decidable.of_not_not c1
      refine b_iconst dX6_two_150 ?_
      refine b_goto 155 dX6_two_151 (by decide) ?_
      rw [if_pos c1] at K
      exact K
  have g1 := hs
  refine b_icmp_ne 146 dX6_two_139 g1 (by decide) (by decide) (fun c2 => ?_) (fun c2 => ?_)
  ·
    refine b_iconst dX6_two_146 ?_
    rw [if_neg c2] at K
    exact K
  ·
    have c2 := Decidable.of_not_not c2
    refine b_iconst dX6_two_142 ?_
    refine b_goto 147 dX6_two_143 (by decide) ?_
    rw [if_pos c2] at K
    exact K
theorem pl_X6_two_86 {f : Nat} {Q : Int → MM → Prop} {T : MM → Prop} (hf : 8 ≤ f) : ∀ (n : Nat) (x1 : Int) (x2 : Int) (x3 : Int) (x4 : Int) (x6 : Int) (x7 : Int) (m : MM), P_X6_two_86 Q n x1 x2 x3 x4 x6 x7 m → B f M_X6_two 86 [vR 376, vI x1, vI x2, vI x3, vI x4, vU, vI x6, vI x7] [] m Q T := by
  intro n
  induction n with
  | zero => intro x1 x2 x3 x4 x6 x7 m h; exact h.elim
  | succ n ih =>
    intro x1 x2 x3 x4 x6 x7 m h
    have h : P_X11_cells x2 m (fun r1 m1 => (RI x7) ∧ (RI r1) ∧ (if r1 ≤ x7 then P_X6_two_133 Q x1 x6 m1 else (0 ≤ (x3 + x7) ∧ (x3 + x7) < 1159540) ∧ (0 ≤ (x4 + x7) ∧ (x4 + x7) < 1159540) ∧ (RI (m1 379 (x3 + x7))) ∧ (RI (m1 379 (x4 + x7))) ∧ (if (m1 379 (x3 + x7)) = (m1 379 (x4 + x7)) then P_X6_two_86 Q n x1 x2 x3 x4 (iAnd x6 1) (x7 + 1) m1 else P_X6_two_86 Q n x1 x2 x3 x4 (iAnd x6 0) (x7 + 1) m1))) := h
    refine b_iload dX6_two_86 rfl ?_
    refine b_iload_n dX6_two_88 rfl ?_
    refine b_cSi (as := [vI x2]) (st := [vI x7]) dX6_two_89 mf_X11_cells lk_X6_164 (p_X11_cells (f := 3) (Nat.le_refl _) _ _ h) (by omega) rfl rfl (Nat.le_of_ble_eq_true rfl) (by decide) rfl (fun _ => rfl) (fun r1 m1 h => ?_) (fun _ h => h)
    obtain ⟨g1, h⟩ := h
    obtain ⟨g2, h⟩ := h
    refine b_icmp_ge 133 dX6_two_92 g1 g2 (by decide) (fun c1 => ?_) (fun c1 => ?_)
    · have h := ifT c1 h
      refine b_fgt [true, true, false, false, false, false, true, false] (ls' := [vR 376, vI x1, vU, vU, vU, vU, vI x6, vU]) rfl rfl ?_
      exact pl_X6_two_133 hf _ _ _ h
    · have h := ifF c1 h
      refine b_iload dX6_two_95 rfl ?_
      refine b_aload_n dX6_two_97 rfl ?_
      refine b_getR dX6_two_98 fk_X6_73 ly_376 gg_376_4 ?_
      refine b_iload_n dX6_two_101 rfl ?_
      refine b_iload dX6_two_102 rfl ?_
      refine b_iadd dX6_two_104 ?_
      obtain ⟨g3, h⟩ := h
      refine b_iald dX6_two_105 ly_379 g3 ?_
      refine b_aload_n dX6_two_106 rfl ?_
      refine b_getR dX6_two_107 fk_X6_73 ly_376 gg_376_4 ?_
      refine b_iload dX6_two_110 rfl ?_
      refine b_iload dX6_two_112 rfl ?_
      refine b_iadd dX6_two_114 ?_
      obtain ⟨g4, h⟩ := h
      refine b_iald dX6_two_115 ly_379 g4 ?_
      obtain ⟨g5, h⟩ := h
      obtain ⟨g6, h⟩ := h
      refine b_icmp_ne 123 dX6_two_116 g5 g6 (by decide) (fun c2 => ?_) (fun c2 => ?_)
      · have h := ifF c2 h
        refine b_iconst dX6_two_123 ?_
        refine b_iand dX6_two_124 ?_
        refine b_istore (ls' := [vR 376, vI x1, vI x2, vI x3, vI x4, vU, vI (iAnd x6 0), vI x7]) dX6_two_125 (Nat.le_of_ble_eq_true rfl) rfl ?_
        refine b_iinc (ls' := [vR 376, vI x1, vI x2, vI x3, vI x4, vU, vI (iAnd x6 0), vI (x7 + 1)]) dX6_two_127 rfl rfl ?_
        refine b_goto 86 dX6_two_130 (by decide) ?_
        exact ih _ _ _ _ _ _ _ h
      · have h := ifT (Decidable.of_not_not c2) h
        refine b_iconst dX6_two_119 ?_
        refine b_goto 124 dX6_two_120 (by decide) ?_
        refine b_iand dX6_two_124 ?_
        refine b_istore (ls' := [vR 376, vI x1, vI x2, vI x3, vI x4, vU, vI (iAnd x6 1), vI x7]) dX6_two_125 (Nat.le_of_ble_eq_true rfl) rfl ?_
        refine b_iinc (ls' := [vR 376, vI x1, vI x2, vI x3, vI x4, vU, vI (iAnd x6 1), vI (x7 + 1)]) dX6_two_127 rfl rfl ?_
        refine b_goto 86 dX6_two_130 (by decide) ?_
        exact ih _ _ _ _ _ _ _ h
theorem pl_X6_two_160 {f : Nat} {Q : Int → MM → Prop} {T : MM → Prop} (hf : 8 ≤ f) : ∀ (x1 : Int) (x3 : Int) (x4 : Int) (m : MM), P_X6_two_160 Q x1 x3 x4 m → B f M_X6_two 160 [vR 376, vI x1, vU, vI x3, vI x4, vU, vU, vU] [] m Q T := by
  intro x1 x3 x4 m h
  have h : ((RI x1)) ∧ P_X8_isLess x3 x4 (if x1 = 18 then 1 else 0 : Int) m (fun r1 m1 => P_X6_truth r1 2 m1 (fun r2 m2 => Q 0 m2)) := h
  refine b_aload_n dX6_two_160 rfl ?_
  refine b_aload_n dX6_two_161 rfl ?_
  refine b_getR dX6_two_162 fk_X6_21 ly_376 gg_376_3 ?_
  refine b_iload_n dX6_two_165 rfl ?_
  refine b_iload dX6_two_166 rfl ?_
  refine b_iload_n dX6_two_168 rfl ?_
  refine b_bipush dX6_two_169 (by decide) ?_
  obtain ⟨hs, h⟩ := h
  have K : B f M_X6_two 179 [vR 376, vI x1, vU, vI x3, vI x4, vU, vU, vU] [vI (if x1 = 18 then 1 else 0 : Int), vI x4, vI x3, vR 378, vR 376] m Q T := by
    clear hs
    refine b_cVi (as := [vI x3, vI x4, vI (if x1 = 18 then 1 else 0 : Int)]) (st := [vR 376]) dX6_two_179 mf_X8_isLess q1548 lk_X6_251 ly_378 rfl (p_X8_isLess (f := 1) (Nat.le_refl _) _ _ _ _ h) (by omega) rfl rfl (Nat.le_of_ble_eq_true rfl) (by decide) rfl (fun _ => rfl) (fun r1 m1 h => ?_) (fun _ h => h)
    refine b_iconst dX6_two_182 ?_
    refine b_cVv (as := [vI r1, vI 2]) (st := []) dX6_two_183 mf_X6_truth qs88 lk_X6_247 ly_376 rfl (p_X6_truth (f := 5) (Nat.le_refl _) _ _ _ h) (by omega) rfl rfl (Nat.le_of_ble_eq_true rfl) (by decide) rfl (fun _ => rfl) (fun r2 m2 h => ?_) (fun _ h => h)
    exact b_vret dX6_two_186 rfl h
  have g1 := hs
  refine b_icmp_ne 178 dX6_two_171 g1 (by decide) (by decide) (fun c1 => ?_) (fun c1 => ?_)
  ·
    refine b_iconst dX6_two_178 ?_
    rw [if_neg c1] at K
    exact K
  ·
    have c1 := Decidable.of_not_not c1
    refine b_iconst dX6_two_174 ?_
    refine b_goto 179 dX6_two_175 (by decide) ?_
    rw [if_pos c1] at K
    exact K
theorem pl_X6_two_331 {f : Nat} {Q : Int → MM → Prop} {T : MM → Prop} (hf : 8 ≤ f) : ∀ (x2 : Int) (m : MM), P_X6_two_331 Q x2 m → B f M_X6_two 331 [vR 376, vU, vI x2, vU, vU, vU, vU, vU] [] m Q T := by
  intro x2 m h
  have h : (RI (m 378 2)) ∧ (if (m 378 2) = 0 then P_X6_made x2 2 m (fun r1 m1 => Q 0 m1) else Q 0 m) := h
  refine b_aload_n dX6_two_331 rfl ?_
  refine b_getR dX6_two_332 fk_X6_21 ly_376 gg_376_3 ?_
  refine b_getI dX6_two_335 fk_X6_109 ly_378 ?_
  obtain ⟨g1, h⟩ := h
  refine b_if_ne 347 dX6_two_338 g1 (by decide) (fun c1 => ?_) (fun c1 => ?_)
  · have h := ifF c1 h
    exact b_vret dX6_two_347 rfl h
  · have h := ifT (Decidable.of_not_not c1) h
    refine b_aload_n dX6_two_341 rfl ?_
    refine b_iload_n dX6_two_342 rfl ?_
    refine b_iconst dX6_two_343 ?_
    refine b_cVv (as := [vI x2, vI 2]) (st := []) dX6_two_344 mf_X6_made qs86 lk_X6_168 ly_376 rfl (p_X6_made (f := 4) (Nat.le_refl _) _ _ _ h) (by omega) rfl rfl (Nat.le_of_ble_eq_true rfl) (by decide) rfl (fun _ => rfl) (fun r1 m1 h => ?_) (fun _ h => h)
    exact b_vret dX6_two_347 rfl h
theorem pl_X6_two_187 {f : Nat} {Q : Int → MM → Prop} {T : MM → Prop} (hf : 8 ≤ f) : ∀ (x1 : Int) (x2 : Int) (x3 : Int) (x4 : Int) (x5 : Int) (m : MM), P_X6_two_187 Q x1 x2 x3 x4 x5 m → B f M_X6_two 187 [vR 376, vI x1, vI x2, vI x3, vI x4, vI x5, vU, vU] [] m Q T := by
  intro x1 x2 x3 x4 x5 m h
  have h : P_X6_number x2 m (fun r1 m1 => ((RI x1)) ∧ P_X8_addAll x5 x3 x4 1155420 r1 (if x1 = 20 then 1 else 0 : Int) m1 (fun r2 m2 => P_X6_two_331 Q x2 m2)) := h
  refine b_aload_n dX6_two_187 rfl ?_
  refine b_getR dX6_two_188 fk_X6_21 ly_376 gg_376_3 ?_
  refine b_iload dX6_two_191 rfl ?_
  refine b_iload_n dX6_two_193 rfl ?_
  refine b_iload dX6_two_194 rfl ?_
  refine b_ldc (1155420) dX6_two_196 q1374 (by decide) ?_
  refine b_aload_n dX6_two_198 rfl ?_
  refine b_iload_n dX6_two_199 rfl ?_
  refine b_cVi (as := [vI x2]) (st := [vI 1155420, vI x4, vI x3, vI x5, vR 378]) dX6_two_200 mf_X6_number qs69 lk_X6_158 ly_376 rfl (p_X6_number (f := 3) (Nat.le_refl _) _ _ h) (by omega) rfl rfl (Nat.le_of_ble_eq_true rfl) (by decide) rfl (fun _ => rfl) (fun r1 m1 h => ?_) (fun _ h => h)
  refine b_iload_n dX6_two_203 rfl ?_
  refine b_bipush dX6_two_204 (by decide) ?_
  obtain ⟨hs, h⟩ := h
  have K : B f M_X6_two 214 [vR 376, vI x1, vI x2, vI x3, vI x4, vI x5, vU, vU] [vI (if x1 = 20 then 1 else 0 : Int), vI r1, vI 1155420, vI x4, vI x3, vI x5, vR 378] m1 Q T := by
    clear hs
    refine b_cVv (as := [vI x5, vI x3, vI x4, vI 1155420, vI r1, vI (if x1 = 20 then 1 else 0 : Int)]) (st := []) dX6_two_214 mf_X8_addAll q1426 lk_X6_255 ly_378 rfl (p_X8_addAll (f := 5) (Nat.le_refl _) _ _ _ _ _ _ _ h) (by omega) rfl rfl (Nat.le_of_ble_eq_true rfl) (by decide) rfl (fun _ => rfl) (fun r2 m2 h => ?_) (fun _ h => h)
    refine b_goto 331 dX6_two_217 (by decide) ?_
    refine b_fgt [true, false, true, false, false, false, false, false] (ls' := [vR 376, vU, vI x2, vU, vU, vU, vU, vU]) rfl rfl ?_
    exact pl_X6_two_331 hf _ _ h
  have g1 := hs
  refine b_icmp_ne 213 dX6_two_206 g1 (by decide) (by decide) (fun c1 => ?_) (fun c1 => ?_)
  ·
    refine b_iconst dX6_two_213 ?_
    rw [if_neg c1] at K
    exact K
  ·
    have c1 := Decidable.of_not_not c1
    refine b_iconst dX6_two_209 ?_
    refine b_goto 214 dX6_two_210 (by decide) ?_
    rw [if_pos c1] at K
    exact K
theorem pl_X6_two_309 {f : Nat} {Q : Int → MM → Prop} {T : MM → Prop} (hf : 8 ≤ f) : ∀ (x2 : Int) (m : MM), P_X6_two_309 Q x2 m → B f M_X6_two 309 [vR 376, vU, vI x2, vU, vU, vU, vU, vU] [] m Q T := by
  intro x2 m h
  have h : P_X6_two_331 Q x2 m := h
  refine b_goto 331 dX6_two_309 (by decide) ?_
  exact pl_X6_two_331 hf _ _ h
theorem pl_X6_two_259 {f : Nat} {Q : Int → MM → Prop} {T : MM → Prop} (hf : 8 ≤ f) : ∀ (n : Nat) (x2 : Int) (x3 : Int) (x4 : Int) (x5 : Int) (x6 : Int) (m : MM), P_X6_two_259 Q n x2 x3 x4 x5 x6 m → B f M_X6_two 259 [vR 376, vU, vI x2, vI x3, vI x4, vI x5, vI x6, vU] [] m Q T := by
  intro n
  induction n with
  | zero => intro x2 x3 x4 x5 x6 m h; exact h.elim
  | succ n ih =>
    intro x2 x3 x4 x5 x6 m h
    have h : P_X6_number x2 m (fun r1 m1 => (RI x6) ∧ (RI r1) ∧ (if r1 ≤ x6 then P_X6_two_309 Q x2 m1 else (RI (m1 378 2)) ∧ (if (m1 378 2) = 0 then P_X8_by x5 (x3 + (2 * x6)) x4 (1155420 + (2 * x6)) m1 (fun r2 m2 => P_X6_two_259 Q n x2 x3 x4 x5 (x6 + 1) m2) else P_X6_two_309 Q x2 m1))) := h
    refine b_iload dX6_two_259 rfl ?_
    refine b_aload_n dX6_two_261 rfl ?_
    refine b_iload_n dX6_two_262 rfl ?_
    refine b_cVi (as := [vI x2]) (st := [vI x6]) dX6_two_263 mf_X6_number qs69 lk_X6_158 ly_376 rfl (p_X6_number (f := 3) (Nat.le_refl _) _ _ h) (by omega) rfl rfl (Nat.le_of_ble_eq_true rfl) (by decide) rfl (fun _ => rfl) (fun r1 m1 h => ?_) (fun _ h => h)
    obtain ⟨g1, h⟩ := h
    obtain ⟨g2, h⟩ := h
    refine b_icmp_ge 309 dX6_two_266 g1 g2 (by decide) (fun c1 => ?_) (fun c1 => ?_)
    · have h := ifT c1 h
      refine b_fgt [true, false, true, false, false, false, false, false] (ls' := [vR 376, vU, vI x2, vU, vU, vU, vU, vU]) rfl rfl ?_
      exact pl_X6_two_309 hf _ _ h
    · have h := ifF c1 h
      refine b_aload_n dX6_two_269 rfl ?_
      refine b_getR dX6_two_270 fk_X6_21 ly_376 gg_376_3 ?_
      refine b_getI dX6_two_273 fk_X6_109 ly_378 ?_
      obtain ⟨g3, h⟩ := h
      refine b_if_ne 309 dX6_two_276 g3 (by decide) (fun c2 => ?_) (fun c2 => ?_)
      · have h := ifF c2 h
        refine b_fgt [true, false, true, false, false, false, false, false] (ls' := [vR 376, vU, vI x2, vU, vU, vU, vU, vU]) rfl rfl ?_
        exact pl_X6_two_309 hf _ _ h
      · have h := ifT (Decidable.of_not_not c2) h
        refine b_aload_n dX6_two_279 rfl ?_
        refine b_getR dX6_two_280 fk_X6_21 ly_376 gg_376_3 ?_
        refine b_iload dX6_two_283 rfl ?_
        refine b_iload_n dX6_two_285 rfl ?_
        refine b_iconst dX6_two_286 ?_
        refine b_iload dX6_two_287 rfl ?_
        refine b_imul dX6_two_289 ?_
        refine b_iadd dX6_two_290 ?_
        refine b_iload dX6_two_291 rfl ?_
        refine b_ldc (1155420) dX6_two_293 q1374 (by decide) ?_
        refine b_iconst dX6_two_295 ?_
        refine b_iload dX6_two_296 rfl ?_
        refine b_imul dX6_two_298 ?_
        refine b_iadd dX6_two_299 ?_
        refine b_cVv (as := [vI x5, vI (x3 + (2 * x6)), vI x4, vI (1155420 + (2 * x6))]) (st := []) dX6_two_300 mf_X8_by q1458 lk_X6_262 ly_378 rfl (p_X8_by (f := 4) (Nat.le_refl _) _ _ _ _ _ h) (by omega) rfl rfl (Nat.le_of_ble_eq_true rfl) (by decide) rfl (fun _ => rfl) (fun r2 m2 h => ?_) (fun _ h => h)
        refine b_iinc (ls' := [vR 376, vU, vI x2, vI x3, vI x4, vI x5, vI (x6 + 1), vU]) dX6_two_303 rfl rfl ?_
        refine b_goto 259 dX6_two_306 (by decide) ?_
        exact ih _ _ _ _ _ _ h
theorem p_X6_two {f : Nat} {Q : Int → MM → Prop} {T : MM → Prop} (hf : 8 ≤ f) (x1 : Int) (x2 : Int) (m : MM) (h : P_X6_two x1 x2 m Q) : CC f M_X6_two [vR 376, vI x1, vI x2] m Q T := by
  refine CC.of (plainFor_of_name (by decide)) (Nat.le_of_ble_eq_true rfl) (ls := [vR 376, vI x1, vI x2, vU, vU, vU, vU, vU]) rfl ?_
  have h : (0 ≤ ((m 376 8) - 2) ∧ ((m 376 8) - 2) < 1701) ∧ (0 ≤ ((m 376 8) - 1) ∧ ((m 376 8) - 1) < 1701) ∧ P_X11_base x2 m (fun r1 m1 => (RI x1) ∧ (if x1 = 15 then ∃ nn, P_X6_two_86 Q nn x1 x2 (m 381 ((m 376 8) - 2)) (m 381 ((m 376 8) - 1)) 1 0 m1 else (if x1 = 16 then ∃ nn, P_X6_two_86 Q nn x1 x2 (m 381 ((m 376 8) - 2)) (m 381 ((m 376 8) - 1)) 1 0 m1 else (if x1 = 17 then P_X6_two_160 Q x1 (m 381 ((m 376 8) - 2)) (m 381 ((m 376 8) - 1)) m1 else (if x1 = 18 then P_X6_two_160 Q x1 (m 381 ((m 376 8) - 2)) (m 381 ((m 376 8) - 1)) m1 else (if x1 = 19 then P_X6_two_187 Q x1 x2 (m 381 ((m 376 8) - 2)) (m 381 ((m 376 8) - 1)) r1 m1 else (if x1 = 20 then P_X6_two_187 Q x1 x2 (m 381 ((m 376 8) - 2)) (m 381 ((m 376 8) - 1)) r1 m1 else (if x1 = 21 then P_X8_multiply x2 (m 381 ((m 376 8) - 2)) (m 381 ((m 376 8) - 1)) 1155420 m1 (fun r2 m2 => P_X6_two_331 Q x2 m2) else (if x1 = 22 then P_X8_isZero (m 381 ((m 376 8) - 1)) m1 (fun r3 m3 => (RI r3) ∧ (if r3 = 0 then ∃ nn, P_X6_two_259 Q nn x2 (m 381 ((m 376 8) - 2)) (m 381 ((m 376 8) - 1)) r1 0 m3 else ∀ m4 : MM, m4 = up m3 378 2 2 → ∃ nn, P_X6_two_259 Q nn x2 (m 381 ((m 376 8) - 2)) (m 381 ((m 376 8) - 1)) r1 0 m4)) else P_X6_rest (if x1 = 23 then 1 else 0 : Int) x2 (m 381 ((m 376 8) - 2)) (m 381 ((m 376 8) - 1)) m1 (fun r4 m5 => P_X6_two_331 Q x2 m5)))))))))) := h
  refine b_aload_n dX6_two_0 rfl ?_
  refine b_getR dX6_two_1 fk_X6_31 ly_376 gg_376_7 ?_
  refine b_aload_n dX6_two_4 rfl ?_
  refine b_getI dX6_two_5 fk_X6_112 ly_376 ?_
  refine b_iconst dX6_two_8 ?_
  refine b_isub dX6_two_9 ?_
  obtain ⟨g1, h⟩ := h
  refine b_iald dX6_two_10 ly_381 g1 ?_
  refine b_istore_n (ls' := [vR 376, vI x1, vI x2, vI (m 381 ((m 376 8) - 2)), vU, vU, vU, vU]) dX6_two_11 (Nat.le_of_ble_eq_true rfl) rfl ?_
  refine b_aload_n dX6_two_12 rfl ?_
  refine b_getR dX6_two_13 fk_X6_31 ly_376 gg_376_7 ?_
  refine b_aload_n dX6_two_16 rfl ?_
  refine b_getI dX6_two_17 fk_X6_112 ly_376 ?_
  refine b_iconst dX6_two_20 ?_
  refine b_isub dX6_two_21 ?_
  obtain ⟨g2, h⟩ := h
  refine b_iald dX6_two_22 ly_381 g2 ?_
  refine b_istore (ls' := [vR 376, vI x1, vI x2, vI (m 381 ((m 376 8) - 2)), vI (m 381 ((m 376 8) - 1)), vU, vU, vU]) dX6_two_23 (Nat.le_of_ble_eq_true rfl) rfl ?_
  refine b_iload_n dX6_two_25 rfl ?_
  refine b_cSi (as := [vI x2]) (st := []) dX6_two_26 mf_X11_base lk_X6_197 (p_X11_base (f := 1) (Nat.le_refl _) _ _ h) (by omega) rfl rfl (Nat.le_of_ble_eq_true rfl) (by decide) rfl (fun _ => rfl) (fun r1 m1 h => ?_) (fun _ h => h)
  refine b_istore (ls' := [vR 376, vI x1, vI x2, vI (m 381 ((m 376 8) - 2)), vI (m 381 ((m 376 8) - 1)), vI r1, vU, vU]) dX6_two_29 (Nat.le_of_ble_eq_true rfl) rfl ?_
  refine b_iload_n dX6_two_31 rfl ?_
  obtain ⟨g3, h⟩ := h
  by_cases c1 : x1 = 15
  · have h := ifT c1 h
    refine b_tswIn 80 dX6_two_32 g3 (by omega) (by omega) (by rw [c1]; rfl) (by decide) ?_
    refine b_iconst dX6_two_80 ?_
    refine b_istore (ls' := [vR 376, vI x1, vI x2, vI (m 381 ((m 376 8) - 2)), vI (m 381 ((m 376 8) - 1)), vI r1, vI 1, vU]) dX6_two_81 (Nat.le_of_ble_eq_true rfl) rfl ?_
    refine b_iconst dX6_two_83 ?_
    refine b_istore (ls' := [vR 376, vI x1, vI x2, vI (m 381 ((m 376 8) - 2)), vI (m 381 ((m 376 8) - 1)), vI r1, vI 1, vI 0]) dX6_two_84 (Nat.le_of_ble_eq_true rfl) rfl ?_
    refine b_fgt [true, true, true, true, true, false, true, true] (ls' := [vR 376, vI x1, vI x2, vI (m 381 ((m 376 8) - 2)), vI (m 381 ((m 376 8) - 1)), vU, vI 1, vI 0]) rfl rfl ?_
    obtain ⟨nn, h⟩ := h
    exact pl_X6_two_86 hf nn _ _ _ _ _ _ _ h
  have h := ifF c1 h
  by_cases c2 : x1 = 16
  · have h := ifT c2 h
    refine b_tswIn 80 dX6_two_32 g3 (by omega) (by omega) (by rw [c2]; rfl) (by decide) ?_
    refine b_iconst dX6_two_80 ?_
    refine b_istore (ls' := [vR 376, vI x1, vI x2, vI (m 381 ((m 376 8) - 2)), vI (m 381 ((m 376 8) - 1)), vI r1, vI 1, vU]) dX6_two_81 (Nat.le_of_ble_eq_true rfl) rfl ?_
    refine b_iconst dX6_two_83 ?_
    refine b_istore (ls' := [vR 376, vI x1, vI x2, vI (m 381 ((m 376 8) - 2)), vI (m 381 ((m 376 8) - 1)), vI r1, vI 1, vI 0]) dX6_two_84 (Nat.le_of_ble_eq_true rfl) rfl ?_
    refine b_fgt [true, true, true, true, true, false, true, true] (ls' := [vR 376, vI x1, vI x2, vI (m 381 ((m 376 8) - 2)), vI (m 381 ((m 376 8) - 1)), vU, vI 1, vI 0]) rfl rfl ?_
    obtain ⟨nn, h⟩ := h
    exact pl_X6_two_86 hf nn _ _ _ _ _ _ _ h
  have h := ifF c2 h
  by_cases c3 : x1 = 17
  · have h := ifT c3 h
    refine b_tswIn 160 dX6_two_32 g3 (by omega) (by omega) (by rw [c3]; rfl) (by decide) ?_
    refine b_fgt [true, true, false, true, true, false, false, false] (ls' := [vR 376, vI x1, vU, vI (m 381 ((m 376 8) - 2)), vI (m 381 ((m 376 8) - 1)), vU, vU, vU]) rfl rfl ?_
    exact pl_X6_two_160 hf _ _ _ _ h
  have h := ifF c3 h
  by_cases c4 : x1 = 18
  · have h := ifT c4 h
    refine b_tswIn 160 dX6_two_32 g3 (by omega) (by omega) (by rw [c4]; rfl) (by decide) ?_
    refine b_fgt [true, true, false, true, true, false, false, false] (ls' := [vR 376, vI x1, vU, vI (m 381 ((m 376 8) - 2)), vI (m 381 ((m 376 8) - 1)), vU, vU, vU]) rfl rfl ?_
    exact pl_X6_two_160 hf _ _ _ _ h
  have h := ifF c4 h
  by_cases c5 : x1 = 19
  · have h := ifT c5 h
    refine b_tswIn 187 dX6_two_32 g3 (by omega) (by omega) (by rw [c5]; rfl) (by decide) ?_
    exact pl_X6_two_187 hf _ _ _ _ _ _ h
  have h := ifF c5 h
  by_cases c6 : x1 = 20
  · have h := ifT c6 h
    refine b_tswIn 187 dX6_two_32 g3 (by omega) (by omega) (by rw [c6]; rfl) (by decide) ?_
    exact pl_X6_two_187 hf _ _ _ _ _ _ h
  have h := ifF c6 h
  by_cases c7 : x1 = 21
  · have h := ifT c7 h
    refine b_tswIn 220 dX6_two_32 g3 (by omega) (by omega) (by rw [c7]; rfl) (by decide) ?_
    refine b_aload_n dX6_two_220 rfl ?_
    refine b_getR dX6_two_221 fk_X6_21 ly_376 gg_376_3 ?_
    refine b_iload_n dX6_two_224 rfl ?_
    refine b_iload_n dX6_two_225 rfl ?_
    refine b_iload dX6_two_226 rfl ?_
    refine b_ldc (1155420) dX6_two_228 q1374 (by decide) ?_
    refine b_cVv (as := [vI x2, vI (m 381 ((m 376 8) - 2)), vI (m 381 ((m 376 8) - 1)), vI 1155420]) (st := []) dX6_two_230 mf_X8_multiply q1377 lk_X6_243 ly_378 rfl (p_X8_multiply (f := 7) (Nat.le_refl _) _ _ _ _ _ h) (by omega) rfl rfl (Nat.le_of_ble_eq_true rfl) (by decide) rfl (fun _ => rfl) (fun r2 m2 h => ?_) (fun _ h => h)
    refine b_goto 331 dX6_two_233 (by decide) ?_
    refine b_fgt [true, false, true, false, false, false, false, false] (ls' := [vR 376, vU, vI x2, vU, vU, vU, vU, vU]) rfl rfl ?_
    exact pl_X6_two_331 hf _ _ h
  have h := ifF c7 h
  by_cases c8 : x1 = 22
  · have h := ifT c8 h
    refine b_tswIn 236 dX6_two_32 g3 (by omega) (by omega) (by rw [c8]; rfl) (by decide) ?_
    refine b_aload_n dX6_two_236 rfl ?_
    refine b_getR dX6_two_237 fk_X6_21 ly_376 gg_376_3 ?_
    refine b_iload dX6_two_240 rfl ?_
    refine b_cVi (as := [vI (m 381 ((m 376 8) - 1))]) (st := []) dX6_two_242 mf_X8_isZero q1420 lk_X6_259 ly_378 rfl (p_X8_isZero (f := 1) (Nat.le_refl _) _ _ h) (by omega) rfl rfl (Nat.le_of_ble_eq_true rfl) (by decide) rfl (fun _ => rfl) (fun r3 m3 h => ?_) (fun _ h => h)
    obtain ⟨g4, h⟩ := h
    refine b_if_eq 256 dX6_two_245 g4 (by decide) (fun c9 => ?_) (fun c9 => ?_)
    · have h := ifT c9 h
      refine b_iconst dX6_two_256 ?_
      refine b_istore (ls' := [vR 376, vI x1, vI x2, vI (m 381 ((m 376 8) - 2)), vI (m 381 ((m 376 8) - 1)), vI r1, vI 0, vU]) dX6_two_257 (Nat.le_of_ble_eq_true rfl) rfl ?_
      refine b_fgt [true, false, true, true, true, true, true, false] (ls' := [vR 376, vU, vI x2, vI (m 381 ((m 376 8) - 2)), vI (m 381 ((m 376 8) - 1)), vI r1, vI 0, vU]) rfl rfl ?_
      obtain ⟨nn, h⟩ := h
      exact pl_X6_two_259 hf nn _ _ _ _ _ _ h
    · have h := ifF c9 h
      refine b_aload_n dX6_two_248 rfl ?_
      refine b_getR dX6_two_249 fk_X6_21 ly_376 gg_376_3 ?_
      refine b_iconst dX6_two_252 ?_
      refine b_putI dX6_two_253 fk_X6_109 ly_378 (fun m4 em4 => ?_)
      have h := h m4 em4
      refine b_iconst dX6_two_256 ?_
      refine b_istore (ls' := [vR 376, vI x1, vI x2, vI (m 381 ((m 376 8) - 2)), vI (m 381 ((m 376 8) - 1)), vI r1, vI 0, vU]) dX6_two_257 (Nat.le_of_ble_eq_true rfl) rfl ?_
      refine b_fgt [true, false, true, true, true, true, true, false] (ls' := [vR 376, vU, vI x2, vI (m 381 ((m 376 8) - 2)), vI (m 381 ((m 376 8) - 1)), vI r1, vI 0, vU]) rfl rfl ?_
      obtain ⟨nn, h⟩ := h
      exact pl_X6_two_259 hf nn _ _ _ _ _ _ h
  have h := ifF c8 h
  refine b_tswOut 312 dX6_two_32 g3 (by omega) (by decide) ?_
  refine b_aload_n dX6_two_312 rfl ?_
  refine b_iload_n dX6_two_313 rfl ?_
  refine b_bipush dX6_two_314 (by decide) ?_
  have K : B f M_X6_two 324 [vR 376, vI x1, vI x2, vI (m 381 ((m 376 8) - 2)), vI (m 381 ((m 376 8) - 1)), vI r1, vU, vU] [vI (if x1 = 23 then 1 else 0 : Int), vR 376] m1 Q T := by
    refine b_iload_n dX6_two_324 rfl ?_
    refine b_iload_n dX6_two_325 rfl ?_
    refine b_iload dX6_two_326 rfl ?_
    refine b_cVv (as := [vI (if x1 = 23 then 1 else 0 : Int), vI x2, vI (m 381 ((m 376 8) - 2)), vI (m 381 ((m 376 8) - 1))]) (st := []) dX6_two_328 mf_X6_rest qs89 lk_X6_265 ly_376 rfl (p_X6_rest (f := 6) (Nat.le_refl _) _ _ _ _ _ h) (by omega) rfl rfl (Nat.le_of_ble_eq_true rfl) (by decide) rfl (fun _ => rfl) (fun r4 m5 h => ?_) (fun _ h => h)
    refine b_fgt [true, false, true, false, false, false, false, false] (ls' := [vR 376, vU, vI x2, vU, vU, vU, vU, vU]) rfl rfl ?_
    exact pl_X6_two_331 hf _ _ h
  refine b_icmp_ne 323 dX6_two_316 g3 (by decide) (by decide) (fun c10 => ?_) (fun c10 => ?_)
  ·
    refine b_iconst dX6_two_323 ?_
    rw [if_neg c10] at K
    exact K
  ·
    have c10 := Decidable.of_not_not c10
    refine b_iconst dX6_two_319 ?_
    refine b_goto 324 dX6_two_320 (by decide) ?_
    rw [if_pos c10] at K
    exact K
theorem dX6_perform_0 : decode cX6_perform 0 = .ok (.iload_n 1, 1) := by decide +kernel
theorem dX6_perform_1 : decode cX6_perform 1 = .ok (.tableswitch 718 0 27 #[127, 171, 199, 259, 294, 329, 377, 425, 473, 482, 490, 498, 533, 533, 584, 718, 718, 718, 718, 718, 718, 718, 718, 718, 718, 621, 651, 660], 127) := by decide +kernel
theorem dX6_perform_128 : decode cX6_perform 128 = .ok (.aload_n 0, 1) := by decide +kernel
theorem dX6_perform_129 : decode cX6_perform 129 = .ok (.getfield 115, 3) := by decide +kernel
theorem dX6_perform_132 : decode cX6_perform 132 = .ok (.iload_n 2, 1) := by decide +kernel
theorem dX6_perform_133 : decode cX6_perform 133 = .ok (.iadd, 1) := by decide +kernel
theorem dX6_perform_134 : decode cX6_perform 134 = .ok (.sipush 20000, 3) := by decide +kernel
theorem dX6_perform_137 : decode cX6_perform 137 = .ok (.if_icmp .le 22, 3) := by decide +kernel
theorem dX6_perform_140 : decode cX6_perform 140 = .ok (.aload_n 0, 1) := by decide +kernel
theorem dX6_perform_141 : decode cX6_perform 141 = .ok (.getfield 21, 3) := by decide +kernel
theorem dX6_perform_144 : decode cX6_perform 144 = .ok (.bipush 6, 2) := by decide +kernel
theorem dX6_perform_146 : decode cX6_perform 146 = .ok (.putfield 109, 3) := by decide +kernel
theorem dX6_perform_149 : decode cX6_perform 149 = .ok (.aload_n 0, 1) := by decide +kernel
theorem dX6_perform_150 : decode cX6_perform 150 = .ok (.sipush 20000, 3) := by decide +kernel
theorem dX6_perform_153 : decode cX6_perform 153 = .ok (.putfield 115, 3) := by decide +kernel
theorem dX6_perform_156 : decode cX6_perform 156 = .ok (.goto 588, 3) := by decide +kernel
theorem dX6_perform_159 : decode cX6_perform 159 = .ok (.aload_n 0, 1) := by decide +kernel
theorem dX6_perform_160 : decode cX6_perform 160 = .ok (.dup, 1) := by decide +kernel
theorem dX6_perform_161 : decode cX6_perform 161 = .ok (.getfield 115, 3) := by decide +kernel
theorem dX6_perform_164 : decode cX6_perform 164 = .ok (.iload_n 2, 1) := by decide +kernel
theorem dX6_perform_165 : decode cX6_perform 165 = .ok (.iadd, 1) := by decide +kernel
theorem dX6_perform_166 : decode cX6_perform 166 = .ok (.putfield 115, 3) := by decide +kernel
theorem dX6_perform_169 : decode cX6_perform 169 = .ok (.goto 575, 3) := by decide +kernel
theorem dX6_perform_172 : decode cX6_perform 172 = .ok (.aload_n 0, 1) := by decide +kernel
theorem dX6_perform_173 : decode cX6_perform 173 = .ok (.iconst 2, 1) := by decide +kernel
theorem dX6_perform_174 : decode cX6_perform 174 = .ok (.invokevirtual 172, 3) := by decide +kernel
theorem dX6_perform_177 : decode cX6_perform 177 = .ok (.istore 4, 2) := by decide +kernel
theorem dX6_perform_179 : decode cX6_perform 179 = .ok (.aload_n 0, 1) := by decide +kernel
theorem dX6_perform_180 : decode cX6_perform 180 = .ok (.getfield 73, 3) := by decide +kernel
theorem dX6_perform_183 : decode cX6_perform 183 = .ok (.iload 4, 2) := by decide +kernel
theorem dX6_perform_185 : decode cX6_perform 185 = .ok (.iload_n 2, 1) := by decide +kernel
theorem dX6_perform_186 : decode cX6_perform 186 = .ok (.iastore, 1) := by decide +kernel
theorem dX6_perform_187 : decode cX6_perform 187 = .ok (.aload_n 0, 1) := by decide +kernel
theorem dX6_perform_188 : decode cX6_perform 188 = .ok (.getfield 73, 3) := by decide +kernel
theorem dX6_perform_191 : decode cX6_perform 191 = .ok (.iload 4, 2) := by decide +kernel
theorem dX6_perform_193 : decode cX6_perform 193 = .ok (.iconst 1, 1) := by decide +kernel
theorem dX6_perform_194 : decode cX6_perform 194 = .ok (.iadd, 1) := by decide +kernel
theorem dX6_perform_195 : decode cX6_perform 195 = .ok (.iconst 1, 1) := by decide +kernel
theorem dX6_perform_196 : decode cX6_perform 196 = .ok (.iastore, 1) := by decide +kernel
theorem dX6_perform_197 : decode cX6_perform 197 = .ok (.goto 547, 3) := by decide +kernel
theorem dX6_perform_200 : decode cX6_perform 200 = .ok (.iload_n 2, 1) := by decide +kernel
theorem dX6_perform_201 : decode cX6_perform 201 = .ok (.iconst 1, 1) := by decide +kernel
theorem dX6_perform_202 : decode cX6_perform 202 = .ok (.if_icmp .ne 8, 3) := by decide +kernel
theorem dX6_perform_205 : decode cX6_perform 205 = .ok (.bipush 7, 2) := by decide +kernel
theorem dX6_perform_207 : decode cX6_perform 207 = .ok (.goto 5, 3) := by decide +kernel
theorem dX6_perform_210 : decode cX6_perform 210 = .ok (.bipush 49, 2) := by decide +kernel
theorem dX6_perform_212 : decode cX6_perform 212 = .ok (.istore 4, 2) := by decide +kernel
theorem dX6_perform_214 : decode cX6_perform 214 = .ok (.aload_n 0, 1) := by decide +kernel
theorem dX6_perform_215 : decode cX6_perform 215 = .ok (.iconst 2, 1) := by decide +kernel
theorem dX6_perform_216 : decode cX6_perform 216 = .ok (.iload 4, 2) := by decide +kernel
theorem dX6_perform_218 : decode cX6_perform 218 = .ok (.imul, 1) := by decide +kernel
theorem dX6_perform_219 : decode cX6_perform 219 = .ok (.invokevirtual 172, 3) := by decide +kernel
theorem dX6_perform_222 : decode cX6_perform 222 = .ok (.istore 5, 2) := by decide +kernel
theorem dX6_perform_224 : decode cX6_perform 224 = .ok (.aload_n 0, 1) := by decide +kernel
theorem dX6_perform_225 : decode cX6_perform 225 = .ok (.getfield 21, 3) := by decide +kernel
theorem dX6_perform_228 : decode cX6_perform 228 = .ok (.iload 5, 2) := by decide +kernel
theorem dX6_perform_230 : decode cX6_perform 230 = .ok (.iload 4, 2) := by decide +kernel
theorem dX6_perform_232 : decode cX6_perform 232 = .ok (.invokevirtual 175, 3) := by decide +kernel
theorem dX6_perform_235 : decode cX6_perform 235 = .ok (.aload_n 0, 1) := by decide +kernel
theorem dX6_perform_236 : decode cX6_perform 236 = .ok (.getfield 73, 3) := by decide +kernel
theorem dX6_perform_239 : decode cX6_perform 239 = .ok (.iload 5, 2) := by decide +kernel
theorem dX6_perform_241 : decode cX6_perform 241 = .ok (.iconst 2, 1) := by decide +kernel
theorem dX6_perform_242 : decode cX6_perform 242 = .ok (.iload_n 2, 1) := by decide +kernel
theorem dX6_perform_243 : decode cX6_perform 243 = .ok (.iconst 1, 1) := by decide +kernel
theorem dX6_perform_244 : decode cX6_perform 244 = .ok (.if_icmp .ne 7, 3) := by decide +kernel
theorem dX6_perform_247 : decode cX6_perform 247 = .ok (.iconst 1, 1) := by decide +kernel
theorem dX6_perform_248 : decode cX6_perform 248 = .ok (.goto 5, 3) := by decide +kernel
theorem dX6_perform_251 : decode cX6_perform 251 = .ok (.bipush 7, 2) := by decide +kernel
theorem dX6_perform_253 : decode cX6_perform 253 = .ok (.imul, 1) := by decide +kernel
theorem dX6_perform_254 : decode cX6_perform 254 = .ok (.iadd, 1) := by decide +kernel
theorem dX6_perform_255 : decode cX6_perform 255 = .ok (.iconst 1, 1) := by decide +kernel
theorem dX6_perform_256 : decode cX6_perform 256 = .ok (.iastore, 1) := by decide +kernel
theorem dX6_perform_257 : decode cX6_perform 257 = .ok (.goto 487, 3) := by decide +kernel
theorem dX6_perform_260 : decode cX6_perform 260 = .ok (.aload_n 0, 1) := by decide +kernel
theorem dX6_perform_261 : decode cX6_perform 261 = .ok (.iload_n 3, 1) := by decide +kernel
theorem dX6_perform_262 : decode cX6_perform 262 = .ok (.invokestatic 164, 3) := by decide +kernel
theorem dX6_perform_265 : decode cX6_perform 265 = .ok (.invokevirtual 172, 3) := by decide +kernel
theorem dX6_perform_268 : decode cX6_perform 268 = .ok (.istore 4, 2) := by decide +kernel
theorem dX6_perform_270 : decode cX6_perform 270 = .ok (.aload_n 0, 1) := by decide +kernel
theorem dX6_perform_271 : decode cX6_perform 271 = .ok (.getfield 64, 3) := by decide +kernel
theorem dX6_perform_274 : decode cX6_perform 274 = .ok (.sipush 882, 3) := by decide +kernel
theorem dX6_perform_277 : decode cX6_perform 277 = .ok (.iload_n 2, 1) := by decide +kernel
theorem dX6_perform_278 : decode cX6_perform 278 = .ok (.imul, 1) := by decide +kernel
theorem dX6_perform_279 : decode cX6_perform 279 = .ok (.aload_n 0, 1) := by decide +kernel
theorem dX6_perform_280 : decode cX6_perform 280 = .ok (.getfield 73, 3) := by decide +kernel
theorem dX6_perform_283 : decode cX6_perform 283 = .ok (.iload 4, 2) := by decide +kernel
theorem dX6_perform_285 : decode cX6_perform 285 = .ok (.iload_n 3, 1) := by decide +kernel
theorem dX6_perform_286 : decode cX6_perform 286 = .ok (.invokestatic 164, 3) := by decide +kernel
theorem dX6_perform_289 : decode cX6_perform 289 = .ok (.invokestatic 178, 3) := by decide +kernel
theorem dX6_perform_292 : decode cX6_perform 292 = .ok (.goto 452, 3) := by decide +kernel
theorem dX6_perform_295 : decode cX6_perform 295 = .ok (.aload_n 0, 1) := by decide +kernel
theorem dX6_perform_296 : decode cX6_perform 296 = .ok (.iload_n 3, 1) := by decide +kernel
theorem dX6_perform_297 : decode cX6_perform 297 = .ok (.invokestatic 164, 3) := by decide +kernel
theorem dX6_perform_300 : decode cX6_perform 300 = .ok (.invokevirtual 172, 3) := by decide +kernel
theorem dX6_perform_303 : decode cX6_perform 303 = .ok (.istore 4, 2) := by decide +kernel
theorem dX6_perform_305 : decode cX6_perform 305 = .ok (.aload_n 0, 1) := by decide +kernel
theorem dX6_perform_306 : decode cX6_perform 306 = .ok (.getfield 67, 3) := by decide +kernel
theorem dX6_perform_309 : decode cX6_perform 309 = .ok (.sipush 882, 3) := by decide +kernel
theorem dX6_perform_312 : decode cX6_perform 312 = .ok (.iload_n 2, 1) := by decide +kernel
theorem dX6_perform_313 : decode cX6_perform 313 = .ok (.imul, 1) := by decide +kernel
theorem dX6_perform_314 : decode cX6_perform 314 = .ok (.aload_n 0, 1) := by decide +kernel
theorem dX6_perform_315 : decode cX6_perform 315 = .ok (.getfield 73, 3) := by decide +kernel
theorem dX6_perform_318 : decode cX6_perform 318 = .ok (.iload 4, 2) := by decide +kernel
theorem dX6_perform_320 : decode cX6_perform 320 = .ok (.iload_n 3, 1) := by decide +kernel
theorem dX6_perform_321 : decode cX6_perform 321 = .ok (.invokestatic 164, 3) := by decide +kernel
theorem dX6_perform_324 : decode cX6_perform 324 = .ok (.invokestatic 178, 3) := by decide +kernel
theorem dX6_perform_327 : decode cX6_perform 327 = .ok (.goto 417, 3) := by decide +kernel
theorem dX6_perform_330 : decode cX6_perform 330 = .ok (.aload_n 0, 1) := by decide +kernel
theorem dX6_perform_331 : decode cX6_perform 331 = .ok (.iload_n 3, 1) := by decide +kernel
theorem dX6_perform_332 : decode cX6_perform 332 = .ok (.invokestatic 164, 3) := by decide +kernel
theorem dX6_perform_335 : decode cX6_perform 335 = .ok (.invokevirtual 172, 3) := by decide +kernel
theorem dX6_perform_338 : decode cX6_perform 338 = .ok (.istore 4, 2) := by decide +kernel
theorem dX6_perform_340 : decode cX6_perform 340 = .ok (.aload_n 0, 1) := by decide +kernel
theorem dX6_perform_341 : decode cX6_perform 341 = .ok (.getfield 73, 3) := by decide +kernel
theorem dX6_perform_344 : decode cX6_perform 344 = .ok (.aload_n 0, 1) := by decide +kernel
theorem dX6_perform_345 : decode cX6_perform 345 = .ok (.getfield 31, 3) := by decide +kernel
theorem dX6_perform_348 : decode cX6_perform 348 = .ok (.aload_n 0, 1) := by decide +kernel
theorem dX6_perform_349 : decode cX6_perform 349 = .ok (.getfield 41, 3) := by decide +kernel
theorem dX6_perform_352 : decode cX6_perform 352 = .ok (.aload_n 0, 1) := by decide +kernel
theorem dX6_perform_353 : decode cX6_perform 353 = .ok (.getfield 100, 3) := by decide +kernel
theorem dX6_perform_356 : decode cX6_perform 356 = .ok (.iconst 1, 1) := by decide +kernel
theorem dX6_perform_357 : decode cX6_perform 357 = .ok (.isub, 1) := by decide +kernel
theorem dX6_perform_358 : decode cX6_perform 358 = .ok (.iaload, 1) := by decide +kernel
theorem dX6_perform_359 : decode cX6_perform 359 = .ok (.iload_n 2, 1) := by decide +kernel
theorem dX6_perform_360 : decode cX6_perform 360 = .ok (.iadd, 1) := by decide +kernel
theorem dX6_perform_361 : decode cX6_perform 361 = .ok (.iaload, 1) := by decide +kernel
theorem dX6_perform_362 : decode cX6_perform 362 = .ok (.aload_n 0, 1) := by decide +kernel
theorem dX6_perform_363 : decode cX6_perform 363 = .ok (.getfield 73, 3) := by decide +kernel
theorem dX6_perform_366 : decode cX6_perform 366 = .ok (.iload 4, 2) := by decide +kernel
theorem dX6_perform_368 : decode cX6_perform 368 = .ok (.iload_n 3, 1) := by decide +kernel
theorem dX6_perform_369 : decode cX6_perform 369 = .ok (.invokestatic 164, 3) := by decide +kernel
theorem dX6_perform_372 : decode cX6_perform 372 = .ok (.invokestatic 178, 3) := by decide +kernel
theorem dX6_perform_375 : decode cX6_perform 375 = .ok (.goto 369, 3) := by decide +kernel
theorem dX6_perform_378 : decode cX6_perform 378 = .ok (.aload_n 0, 1) := by decide +kernel
theorem dX6_perform_379 : decode cX6_perform 379 = .ok (.getfield 21, 3) := by decide +kernel
theorem dX6_perform_382 : decode cX6_perform 382 = .ok (.iload_n 2, 1) := by decide +kernel
theorem dX6_perform_383 : decode cX6_perform 383 = .ok (.iload_n 3, 1) := by decide +kernel
theorem dX6_perform_384 : decode cX6_perform 384 = .ok (.aload_n 0, 1) := by decide +kernel
theorem dX6_perform_385 : decode cX6_perform 385 = .ok (.getfield 31, 3) := by decide +kernel
theorem dX6_perform_388 : decode cX6_perform 388 = .ok (.aload_n 0, 1) := by decide +kernel
theorem dX6_perform_389 : decode cX6_perform 389 = .ok (.getfield 112, 3) := by decide +kernel
theorem dX6_perform_392 : decode cX6_perform 392 = .ok (.iconst 1, 1) := by decide +kernel
theorem dX6_perform_393 : decode cX6_perform 393 = .ok (.isub, 1) := by decide +kernel
theorem dX6_perform_394 : decode cX6_perform 394 = .ok (.iaload, 1) := by decide +kernel
theorem dX6_perform_395 : decode cX6_perform 395 = .ok (.invokevirtual 184, 3) := by decide +kernel
theorem dX6_perform_398 : decode cX6_perform 398 = .ok (.aload_n 0, 1) := by decide +kernel
theorem dX6_perform_399 : decode cX6_perform 399 = .ok (.getfield 31, 3) := by decide +kernel
theorem dX6_perform_402 : decode cX6_perform 402 = .ok (.aload_n 0, 1) := by decide +kernel
theorem dX6_perform_403 : decode cX6_perform 403 = .ok (.getfield 112, 3) := by decide +kernel
theorem dX6_perform_406 : decode cX6_perform 406 = .ok (.aload_n 0, 1) := by decide +kernel
theorem dX6_perform_407 : decode cX6_perform 407 = .ok (.getfield 31, 3) := by decide +kernel
theorem dX6_perform_410 : decode cX6_perform 410 = .ok (.aload_n 0, 1) := by decide +kernel
theorem dX6_perform_411 : decode cX6_perform 411 = .ok (.getfield 112, 3) := by decide +kernel
theorem dX6_perform_414 : decode cX6_perform 414 = .ok (.iconst 1, 1) := by decide +kernel
theorem dX6_perform_415 : decode cX6_perform 415 = .ok (.isub, 1) := by decide +kernel
theorem dX6_perform_416 : decode cX6_perform 416 = .ok (.iaload, 1) := by decide +kernel
theorem dX6_perform_417 : decode cX6_perform 417 = .ok (.iload_n 3, 1) := by decide +kernel
theorem dX6_perform_418 : decode cX6_perform 418 = .ok (.invokestatic 164, 3) := by decide +kernel
theorem dX6_perform_421 : decode cX6_perform 421 = .ok (.iadd, 1) := by decide +kernel
theorem dX6_perform_422 : decode cX6_perform 422 = .ok (.iastore, 1) := by decide +kernel
theorem dX6_perform_423 : decode cX6_perform 423 = .ok (.goto 321, 3) := by decide +kernel
theorem dX6_perform_426 : decode cX6_perform 426 = .ok (.aload_n 0, 1) := by decide +kernel
theorem dX6_perform_427 : decode cX6_perform 427 = .ok (.getfield 21, 3) := by decide +kernel
theorem dX6_perform_430 : decode cX6_perform 430 = .ok (.iload_n 2, 1) := by decide +kernel
theorem dX6_perform_431 : decode cX6_perform 431 = .ok (.iload_n 3, 1) := by decide +kernel
theorem dX6_perform_432 : decode cX6_perform 432 = .ok (.aload_n 0, 1) := by decide +kernel
theorem dX6_perform_433 : decode cX6_perform 433 = .ok (.getfield 31, 3) := by decide +kernel
theorem dX6_perform_436 : decode cX6_perform 436 = .ok (.aload_n 0, 1) := by decide +kernel
theorem dX6_perform_437 : decode cX6_perform 437 = .ok (.getfield 112, 3) := by decide +kernel
theorem dX6_perform_440 : decode cX6_perform 440 = .ok (.iconst 1, 1) := by decide +kernel
theorem dX6_perform_441 : decode cX6_perform 441 = .ok (.isub, 1) := by decide +kernel
theorem dX6_perform_442 : decode cX6_perform 442 = .ok (.iaload, 1) := by decide +kernel
theorem dX6_perform_443 : decode cX6_perform 443 = .ok (.invokevirtual 187, 3) := by decide +kernel
theorem dX6_perform_446 : decode cX6_perform 446 = .ok (.aload_n 0, 1) := by decide +kernel
theorem dX6_perform_447 : decode cX6_perform 447 = .ok (.getfield 31, 3) := by decide +kernel
theorem dX6_perform_450 : decode cX6_perform 450 = .ok (.aload_n 0, 1) := by decide +kernel
theorem dX6_perform_451 : decode cX6_perform 451 = .ok (.getfield 112, 3) := by decide +kernel
theorem dX6_perform_454 : decode cX6_perform 454 = .ok (.aload_n 0, 1) := by decide +kernel
theorem dX6_perform_455 : decode cX6_perform 455 = .ok (.getfield 31, 3) := by decide +kernel
theorem dX6_perform_458 : decode cX6_perform 458 = .ok (.aload_n 0, 1) := by decide +kernel
theorem dX6_perform_459 : decode cX6_perform 459 = .ok (.getfield 112, 3) := by decide +kernel
theorem dX6_perform_462 : decode cX6_perform 462 = .ok (.iconst 1, 1) := by decide +kernel
theorem dX6_perform_463 : decode cX6_perform 463 = .ok (.isub, 1) := by decide +kernel
theorem dX6_perform_464 : decode cX6_perform 464 = .ok (.iaload, 1) := by decide +kernel
theorem dX6_perform_465 : decode cX6_perform 465 = .ok (.iload_n 3, 1) := by decide +kernel
theorem dX6_perform_466 : decode cX6_perform 466 = .ok (.invokestatic 164, 3) := by decide +kernel
theorem dX6_perform_469 : decode cX6_perform 469 = .ok (.iadd, 1) := by decide +kernel
theorem dX6_perform_470 : decode cX6_perform 470 = .ok (.iastore, 1) := by decide +kernel
theorem dX6_perform_471 : decode cX6_perform 471 = .ok (.goto 273, 3) := by decide +kernel
theorem dX6_perform_474 : decode cX6_perform 474 = .ok (.aload_n 0, 1) := by decide +kernel
theorem dX6_perform_475 : decode cX6_perform 475 = .ok (.iload_n 2, 1) := by decide +kernel
theorem dX6_perform_476 : decode cX6_perform 476 = .ok (.iload_n 3, 1) := by decide +kernel
theorem dX6_perform_477 : decode cX6_perform 477 = .ok (.invokevirtual 190, 3) := by decide +kernel
theorem dX6_perform_480 : decode cX6_perform 480 = .ok (.goto 264, 3) := by decide +kernel
theorem dX6_perform_483 : decode cX6_perform 483 = .ok (.aload_n 0, 1) := by decide +kernel
theorem dX6_perform_484 : decode cX6_perform 484 = .ok (.iload_n 2, 1) := by decide +kernel
theorem dX6_perform_485 : decode cX6_perform 485 = .ok (.invokevirtual 193, 3) := by decide +kernel
theorem dX6_perform_488 : decode cX6_perform 488 = .ok (.goto 256, 3) := by decide +kernel
theorem dX6_perform_491 : decode cX6_perform 491 = .ok (.aload_n 0, 1) := by decide +kernel
theorem dX6_perform_492 : decode cX6_perform 492 = .ok (.iload_n 2, 1) := by decide +kernel
theorem dX6_perform_493 : decode cX6_perform 493 = .ok (.putfield 103, 3) := by decide +kernel
theorem dX6_perform_496 : decode cX6_perform 496 = .ok (.goto 248, 3) := by decide +kernel
theorem dX6_perform_499 : decode cX6_perform 499 = .ok (.aload_n 0, 1) := by decide +kernel
theorem dX6_perform_500 : decode cX6_perform 500 = .ok (.dup, 1) := by decide +kernel
theorem dX6_perform_501 : decode cX6_perform 501 = .ok (.getfield 112, 3) := by decide +kernel
theorem dX6_perform_504 : decode cX6_perform 504 = .ok (.iconst 1, 1) := by decide +kernel
theorem dX6_perform_505 : decode cX6_perform 505 = .ok (.isub, 1) := by decide +kernel
theorem dX6_perform_506 : decode cX6_perform 506 = .ok (.putfield 112, 3) := by decide +kernel
theorem dX6_perform_509 : decode cX6_perform 509 = .ok (.aload_n 0, 1) := by decide +kernel
theorem dX6_perform_510 : decode cX6_perform 510 = .ok (.getfield 73, 3) := by decide +kernel
theorem dX6_perform_513 : decode cX6_perform 513 = .ok (.aload_n 0, 1) := by decide +kernel
theorem dX6_perform_514 : decode cX6_perform 514 = .ok (.getfield 31, 3) := by decide +kernel
theorem dX6_perform_517 : decode cX6_perform 517 = .ok (.aload_n 0, 1) := by decide +kernel
theorem dX6_perform_518 : decode cX6_perform 518 = .ok (.getfield 112, 3) := by decide +kernel
theorem dX6_perform_521 : decode cX6_perform 521 = .ok (.iaload, 1) := by decide +kernel
theorem dX6_perform_522 : decode cX6_perform 522 = .ok (.iaload, 1) := by decide +kernel
theorem dX6_perform_523 : decode cX6_perform 523 = .ok (.ifCond .ne 221, 3) := by decide +kernel
theorem dX6_perform_526 : decode cX6_perform 526 = .ok (.aload_n 0, 1) := by decide +kernel
theorem dX6_perform_527 : decode cX6_perform 527 = .ok (.iload_n 2, 1) := by decide +kernel
theorem dX6_perform_528 : decode cX6_perform 528 = .ok (.putfield 103, 3) := by decide +kernel
theorem dX6_perform_531 : decode cX6_perform 531 = .ok (.goto 213, 3) := by decide +kernel
theorem dX6_perform_534 : decode cX6_perform 534 = .ok (.aload_n 0, 1) := by decide +kernel
theorem dX6_perform_535 : decode cX6_perform 535 = .ok (.getfield 73, 3) := by decide +kernel
theorem dX6_perform_538 : decode cX6_perform 538 = .ok (.aload_n 0, 1) := by decide +kernel
theorem dX6_perform_539 : decode cX6_perform 539 = .ok (.getfield 31, 3) := by decide +kernel
theorem dX6_perform_542 : decode cX6_perform 542 = .ok (.aload_n 0, 1) := by decide +kernel
theorem dX6_perform_543 : decode cX6_perform 543 = .ok (.getfield 112, 3) := by decide +kernel
theorem dX6_perform_546 : decode cX6_perform 546 = .ok (.iconst 1, 1) := by decide +kernel
theorem dX6_perform_547 : decode cX6_perform 547 = .ok (.isub, 1) := by decide +kernel
theorem dX6_perform_548 : decode cX6_perform 548 = .ok (.iaload, 1) := by decide +kernel
theorem dX6_perform_549 : decode cX6_perform 549 = .ok (.iaload, 1) := by decide +kernel
theorem dX6_perform_550 : decode cX6_perform 550 = .ok (.iload_n 1, 1) := by decide +kernel
theorem dX6_perform_551 : decode cX6_perform 551 = .ok (.bipush 12, 2) := by decide +kernel
theorem dX6_perform_553 : decode cX6_perform 553 = .ok (.if_icmp .ne 7, 3) := by decide +kernel
theorem dX6_perform_556 : decode cX6_perform 556 = .ok (.iconst 1, 1) := by decide +kernel
theorem dX6_perform_557 : decode cX6_perform 557 = .ok (.goto 4, 3) := by decide +kernel
theorem dX6_perform_560 : decode cX6_perform 560 = .ok (.iconst 0, 1) := by decide +kernel
theorem dX6_perform_561 : decode cX6_perform 561 = .ok (.if_icmp .ne 11, 3) := by decide +kernel
theorem dX6_perform_564 : decode cX6_perform 564 = .ok (.aload_n 0, 1) := by decide +kernel
theorem dX6_perform_565 : decode cX6_perform 565 = .ok (.iload_n 2, 1) := by decide +kernel
theorem dX6_perform_566 : decode cX6_perform 566 = .ok (.putfield 103, 3) := by decide +kernel
theorem dX6_perform_569 : decode cX6_perform 569 = .ok (.goto 175, 3) := by decide +kernel
theorem dX6_perform_572 : decode cX6_perform 572 = .ok (.aload_n 0, 1) := by decide +kernel
theorem dX6_perform_573 : decode cX6_perform 573 = .ok (.dup, 1) := by decide +kernel
theorem dX6_perform_574 : decode cX6_perform 574 = .ok (.getfield 112, 3) := by decide +kernel
theorem dX6_perform_577 : decode cX6_perform 577 = .ok (.iconst 1, 1) := by decide +kernel
theorem dX6_perform_578 : decode cX6_perform 578 = .ok (.isub, 1) := by decide +kernel
theorem dX6_perform_579 : decode cX6_perform 579 = .ok (.putfield 112, 3) := by decide +kernel
theorem dX6_perform_582 : decode cX6_perform 582 = .ok (.goto 162, 3) := by decide +kernel
theorem dX6_perform_585 : decode cX6_perform 585 = .ok (.aload_n 0, 1) := by decide +kernel
theorem dX6_perform_586 : decode cX6_perform 586 = .ok (.getfield 73, 3) := by decide +kernel
theorem dX6_perform_589 : decode cX6_perform 589 = .ok (.aload_n 0, 1) := by decide +kernel
theorem dX6_perform_590 : decode cX6_perform 590 = .ok (.getfield 31, 3) := by decide +kernel
theorem dX6_perform_593 : decode cX6_perform 593 = .ok (.aload_n 0, 1) := by decide +kernel
theorem dX6_perform_594 : decode cX6_perform 594 = .ok (.getfield 112, 3) := by decide +kernel
theorem dX6_perform_597 : decode cX6_perform 597 = .ok (.iconst 1, 1) := by decide +kernel
theorem dX6_perform_598 : decode cX6_perform 598 = .ok (.isub, 1) := by decide +kernel
theorem dX6_perform_599 : decode cX6_perform 599 = .ok (.iaload, 1) := by decide +kernel
theorem dX6_perform_600 : decode cX6_perform 600 = .ok (.iconst 1, 1) := by decide +kernel
theorem dX6_perform_601 : decode cX6_perform 601 = .ok (.aload_n 0, 1) := by decide +kernel
theorem dX6_perform_602 : decode cX6_perform 602 = .ok (.getfield 73, 3) := by decide +kernel
theorem dX6_perform_605 : decode cX6_perform 605 = .ok (.aload_n 0, 1) := by decide +kernel
theorem dX6_perform_606 : decode cX6_perform 606 = .ok (.getfield 31, 3) := by decide +kernel
theorem dX6_perform_609 : decode cX6_perform 609 = .ok (.aload_n 0, 1) := by decide +kernel
theorem dX6_perform_610 : decode cX6_perform 610 = .ok (.getfield 112, 3) := by decide +kernel
theorem dX6_perform_613 : decode cX6_perform 613 = .ok (.iconst 1, 1) := by decide +kernel
theorem dX6_perform_614 : decode cX6_perform 614 = .ok (.isub, 1) := by decide +kernel
theorem dX6_perform_615 : decode cX6_perform 615 = .ok (.iaload, 1) := by decide +kernel
theorem dX6_perform_616 : decode cX6_perform 616 = .ok (.iaload, 1) := by decide +kernel
theorem dX6_perform_617 : decode cX6_perform 617 = .ok (.isub, 1) := by decide +kernel
theorem dX6_perform_618 : decode cX6_perform 618 = .ok (.iastore, 1) := by decide +kernel
theorem dX6_perform_619 : decode cX6_perform 619 = .ok (.goto 125, 3) := by decide +kernel
theorem dX6_perform_622 : decode cX6_perform 622 = .ok (.aload_n 0, 1) := by decide +kernel
theorem dX6_perform_623 : decode cX6_perform 623 = .ok (.getfield 21, 3) := by decide +kernel
theorem dX6_perform_626 : decode cX6_perform 626 = .ok (.iload_n 2, 1) := by decide +kernel
theorem dX6_perform_627 : decode cX6_perform 627 = .ok (.invokestatic 197, 3) := by decide +kernel
theorem dX6_perform_630 : decode cX6_perform 630 = .ok (.aload_n 0, 1) := by decide +kernel
theorem dX6_perform_631 : decode cX6_perform 631 = .ok (.getfield 31, 3) := by decide +kernel
theorem dX6_perform_634 : decode cX6_perform 634 = .ok (.aload_n 0, 1) := by decide +kernel
theorem dX6_perform_635 : decode cX6_perform 635 = .ok (.getfield 112, 3) := by decide +kernel
theorem dX6_perform_638 : decode cX6_perform 638 = .ok (.iconst 1, 1) := by decide +kernel
theorem dX6_perform_639 : decode cX6_perform 639 = .ok (.isub, 1) := by decide +kernel
theorem dX6_perform_640 : decode cX6_perform 640 = .ok (.iaload, 1) := by decide +kernel
theorem dX6_perform_641 : decode cX6_perform 641 = .ok (.aload_n 0, 1) := by decide +kernel
theorem dX6_perform_642 : decode cX6_perform 642 = .ok (.iload_n 2, 1) := by decide +kernel
theorem dX6_perform_643 : decode cX6_perform 643 = .ok (.invokevirtual 158, 3) := by decide +kernel
theorem dX6_perform_646 : decode cX6_perform 646 = .ok (.invokevirtual 200, 3) := by decide +kernel
theorem dX6_perform_649 : decode cX6_perform 649 = .ok (.goto 95, 3) := by decide +kernel
theorem dX6_perform_652 : decode cX6_perform 652 = .ok (.aload_n 0, 1) := by decide +kernel
theorem dX6_perform_653 : decode cX6_perform 653 = .ok (.iload_n 2, 1) := by decide +kernel
theorem dX6_perform_654 : decode cX6_perform 654 = .ok (.iload_n 3, 1) := by decide +kernel
theorem dX6_perform_655 : decode cX6_perform 655 = .ok (.invokevirtual 203, 3) := by decide +kernel
theorem dX6_perform_658 : decode cX6_perform 658 = .ok (.goto 86, 3) := by decide +kernel
theorem dX6_perform_661 : decode cX6_perform 661 = .ok (.iload_n 2, 1) := by decide +kernel
theorem dX6_perform_662 : decode cX6_perform 662 = .ok (.invokestatic 148, 3) := by decide +kernel
theorem dX6_perform_665 : decode cX6_perform 665 = .ok (.istore 4, 2) := by decide +kernel
theorem dX6_perform_667 : decode cX6_perform 667 = .ok (.aload_n 0, 1) := by decide +kernel
theorem dX6_perform_668 : decode cX6_perform 668 = .ok (.getfield 31, 3) := by decide +kernel
theorem dX6_perform_671 : decode cX6_perform 671 = .ok (.aload_n 0, 1) := by decide +kernel
theorem dX6_perform_672 : decode cX6_perform 672 = .ok (.getfield 112, 3) := by decide +kernel
theorem dX6_perform_675 : decode cX6_perform 675 = .ok (.iload 4, 2) := by decide +kernel
theorem dX6_perform_677 : decode cX6_perform 677 = .ok (.isub, 1) := by decide +kernel
theorem dX6_perform_678 : decode cX6_perform 678 = .ok (.iaload, 1) := by decide +kernel
theorem dX6_perform_679 : decode cX6_perform 679 = .ok (.istore 5, 2) := by decide +kernel
theorem dX6_perform_681 : decode cX6_perform 681 = .ok (.aload_n 0, 1) := by decide +kernel
theorem dX6_perform_682 : decode cX6_perform 682 = .ok (.getfield 31, 3) := by decide +kernel
theorem dX6_perform_685 : decode cX6_perform 685 = .ok (.aload_n 0, 1) := by decide +kernel
theorem dX6_perform_686 : decode cX6_perform 686 = .ok (.getfield 112, 3) := by decide +kernel
theorem dX6_perform_689 : decode cX6_perform 689 = .ok (.iaload, 1) := by decide +kernel
theorem dX6_perform_690 : decode cX6_perform 690 = .ok (.istore 6, 2) := by decide +kernel
theorem dX6_perform_692 : decode cX6_perform 692 = .ok (.aload_n 0, 1) := by decide +kernel
theorem dX6_perform_693 : decode cX6_perform 693 = .ok (.aload_n 0, 1) := by decide +kernel
theorem dX6_perform_694 : decode cX6_perform 694 = .ok (.getfield 112, 3) := by decide +kernel
theorem dX6_perform_697 : decode cX6_perform 697 = .ok (.iload 4, 2) := by decide +kernel
theorem dX6_perform_699 : decode cX6_perform 699 = .ok (.isub, 1) := by decide +kernel
theorem dX6_perform_700 : decode cX6_perform 700 = .ok (.iconst 1, 1) := by decide +kernel
theorem dX6_perform_701 : decode cX6_perform 701 = .ok (.iadd, 1) := by decide +kernel
theorem dX6_perform_702 : decode cX6_perform 702 = .ok (.putfield 112, 3) := by decide +kernel
theorem dX6_perform_705 : decode cX6_perform 705 = .ok (.aload_n 0, 1) := by decide +kernel
theorem dX6_perform_706 : decode cX6_perform 706 = .ok (.getfield 31, 3) := by decide +kernel
theorem dX6_perform_709 : decode cX6_perform 709 = .ok (.aload_n 0, 1) := by decide +kernel
theorem dX6_perform_710 : decode cX6_perform 710 = .ok (.getfield 112, 3) := by decide +kernel
theorem dX6_perform_713 : decode cX6_perform 713 = .ok (.iload 6, 2) := by decide +kernel
theorem dX6_perform_715 : decode cX6_perform 715 = .ok (.iastore, 1) := by decide +kernel
theorem dX6_perform_716 : decode cX6_perform 716 = .ok (.goto 28, 3) := by decide +kernel
theorem dX6_perform_719 : decode cX6_perform 719 = .ok (.iload_n 1, 1) := by decide +kernel
theorem dX6_perform_720 : decode cX6_perform 720 = .ok (.bipush 28, 2) := by decide +kernel
theorem dX6_perform_722 : decode cX6_perform 722 = .ok (.if_icmp .lt 16, 3) := by decide +kernel
theorem dX6_perform_725 : decode cX6_perform 725 = .ok (.aload_n 0, 1) := by decide +kernel
theorem dX6_perform_726 : decode cX6_perform 726 = .ok (.iload_n 1, 1) := by decide +kernel
theorem dX6_perform_727 : decode cX6_perform 727 = .ok (.bipush 28, 2) := by decide +kernel
theorem dX6_perform_729 : decode cX6_perform 729 = .ok (.isub, 1) := by decide +kernel
theorem dX6_perform_730 : decode cX6_perform 730 = .ok (.iload_n 2, 1) := by decide +kernel
theorem dX6_perform_731 : decode cX6_perform 731 = .ok (.iload_n 3, 1) := by decide +kernel
theorem dX6_perform_732 : decode cX6_perform 732 = .ok (.invokevirtual 206, 3) := by decide +kernel
theorem dX6_perform_735 : decode cX6_perform 735 = .ok (.goto 9, 3) := by decide +kernel
theorem dX6_perform_738 : decode cX6_perform 738 = .ok (.aload_n 0, 1) := by decide +kernel
theorem dX6_perform_739 : decode cX6_perform 739 = .ok (.iload_n 1, 1) := by decide +kernel
theorem dX6_perform_740 : decode cX6_perform 740 = .ok (.iload_n 2, 1) := by decide +kernel
theorem dX6_perform_741 : decode cX6_perform 741 = .ok (.invokevirtual 209, 3) := by decide +kernel
theorem dX6_perform_744 : decode cX6_perform 744 = .ok (.return_, 1) := by decide +kernel
/-! AlgebraHouse$Machine.perform(III)V -/
def P_X6_perform_534 (Q : Int → MM → Prop) (x1 : Int) (x2 : Int) (m : MM) : Prop := (0 ≤ ((m 376 8) - 1) ∧ ((m 376 8) - 1) < 1701) ∧ (0 ≤ (m 381 ((m 376 8) - 1)) ∧ (m 381 ((m 376 8) - 1)) < 1159540) ∧ ((RI x1)) ∧ (RI (m 379 (m 381 ((m 376 8) - 1)))) ∧ (RI (if x1 = 12 then 1 else 0 : Int)) ∧ (if (m 379 (m 381 ((m 376 8) - 1))) = (if x1 = 12 then 1 else 0 : Int) then ∀ m2 : MM, m2 = up m 376 14 x2 → Q 0 m2 else ∀ m1 : MM, m1 = up m 376 8 ((m 376 8) - 1) → Q 0 m1)
def P_X6_perform_719 (Q : Int → MM → Prop) (x1 : Int) (x2 : Int) (x3 : Int) (m : MM) : Prop := (RI x1) ∧ (if x1 < 28 then P_X6_two x1 x2 m (fun r1 m1 => Q 0 m1) else P_X6_function (x1 - 28) x2 x3 m (fun r2 m2 => Q 0 m2))
def P_X6_perform (x1 : Int) (x2 : Int) (x3 : Int) (m : MM) (Q : Int → MM → Prop) : Prop := (RI x1) ∧ (if x1 = 0 then (RI ((m 376 15) + x2)) ∧ (if ((m 376 15) + x2) ≤ 20000 then ∀ m1 : MM, m1 = up m 376 15 ((m 376 15) + x2) → Q 0 m1 else ∀ m2 : MM, m2 = up m 378 2 6 → ∀ m3 : MM, m3 = up m2 376 15 20000 → Q 0 m3) else (if x1 = 1 then P_X6_push 2 m (fun r1 m4 => (0 ≤ r1 ∧ r1 < 1159540) ∧ ∀ m5 : MM, m5 = up m4 379 r1 x2 → (0 ≤ (r1 + 1) ∧ (r1 + 1) < 1159540) ∧ ∀ m6 : MM, m6 = up m5 379 (r1 + 1) 1 → Q 0 m6) else (if x1 = 2 then ((RI x2)) ∧ P_X6_push (2 * (if x2 = 1 then 7 else 49 : Int)) m (fun r2 m7 => P_X8_clear r2 (if x2 = 1 then 7 else 49 : Int) m7 (fun r3 m8 => (RI x2) ∧ (if x2 = 1 then (0 ≤ (r2 + (2 * 1)) ∧ (r2 + (2 * 1)) < 1159540) ∧ ∀ m10 : MM, m10 = up m8 379 (r2 + (2 * 1)) 1 → Q 0 m10 else (0 ≤ (r2 + (2 * 7)) ∧ (r2 + (2 * 7)) < 1159540) ∧ ∀ m9 : MM, m9 = up m8 379 (r2 + (2 * 7)) 1 → Q 0 m9))) else (if x1 = 3 then P_X11_cells x3 m (fun r4 m11 => P_X6_push r4 m11 (fun r5 m12 => (m12 376 17 = 374) ∧ P_X11_cells x3 m12 (fun r6 m13 => (0 ≤ r6) ∧ (inR 374 0 (882 * x2) r6) ∧ (inR 379 0 r5 r6) ∧ ∀ m14 : MM, m14 = cpm m13 374 (882 * x2) 379 r5 r6 → Q 0 m14))) else (if x1 = 4 then P_X11_cells x3 m (fun r7 m15 => P_X6_push r7 m15 (fun r8 m16 => (m16 376 18 = 375) ∧ P_X11_cells x3 m16 (fun r9 m17 => (0 ≤ r9) ∧ (inR 375 0 (882 * x2) r9) ∧ (inR 379 0 r8 r9) ∧ ∀ m18 : MM, m18 = cpm m17 375 (882 * x2) 379 r8 r9 → Q 0 m18))) else (if x1 = 5 then P_X11_cells x3 m (fun r10 m19 => P_X6_push r10 m19 (fun r11 m20 => (0 ≤ ((m20 376 13) - 1) ∧ ((m20 376 13) - 1) < 21) ∧ (0 ≤ ((m20 384 ((m20 376 13) - 1)) + x2) ∧ ((m20 384 ((m20 376 13) - 1)) + x2) < 1701) ∧ P_X11_cells x3 m20 (fun r12 m21 => (0 ≤ r12) ∧ (inR 379 0 (m20 381 ((m20 384 ((m20 376 13) - 1)) + x2)) r12) ∧ (inR 379 0 r11 r12) ∧ ∀ m22 : MM, m22 = cpm m21 379 (m20 381 ((m20 384 ((m20 376 13) - 1)) + x2)) 379 r11 r12 → Q 0 m22))) else (if x1 = 6 then (0 ≤ ((m 376 8) - 1) ∧ ((m 376 8) - 1) < 1701) ∧ P_X8_turn x2 x3 (m 381 ((m 376 8) - 1)) m (fun r13 m23 => (0 ≤ ((m23 376 8) - 1) ∧ ((m23 376 8) - 1) < 1701) ∧ P_X11_cells x3 m23 (fun r14 m24 => (0 ≤ (m23 376 8) ∧ (m23 376 8) < 1701) ∧ ∀ m25 : MM, m25 = up m24 381 (m23 376 8) ((m23 381 ((m23 376 8) - 1)) + r14) → Q 0 m25)) else (if x1 = 7 then (0 ≤ ((m 376 8) - 1) ∧ ((m 376 8) - 1) < 1701) ∧ P_X8_back x2 x3 (m 381 ((m 376 8) - 1)) m (fun r15 m26 => (0 ≤ ((m26 376 8) - 1) ∧ ((m26 376 8) - 1) < 1701) ∧ P_X11_cells x3 m26 (fun r16 m27 => (0 ≤ (m26 376 8) ∧ (m26 376 8) < 1701) ∧ ∀ m28 : MM, m28 = up m27 381 (m26 376 8) ((m26 381 ((m26 376 8) - 1)) + r16) → Q 0 m28)) else (if x1 = 8 then P_X6_call x2 x3 m (fun r17 m29 => Q 0 m29) else (if x1 = 9 then P_X6_ends x2 m (fun r18 m30 => Q 0 m30) else (if x1 = 10 then ∀ m31 : MM, m31 = up m 376 14 x2 → Q 0 m31 else (if x1 = 11 then ∀ m32 : MM, m32 = up m 376 8 ((m 376 8) - 1) → (0 ≤ (m32 376 8) ∧ (m32 376 8) < 1701) ∧ (0 ≤ (m32 381 (m32 376 8)) ∧ (m32 381 (m32 376 8)) < 1159540) ∧ (RI (m32 379 (m32 381 (m32 376 8)))) ∧ (if (m32 379 (m32 381 (m32 376 8))) = 0 then ∀ m33 : MM, m33 = up m32 376 14 x2 → Q 0 m33 else Q 0 m32) else (if x1 = 12 then P_X6_perform_534 Q x1 x2 m else (if x1 = 13 then P_X6_perform_534 Q x1 x2 m else (if x1 = 14 then (0 ≤ ((m 376 8) - 1) ∧ ((m 376 8) - 1) < 1701) ∧ (0 ≤ (m 381 ((m 376 8) - 1)) ∧ (m 381 ((m 376 8) - 1)) < 1159540) ∧ ∀ m34 : MM, m34 = up m 379 (m 381 ((m 376 8) - 1)) (1 - (m 379 (m 381 ((m 376 8) - 1)))) → Q 0 m34 else (if x1 = 25 then P_X11_base x2 m (fun r19 m35 => (0 ≤ ((m35 376 8) - 1) ∧ ((m35 376 8) - 1) < 1701) ∧ P_X6_number x2 m35 (fun r20 m36 => P_X8_less r19 (m35 381 ((m35 376 8) - 1)) r20 m36 (fun r21 m37 => Q 0 m37))) else (if x1 = 26 then P_X6_power x2 x3 m (fun r22 m38 => Q 0 m38) else (if x1 = 27 then P_X11_entries x2 m (fun r23 m39 => (0 ≤ ((m39 376 8) - r23) ∧ ((m39 376 8) - r23) < 1701) ∧ (0 ≤ (m39 376 8) ∧ (m39 376 8) < 1701) ∧ ∀ m40 : MM, m40 = up m39 376 8 (((m39 376 8) - r23) + 1) → (0 ≤ (m40 376 8) ∧ (m40 376 8) < 1701) ∧ ∀ m41 : MM, m41 = up m40 381 (m40 376 8) (m39 381 (m39 376 8)) → Q 0 m41) else P_X6_perform_719 Q x1 x2 x3 m))))))))))))))))))
theorem pl_X6_perform_534 {f : Nat} {Q : Int → MM → Prop} {T : MM → Prop} (hf : 687 ≤ f) : ∀ (x1 : Int) (x2 : Int) (m : MM), P_X6_perform_534 Q x1 x2 m → B f M_X6_perform 534 [vR 376, vI x1, vI x2, vU, vU, vU, vU] [] m Q T := by
  intro x1 x2 m h
  have h : (0 ≤ ((m 376 8) - 1) ∧ ((m 376 8) - 1) < 1701) ∧ (0 ≤ (m 381 ((m 376 8) - 1)) ∧ (m 381 ((m 376 8) - 1)) < 1159540) ∧ ((RI x1)) ∧ (RI (m 379 (m 381 ((m 376 8) - 1)))) ∧ (RI (if x1 = 12 then 1 else 0 : Int)) ∧ (if (m 379 (m 381 ((m 376 8) - 1))) = (if x1 = 12 then 1 else 0 : Int) then ∀ m2 : MM, m2 = up m 376 14 x2 → Q 0 m2 else ∀ m1 : MM, m1 = up m 376 8 ((m 376 8) - 1) → Q 0 m1) := h
  refine b_aload_n dX6_perform_534 rfl ?_
  refine b_getR dX6_perform_535 fk_X6_73 ly_376 gg_376_4 ?_
  refine b_aload_n dX6_perform_538 rfl ?_
  refine b_getR dX6_perform_539 fk_X6_31 ly_376 gg_376_7 ?_
  refine b_aload_n dX6_perform_542 rfl ?_
  refine b_getI dX6_perform_543 fk_X6_112 ly_376 ?_
  refine b_iconst dX6_perform_546 ?_
  refine b_isub dX6_perform_547 ?_
  obtain ⟨g1, h⟩ := h
  refine b_iald dX6_perform_548 ly_381 g1 ?_
  obtain ⟨g2, h⟩ := h
  refine b_iald dX6_perform_549 ly_379 g2 ?_
  refine b_iload_n dX6_perform_550 rfl ?_
  refine b_bipush dX6_perform_551 (by decide) ?_
  obtain ⟨hs, h⟩ := h
  have K : B f M_X6_perform 561 [vR 376, vI x1, vI x2, vU, vU, vU, vU] [vI (if x1 = 12 then 1 else 0 : Int), vI (m 379 (m 381 ((m 376 8) - 1)))] m Q T := by
    clear hs
    obtain ⟨g4, h⟩ := h
    obtain ⟨g5, h⟩ := h
    refine b_icmp_ne 572 dX6_perform_561 g4 g5 (by decide) (fun c1 => ?_) (fun c1 => ?_)
    · have h := ifF c1 h
      refine b_aload_n dX6_perform_572 rfl ?_
      refine b_dup dX6_perform_573 rfl ?_
      refine b_getI dX6_perform_574 fk_X6_112 ly_376 ?_
      refine b_iconst dX6_perform_577 ?_
      refine b_isub dX6_perform_578 ?_
      refine b_putI dX6_perform_579 fk_X6_112 ly_376 (fun m1 em1 => ?_)
      have h := h m1 em1
      refine b_goto 744 dX6_perform_582 (by decide) ?_
      exact b_vret dX6_perform_744 rfl h
    · have h := ifT (Decidable.of_not_not c1) h
      refine b_aload_n dX6_perform_564 rfl ?_
      refine b_iload_n dX6_perform_565 rfl ?_
      refine b_putI dX6_perform_566 fk_X6_103 ly_376 (fun m2 em2 => ?_)
      have h := h m2 em2
      refine b_goto 744 dX6_perform_569 (by decide) ?_
      exact b_vret dX6_perform_744 rfl h
  have g3 := hs
  refine b_icmp_ne 560 dX6_perform_553 g3 (by decide) (by decide) (fun c2 => ?_) (fun c2 => ?_)
  ·
    refine b_iconst dX6_perform_560 ?_
    rw [if_neg c2] at K
    exact K
  ·
    have c2 := Decidable.of_not_not c2
    refine b_iconst dX6_perform_556 ?_
    refine b_goto 561 dX6_perform_557 (by decide) ?_
    rw [if_pos c2] at K
    exact K
theorem pl_X6_perform_719 {f : Nat} {Q : Int → MM → Prop} {T : MM → Prop} (hf : 687 ≤ f) : ∀ (x1 : Int) (x2 : Int) (x3 : Int) (m : MM), P_X6_perform_719 Q x1 x2 x3 m → B f M_X6_perform 719 [vR 376, vI x1, vI x2, vI x3, vU, vU, vU] [] m Q T := by
  intro x1 x2 x3 m h
  have h : (RI x1) ∧ (if x1 < 28 then P_X6_two x1 x2 m (fun r1 m1 => Q 0 m1) else P_X6_function (x1 - 28) x2 x3 m (fun r2 m2 => Q 0 m2)) := h
  refine b_iload_n dX6_perform_719 rfl ?_
  refine b_bipush dX6_perform_720 (by decide) ?_
  obtain ⟨g1, h⟩ := h
  refine b_icmp_lt 738 dX6_perform_722 g1 (by decide) (by decide) (fun c1 => ?_) (fun c1 => ?_)
  · have h := ifT c1 h
    refine b_aload_n dX6_perform_738 rfl ?_
    refine b_iload_n dX6_perform_739 rfl ?_
    refine b_iload_n dX6_perform_740 rfl ?_
    refine b_cVv (as := [vI x1, vI x2]) (st := []) dX6_perform_741 mf_X6_two qs87 lk_X6_209 ly_376 rfl (p_X6_two (f := 8) (Nat.le_refl _) _ _ _ h) (by omega) rfl rfl (Nat.le_of_ble_eq_true rfl) (by decide) rfl (fun _ => rfl) (fun r1 m1 h => ?_) (fun _ h => h)
    exact b_vret dX6_perform_744 rfl h
  · have h := ifF c1 h
    refine b_aload_n dX6_perform_725 rfl ?_
    refine b_iload_n dX6_perform_726 rfl ?_
    refine b_bipush dX6_perform_727 (by decide) ?_
    refine b_isub dX6_perform_729 ?_
    refine b_iload_n dX6_perform_730 rfl ?_
    refine b_iload_n dX6_perform_731 rfl ?_
    refine b_cVv (as := [vI (x1 - 28), vI x2, vI x3]) (st := []) dX6_perform_732 mf_X6_function qs74 lk_X6_206 ly_376 rfl (p_X6_function (f := 15) (Nat.le_refl _) _ _ _ _ h) (by omega) rfl rfl (Nat.le_of_ble_eq_true rfl) (by decide) rfl (fun _ => rfl) (fun r2 m2 h => ?_) (fun _ h => h)
    refine b_goto 744 dX6_perform_735 (by decide) ?_
    exact b_vret dX6_perform_744 rfl h
theorem p_X6_perform {f : Nat} {Q : Int → MM → Prop} {T : MM → Prop} (hf : 687 ≤ f) (x1 : Int) (x2 : Int) (x3 : Int) (m : MM) (h : P_X6_perform x1 x2 x3 m Q) : CC f M_X6_perform [vR 376, vI x1, vI x2, vI x3] m Q T := by
  refine CC.of (plainFor_of_name (by decide)) (Nat.le_of_ble_eq_true rfl) (ls := [vR 376, vI x1, vI x2, vI x3, vU, vU, vU]) rfl ?_
  have h : (RI x1) ∧ (if x1 = 0 then (RI ((m 376 15) + x2)) ∧ (if ((m 376 15) + x2) ≤ 20000 then ∀ m1 : MM, m1 = up m 376 15 ((m 376 15) + x2) → Q 0 m1 else ∀ m2 : MM, m2 = up m 378 2 6 → ∀ m3 : MM, m3 = up m2 376 15 20000 → Q 0 m3) else (if x1 = 1 then P_X6_push 2 m (fun r1 m4 => (0 ≤ r1 ∧ r1 < 1159540) ∧ ∀ m5 : MM, m5 = up m4 379 r1 x2 → (0 ≤ (r1 + 1) ∧ (r1 + 1) < 1159540) ∧ ∀ m6 : MM, m6 = up m5 379 (r1 + 1) 1 → Q 0 m6) else (if x1 = 2 then ((RI x2)) ∧ P_X6_push (2 * (if x2 = 1 then 7 else 49 : Int)) m (fun r2 m7 => P_X8_clear r2 (if x2 = 1 then 7 else 49 : Int) m7 (fun r3 m8 => (RI x2) ∧ (if x2 = 1 then (0 ≤ (r2 + (2 * 1)) ∧ (r2 + (2 * 1)) < 1159540) ∧ ∀ m10 : MM, m10 = up m8 379 (r2 + (2 * 1)) 1 → Q 0 m10 else (0 ≤ (r2 + (2 * 7)) ∧ (r2 + (2 * 7)) < 1159540) ∧ ∀ m9 : MM, m9 = up m8 379 (r2 + (2 * 7)) 1 → Q 0 m9))) else (if x1 = 3 then P_X11_cells x3 m (fun r4 m11 => P_X6_push r4 m11 (fun r5 m12 => (m12 376 17 = 374) ∧ P_X11_cells x3 m12 (fun r6 m13 => (0 ≤ r6) ∧ (inR 374 0 (882 * x2) r6) ∧ (inR 379 0 r5 r6) ∧ ∀ m14 : MM, m14 = cpm m13 374 (882 * x2) 379 r5 r6 → Q 0 m14))) else (if x1 = 4 then P_X11_cells x3 m (fun r7 m15 => P_X6_push r7 m15 (fun r8 m16 => (m16 376 18 = 375) ∧ P_X11_cells x3 m16 (fun r9 m17 => (0 ≤ r9) ∧ (inR 375 0 (882 * x2) r9) ∧ (inR 379 0 r8 r9) ∧ ∀ m18 : MM, m18 = cpm m17 375 (882 * x2) 379 r8 r9 → Q 0 m18))) else (if x1 = 5 then P_X11_cells x3 m (fun r10 m19 => P_X6_push r10 m19 (fun r11 m20 => (0 ≤ ((m20 376 13) - 1) ∧ ((m20 376 13) - 1) < 21) ∧ (0 ≤ ((m20 384 ((m20 376 13) - 1)) + x2) ∧ ((m20 384 ((m20 376 13) - 1)) + x2) < 1701) ∧ P_X11_cells x3 m20 (fun r12 m21 => (0 ≤ r12) ∧ (inR 379 0 (m20 381 ((m20 384 ((m20 376 13) - 1)) + x2)) r12) ∧ (inR 379 0 r11 r12) ∧ ∀ m22 : MM, m22 = cpm m21 379 (m20 381 ((m20 384 ((m20 376 13) - 1)) + x2)) 379 r11 r12 → Q 0 m22))) else (if x1 = 6 then (0 ≤ ((m 376 8) - 1) ∧ ((m 376 8) - 1) < 1701) ∧ P_X8_turn x2 x3 (m 381 ((m 376 8) - 1)) m (fun r13 m23 => (0 ≤ ((m23 376 8) - 1) ∧ ((m23 376 8) - 1) < 1701) ∧ P_X11_cells x3 m23 (fun r14 m24 => (0 ≤ (m23 376 8) ∧ (m23 376 8) < 1701) ∧ ∀ m25 : MM, m25 = up m24 381 (m23 376 8) ((m23 381 ((m23 376 8) - 1)) + r14) → Q 0 m25)) else (if x1 = 7 then (0 ≤ ((m 376 8) - 1) ∧ ((m 376 8) - 1) < 1701) ∧ P_X8_back x2 x3 (m 381 ((m 376 8) - 1)) m (fun r15 m26 => (0 ≤ ((m26 376 8) - 1) ∧ ((m26 376 8) - 1) < 1701) ∧ P_X11_cells x3 m26 (fun r16 m27 => (0 ≤ (m26 376 8) ∧ (m26 376 8) < 1701) ∧ ∀ m28 : MM, m28 = up m27 381 (m26 376 8) ((m26 381 ((m26 376 8) - 1)) + r16) → Q 0 m28)) else (if x1 = 8 then P_X6_call x2 x3 m (fun r17 m29 => Q 0 m29) else (if x1 = 9 then P_X6_ends x2 m (fun r18 m30 => Q 0 m30) else (if x1 = 10 then ∀ m31 : MM, m31 = up m 376 14 x2 → Q 0 m31 else (if x1 = 11 then ∀ m32 : MM, m32 = up m 376 8 ((m 376 8) - 1) → (0 ≤ (m32 376 8) ∧ (m32 376 8) < 1701) ∧ (0 ≤ (m32 381 (m32 376 8)) ∧ (m32 381 (m32 376 8)) < 1159540) ∧ (RI (m32 379 (m32 381 (m32 376 8)))) ∧ (if (m32 379 (m32 381 (m32 376 8))) = 0 then ∀ m33 : MM, m33 = up m32 376 14 x2 → Q 0 m33 else Q 0 m32) else (if x1 = 12 then P_X6_perform_534 Q x1 x2 m else (if x1 = 13 then P_X6_perform_534 Q x1 x2 m else (if x1 = 14 then (0 ≤ ((m 376 8) - 1) ∧ ((m 376 8) - 1) < 1701) ∧ (0 ≤ (m 381 ((m 376 8) - 1)) ∧ (m 381 ((m 376 8) - 1)) < 1159540) ∧ ∀ m34 : MM, m34 = up m 379 (m 381 ((m 376 8) - 1)) (1 - (m 379 (m 381 ((m 376 8) - 1)))) → Q 0 m34 else (if x1 = 25 then P_X11_base x2 m (fun r19 m35 => (0 ≤ ((m35 376 8) - 1) ∧ ((m35 376 8) - 1) < 1701) ∧ P_X6_number x2 m35 (fun r20 m36 => P_X8_less r19 (m35 381 ((m35 376 8) - 1)) r20 m36 (fun r21 m37 => Q 0 m37))) else (if x1 = 26 then P_X6_power x2 x3 m (fun r22 m38 => Q 0 m38) else (if x1 = 27 then P_X11_entries x2 m (fun r23 m39 => (0 ≤ ((m39 376 8) - r23) ∧ ((m39 376 8) - r23) < 1701) ∧ (0 ≤ (m39 376 8) ∧ (m39 376 8) < 1701) ∧ ∀ m40 : MM, m40 = up m39 376 8 (((m39 376 8) - r23) + 1) → (0 ≤ (m40 376 8) ∧ (m40 376 8) < 1701) ∧ ∀ m41 : MM, m41 = up m40 381 (m40 376 8) (m39 381 (m39 376 8)) → Q 0 m41) else P_X6_perform_719 Q x1 x2 x3 m)))))))))))))))))) := h
  refine b_iload_n dX6_perform_0 rfl ?_
  obtain ⟨g1, h⟩ := h
  by_cases c1 : x1 = 0
  · have h := ifT c1 h
    refine b_tswIn 128 dX6_perform_1 g1 (by omega) (by omega) (by rw [c1]; rfl) (by decide) ?_
    refine b_aload_n dX6_perform_128 rfl ?_
    refine b_getI dX6_perform_129 fk_X6_115 ly_376 ?_
    refine b_iload_n dX6_perform_132 rfl ?_
    refine b_iadd dX6_perform_133 ?_
    refine b_sipush dX6_perform_134 (by decide) ?_
    obtain ⟨g2, h⟩ := h
    refine b_icmp_le 159 dX6_perform_137 g2 (by decide) (by decide) (fun c2 => ?_) (fun c2 => ?_)
    · have h := ifT c2 h
      refine b_aload_n dX6_perform_159 rfl ?_
      refine b_dup dX6_perform_160 rfl ?_
      refine b_getI dX6_perform_161 fk_X6_115 ly_376 ?_
      refine b_iload_n dX6_perform_164 rfl ?_
      refine b_iadd dX6_perform_165 ?_
      refine b_putI dX6_perform_166 fk_X6_115 ly_376 (fun m1 em1 => ?_)
      have h := h m1 em1
      refine b_goto 744 dX6_perform_169 (by decide) ?_
      exact b_vret dX6_perform_744 rfl h
    · have h := ifF c2 h
      refine b_aload_n dX6_perform_140 rfl ?_
      refine b_getR dX6_perform_141 fk_X6_21 ly_376 gg_376_3 ?_
      refine b_bipush dX6_perform_144 (by decide) ?_
      refine b_putI dX6_perform_146 fk_X6_109 ly_378 (fun m2 em2 => ?_)
      have h := h m2 em2
      refine b_aload_n dX6_perform_149 rfl ?_
      refine b_sipush dX6_perform_150 (by decide) ?_
      refine b_putI dX6_perform_153 fk_X6_115 ly_376 (fun m3 em3 => ?_)
      have h := h m3 em3
      refine b_goto 744 dX6_perform_156 (by decide) ?_
      exact b_vret dX6_perform_744 rfl h
  have h := ifF c1 h
  by_cases c3 : x1 = 1
  · have h := ifT c3 h
    refine b_tswIn 172 dX6_perform_1 g1 (by omega) (by omega) (by rw [c3]; rfl) (by decide) ?_
    refine b_aload_n dX6_perform_172 rfl ?_
    refine b_iconst dX6_perform_173 ?_
    refine b_cVi (as := [vI 2]) (st := []) dX6_perform_174 mf_X6_push qs65 lk_X6_172 ly_376 rfl (p_X6_push (f := 1) (Nat.le_refl _) _ _ h) (by omega) rfl rfl (Nat.le_of_ble_eq_true rfl) (by decide) rfl (fun _ => rfl) (fun r1 m4 h => ?_) (fun _ h => h)
    refine b_istore (ls' := [vR 376, vI x1, vI x2, vI x3, vI r1, vU, vU]) dX6_perform_177 (Nat.le_of_ble_eq_true rfl) rfl ?_
    refine b_aload_n dX6_perform_179 rfl ?_
    refine b_getR dX6_perform_180 fk_X6_73 ly_376 gg_376_4 ?_
    refine b_iload dX6_perform_183 rfl ?_
    refine b_iload_n dX6_perform_185 rfl ?_
    obtain ⟨g3, h⟩ := h
    refine b_iast dX6_perform_186 ly_379 g3 (fun m5 em5 => ?_)
    have h := h m5 em5
    refine b_aload_n dX6_perform_187 rfl ?_
    refine b_getR dX6_perform_188 fk_X6_73 ly_376 gg_376_4 ?_
    refine b_iload dX6_perform_191 rfl ?_
    refine b_iconst dX6_perform_193 ?_
    refine b_iadd dX6_perform_194 ?_
    refine b_iconst dX6_perform_195 ?_
    obtain ⟨g4, h⟩ := h
    refine b_iast dX6_perform_196 ly_379 g4 (fun m6 em6 => ?_)
    have h := h m6 em6
    refine b_goto 744 dX6_perform_197 (by decide) ?_
    exact b_vret dX6_perform_744 rfl h
  have h := ifF c3 h
  by_cases c4 : x1 = 2
  · have h := ifT c4 h
    refine b_tswIn 200 dX6_perform_1 g1 (by omega) (by omega) (by rw [c4]; rfl) (by decide) ?_
    refine b_iload_n dX6_perform_200 rfl ?_
    refine b_iconst dX6_perform_201 ?_
    obtain ⟨hs, h⟩ := h
    have K : B f M_X6_perform 212 [vR 376, vI x1, vI x2, vI x3, vU, vU, vU] [vI (if x2 = 1 then 7 else 49 : Int)] m Q T := by
      clear hs
      refine b_istore (ls' := [vR 376, vI x1, vI x2, vI x3, vI (if x2 = 1 then 7 else 49 : Int), vU, vU]) dX6_perform_212 (Nat.le_of_ble_eq_true rfl) rfl ?_
      refine b_aload_n dX6_perform_214 rfl ?_
      refine b_iconst dX6_perform_215 ?_
      refine b_iload dX6_perform_216 rfl ?_
      refine b_imul dX6_perform_218 ?_
      refine b_cVi (as := [vI (2 * (if x2 = 1 then 7 else 49 : Int))]) (st := []) dX6_perform_219 mf_X6_push qs65 lk_X6_172 ly_376 rfl (p_X6_push (f := 1) (Nat.le_refl _) _ _ h) (by omega) rfl rfl (Nat.le_of_ble_eq_true rfl) (by decide) rfl (fun _ => rfl) (fun r2 m7 h => ?_) (fun _ h => h)
      refine b_istore (ls' := [vR 376, vI x1, vI x2, vI x3, vI (if x2 = 1 then 7 else 49 : Int), vI r2, vU]) dX6_perform_222 (Nat.le_of_ble_eq_true rfl) rfl ?_
      refine b_aload_n dX6_perform_224 rfl ?_
      refine b_getR dX6_perform_225 fk_X6_21 ly_376 gg_376_3 ?_
      refine b_iload dX6_perform_228 rfl ?_
      refine b_iload dX6_perform_230 rfl ?_
      refine b_cVv (as := [vI r2, vI (if x2 = 1 then 7 else 49 : Int)]) (st := []) dX6_perform_232 mf_X8_clear q1305 lk_X6_175 ly_378 rfl (p_X8_clear (f := 1) (Nat.le_refl _) _ _ _ h) (by omega) rfl rfl (Nat.le_of_ble_eq_true rfl) (by decide) rfl (fun _ => rfl) (fun r3 m8 h => ?_) (fun _ h => h)
      refine b_aload_n dX6_perform_235 rfl ?_
      refine b_getR dX6_perform_236 fk_X6_73 ly_376 gg_376_4 ?_
      refine b_iload dX6_perform_239 rfl ?_
      refine b_iconst dX6_perform_241 ?_
      refine b_iload_n dX6_perform_242 rfl ?_
      refine b_iconst dX6_perform_243 ?_
      obtain ⟨g6, h⟩ := h
      refine b_icmp_ne 251 dX6_perform_244 g6 (by decide) (by decide) (fun c5 => ?_) (fun c5 => ?_)
      · have h := ifF c5 h
        refine b_bipush dX6_perform_251 (by decide) ?_
        refine b_imul dX6_perform_253 ?_
        refine b_iadd dX6_perform_254 ?_
        refine b_iconst dX6_perform_255 ?_
        obtain ⟨g7, h⟩ := h
        refine b_iast dX6_perform_256 ly_379 g7 (fun m9 em9 => ?_)
        have h := h m9 em9
        refine b_goto 744 dX6_perform_257 (by decide) ?_
        exact b_vret dX6_perform_744 rfl h
      · have h := ifT (Decidable.of_not_not c5) h
        refine b_iconst dX6_perform_247 ?_
        refine b_goto 253 dX6_perform_248 (by decide) ?_
        refine b_imul dX6_perform_253 ?_
        refine b_iadd dX6_perform_254 ?_
        refine b_iconst dX6_perform_255 ?_
        obtain ⟨g8, h⟩ := h
        refine b_iast dX6_perform_256 ly_379 g8 (fun m10 em10 => ?_)
        have h := h m10 em10
        refine b_goto 744 dX6_perform_257 (by decide) ?_
        exact b_vret dX6_perform_744 rfl h
    have g5 := hs
    refine b_icmp_ne 210 dX6_perform_202 g5 (by decide) (by decide) (fun c6 => ?_) (fun c6 => ?_)
    ·
      refine b_bipush dX6_perform_210 (by decide) ?_
      rw [if_neg c6] at K
      exact K
    ·
      have c6 := Decidable.of_not_not c6
      refine b_bipush dX6_perform_205 (by decide) ?_
      refine b_goto 212 dX6_perform_207 (by decide) ?_
      rw [if_pos c6] at K
      exact K
  have h := ifF c4 h
  by_cases c7 : x1 = 3
  · have h := ifT c7 h
    refine b_tswIn 260 dX6_perform_1 g1 (by omega) (by omega) (by rw [c7]; rfl) (by decide) ?_
    refine b_aload_n dX6_perform_260 rfl ?_
    refine b_iload_n dX6_perform_261 rfl ?_
    refine b_cSi (as := [vI x3]) (st := [vR 376]) dX6_perform_262 mf_X11_cells lk_X6_164 (p_X11_cells (f := 3) (Nat.le_refl _) _ _ h) (by omega) rfl rfl (Nat.le_of_ble_eq_true rfl) (by decide) rfl (fun _ => rfl) (fun r4 m11 h => ?_) (fun _ h => h)
    refine b_cVi (as := [vI r4]) (st := []) dX6_perform_265 mf_X6_push qs65 lk_X6_172 ly_376 rfl (p_X6_push (f := 1) (Nat.le_refl _) _ _ h) (by omega) rfl rfl (Nat.le_of_ble_eq_true rfl) (by decide) rfl (fun _ => rfl) (fun r5 m12 h => ?_) (fun _ h => h)
    refine b_istore (ls' := [vR 376, vI x1, vI x2, vI x3, vI r5, vU, vU]) dX6_perform_268 (Nat.le_of_ble_eq_true rfl) rfl ?_
    refine b_aload_n dX6_perform_270 rfl ?_
    obtain ⟨g9, h⟩ := h
    refine b_getMe dX6_perform_271 fk_X6_64 ly_376 g9 ?_
    refine b_sipush dX6_perform_274 (by decide) ?_
    refine b_iload_n dX6_perform_277 rfl ?_
    refine b_imul dX6_perform_278 ?_
    refine b_aload_n dX6_perform_279 rfl ?_
    refine b_getR dX6_perform_280 fk_X6_73 ly_376 gg_376_4 ?_
    refine b_iload dX6_perform_283 rfl ?_
    refine b_iload_n dX6_perform_285 rfl ?_
    refine b_cSi (as := [vI x3]) (st := [vI r5, vR 379, vI (882 * x2), vR 374]) dX6_perform_286 mf_X11_cells lk_X6_164 (p_X11_cells (f := 3) (Nat.le_refl _) _ _ h) (by omega) rfl rfl (Nat.le_of_ble_eq_true rfl) (by decide) rfl (fun _ => rfl) (fun r6 m13 h => ?_) (fun _ h => h)
    obtain ⟨g10, h⟩ := h
    obtain ⟨g11, h⟩ := h
    obtain ⟨g12, h⟩ := h
    refine b_copyi dX6_perform_289 lk_X6_178 g10 g11 g12 (by omega) (Nat.le_of_ble_eq_true rfl) rfl (fun m14 em14 => ?_)
    have h := h m14 em14
    refine b_goto 744 dX6_perform_292 (by decide) ?_
    exact b_vret dX6_perform_744 rfl h
  have h := ifF c7 h
  by_cases c8 : x1 = 4
  · have h := ifT c8 h
    refine b_tswIn 295 dX6_perform_1 g1 (by omega) (by omega) (by rw [c8]; rfl) (by decide) ?_
    refine b_aload_n dX6_perform_295 rfl ?_
    refine b_iload_n dX6_perform_296 rfl ?_
    refine b_cSi (as := [vI x3]) (st := [vR 376]) dX6_perform_297 mf_X11_cells lk_X6_164 (p_X11_cells (f := 3) (Nat.le_refl _) _ _ h) (by omega) rfl rfl (Nat.le_of_ble_eq_true rfl) (by decide) rfl (fun _ => rfl) (fun r7 m15 h => ?_) (fun _ h => h)
    refine b_cVi (as := [vI r7]) (st := []) dX6_perform_300 mf_X6_push qs65 lk_X6_172 ly_376 rfl (p_X6_push (f := 1) (Nat.le_refl _) _ _ h) (by omega) rfl rfl (Nat.le_of_ble_eq_true rfl) (by decide) rfl (fun _ => rfl) (fun r8 m16 h => ?_) (fun _ h => h)
    refine b_istore (ls' := [vR 376, vI x1, vI x2, vI x3, vI r8, vU, vU]) dX6_perform_303 (Nat.le_of_ble_eq_true rfl) rfl ?_
    refine b_aload_n dX6_perform_305 rfl ?_
    obtain ⟨g13, h⟩ := h
    refine b_getMe dX6_perform_306 fk_X6_67 ly_376 g13 ?_
    refine b_sipush dX6_perform_309 (by decide) ?_
    refine b_iload_n dX6_perform_312 rfl ?_
    refine b_imul dX6_perform_313 ?_
    refine b_aload_n dX6_perform_314 rfl ?_
    refine b_getR dX6_perform_315 fk_X6_73 ly_376 gg_376_4 ?_
    refine b_iload dX6_perform_318 rfl ?_
    refine b_iload_n dX6_perform_320 rfl ?_
    refine b_cSi (as := [vI x3]) (st := [vI r8, vR 379, vI (882 * x2), vR 375]) dX6_perform_321 mf_X11_cells lk_X6_164 (p_X11_cells (f := 3) (Nat.le_refl _) _ _ h) (by omega) rfl rfl (Nat.le_of_ble_eq_true rfl) (by decide) rfl (fun _ => rfl) (fun r9 m17 h => ?_) (fun _ h => h)
    obtain ⟨g14, h⟩ := h
    obtain ⟨g15, h⟩ := h
    obtain ⟨g16, h⟩ := h
    refine b_copyi dX6_perform_324 lk_X6_178 g14 g15 g16 (by omega) (Nat.le_of_ble_eq_true rfl) rfl (fun m18 em18 => ?_)
    have h := h m18 em18
    refine b_goto 744 dX6_perform_327 (by decide) ?_
    exact b_vret dX6_perform_744 rfl h
  have h := ifF c8 h
  by_cases c9 : x1 = 5
  · have h := ifT c9 h
    refine b_tswIn 330 dX6_perform_1 g1 (by omega) (by omega) (by rw [c9]; rfl) (by decide) ?_
    refine b_aload_n dX6_perform_330 rfl ?_
    refine b_iload_n dX6_perform_331 rfl ?_
    refine b_cSi (as := [vI x3]) (st := [vR 376]) dX6_perform_332 mf_X11_cells lk_X6_164 (p_X11_cells (f := 3) (Nat.le_refl _) _ _ h) (by omega) rfl rfl (Nat.le_of_ble_eq_true rfl) (by decide) rfl (fun _ => rfl) (fun r10 m19 h => ?_) (fun _ h => h)
    refine b_cVi (as := [vI r10]) (st := []) dX6_perform_335 mf_X6_push qs65 lk_X6_172 ly_376 rfl (p_X6_push (f := 1) (Nat.le_refl _) _ _ h) (by omega) rfl rfl (Nat.le_of_ble_eq_true rfl) (by decide) rfl (fun _ => rfl) (fun r11 m20 h => ?_) (fun _ h => h)
    refine b_istore (ls' := [vR 376, vI x1, vI x2, vI x3, vI r11, vU, vU]) dX6_perform_338 (Nat.le_of_ble_eq_true rfl) rfl ?_
    refine b_aload_n dX6_perform_340 rfl ?_
    refine b_getR dX6_perform_341 fk_X6_73 ly_376 gg_376_4 ?_
    refine b_aload_n dX6_perform_344 rfl ?_
    refine b_getR dX6_perform_345 fk_X6_31 ly_376 gg_376_7 ?_
    refine b_aload_n dX6_perform_348 rfl ?_
    refine b_getR dX6_perform_349 fk_X6_41 ly_376 gg_376_11 ?_
    refine b_aload_n dX6_perform_352 rfl ?_
    refine b_getI dX6_perform_353 fk_X6_100 ly_376 ?_
    refine b_iconst dX6_perform_356 ?_
    refine b_isub dX6_perform_357 ?_
    obtain ⟨g17, h⟩ := h
    refine b_iald dX6_perform_358 ly_384 g17 ?_
    refine b_iload_n dX6_perform_359 rfl ?_
    refine b_iadd dX6_perform_360 ?_
    obtain ⟨g18, h⟩ := h
    refine b_iald dX6_perform_361 ly_381 g18 ?_
    refine b_aload_n dX6_perform_362 rfl ?_
    refine b_getR dX6_perform_363 fk_X6_73 ly_376 gg_376_4 ?_
    refine b_iload dX6_perform_366 rfl ?_
    refine b_iload_n dX6_perform_368 rfl ?_
    refine b_cSi (as := [vI x3]) (st := [vI r11, vR 379, vI (m20 381 ((m20 384 ((m20 376 13) - 1)) + x2)), vR 379]) dX6_perform_369 mf_X11_cells lk_X6_164 (p_X11_cells (f := 3) (Nat.le_refl _) _ _ h) (by omega) rfl rfl (Nat.le_of_ble_eq_true rfl) (by decide) rfl (fun _ => rfl) (fun r12 m21 h => ?_) (fun _ h => h)
    obtain ⟨g19, h⟩ := h
    obtain ⟨g20, h⟩ := h
    obtain ⟨g21, h⟩ := h
    refine b_copyi dX6_perform_372 lk_X6_178 g19 g20 g21 (by omega) (Nat.le_of_ble_eq_true rfl) rfl (fun m22 em22 => ?_)
    have h := h m22 em22
    refine b_goto 744 dX6_perform_375 (by decide) ?_
    exact b_vret dX6_perform_744 rfl h
  have h := ifF c9 h
  by_cases c10 : x1 = 6
  · have h := ifT c10 h
    refine b_tswIn 378 dX6_perform_1 g1 (by omega) (by omega) (by rw [c10]; rfl) (by decide) ?_
    refine b_aload_n dX6_perform_378 rfl ?_
    refine b_getR dX6_perform_379 fk_X6_21 ly_376 gg_376_3 ?_
    refine b_iload_n dX6_perform_382 rfl ?_
    refine b_iload_n dX6_perform_383 rfl ?_
    refine b_aload_n dX6_perform_384 rfl ?_
    refine b_getR dX6_perform_385 fk_X6_31 ly_376 gg_376_7 ?_
    refine b_aload_n dX6_perform_388 rfl ?_
    refine b_getI dX6_perform_389 fk_X6_112 ly_376 ?_
    refine b_iconst dX6_perform_392 ?_
    refine b_isub dX6_perform_393 ?_
    obtain ⟨g22, h⟩ := h
    refine b_iald dX6_perform_394 ly_381 g22 ?_
    refine b_cVv (as := [vI x2, vI x3, vI (m 381 ((m 376 8) - 1))]) (st := []) dX6_perform_395 mf_X8_turn q1313 lk_X6_184 ly_378 rfl (p_X8_turn (f := 3) (Nat.le_refl _) _ _ _ _ h) (by omega) rfl rfl (Nat.le_of_ble_eq_true rfl) (by decide) rfl (fun _ => rfl) (fun r13 m23 h => ?_) (fun _ h => h)
    refine b_aload_n dX6_perform_398 rfl ?_
    refine b_getR dX6_perform_399 fk_X6_31 ly_376 gg_376_7 ?_
    refine b_aload_n dX6_perform_402 rfl ?_
    refine b_getI dX6_perform_403 fk_X6_112 ly_376 ?_
    refine b_aload_n dX6_perform_406 rfl ?_
    refine b_getR dX6_perform_407 fk_X6_31 ly_376 gg_376_7 ?_
    refine b_aload_n dX6_perform_410 rfl ?_
    refine b_getI dX6_perform_411 fk_X6_112 ly_376 ?_
    refine b_iconst dX6_perform_414 ?_
    refine b_isub dX6_perform_415 ?_
    obtain ⟨g23, h⟩ := h
    refine b_iald dX6_perform_416 ly_381 g23 ?_
    refine b_iload_n dX6_perform_417 rfl ?_
    refine b_cSi (as := [vI x3]) (st := [vI (m23 381 ((m23 376 8) - 1)), vI (m23 376 8), vR 381]) dX6_perform_418 mf_X11_cells lk_X6_164 (p_X11_cells (f := 3) (Nat.le_refl _) _ _ h) (by omega) rfl rfl (Nat.le_of_ble_eq_true rfl) (by decide) rfl (fun _ => rfl) (fun r14 m24 h => ?_) (fun _ h => h)
    refine b_iadd dX6_perform_421 ?_
    obtain ⟨g24, h⟩ := h
    refine b_iast dX6_perform_422 ly_381 g24 (fun m25 em25 => ?_)
    have h := h m25 em25
    refine b_goto 744 dX6_perform_423 (by decide) ?_
    exact b_vret dX6_perform_744 rfl h
  have h := ifF c10 h
  by_cases c11 : x1 = 7
  · have h := ifT c11 h
    refine b_tswIn 426 dX6_perform_1 g1 (by omega) (by omega) (by rw [c11]; rfl) (by decide) ?_
    refine b_aload_n dX6_perform_426 rfl ?_
    refine b_getR dX6_perform_427 fk_X6_21 ly_376 gg_376_3 ?_
    refine b_iload_n dX6_perform_430 rfl ?_
    refine b_iload_n dX6_perform_431 rfl ?_
    refine b_aload_n dX6_perform_432 rfl ?_
    refine b_getR dX6_perform_433 fk_X6_31 ly_376 gg_376_7 ?_
    refine b_aload_n dX6_perform_436 rfl ?_
    refine b_getI dX6_perform_437 fk_X6_112 ly_376 ?_
    refine b_iconst dX6_perform_440 ?_
    refine b_isub dX6_perform_441 ?_
    obtain ⟨g25, h⟩ := h
    refine b_iald dX6_perform_442 ly_381 g25 ?_
    refine b_cVv (as := [vI x2, vI x3, vI (m 381 ((m 376 8) - 1))]) (st := []) dX6_perform_443 mf_X8_back q1335 lk_X6_187 ly_378 rfl (p_X8_back (f := 3) (Nat.le_refl _) _ _ _ _ h) (by omega) rfl rfl (Nat.le_of_ble_eq_true rfl) (by decide) rfl (fun _ => rfl) (fun r15 m26 h => ?_) (fun _ h => h)
    refine b_aload_n dX6_perform_446 rfl ?_
    refine b_getR dX6_perform_447 fk_X6_31 ly_376 gg_376_7 ?_
    refine b_aload_n dX6_perform_450 rfl ?_
    refine b_getI dX6_perform_451 fk_X6_112 ly_376 ?_
    refine b_aload_n dX6_perform_454 rfl ?_
    refine b_getR dX6_perform_455 fk_X6_31 ly_376 gg_376_7 ?_
    refine b_aload_n dX6_perform_458 rfl ?_
    refine b_getI dX6_perform_459 fk_X6_112 ly_376 ?_
    refine b_iconst dX6_perform_462 ?_
    refine b_isub dX6_perform_463 ?_
    obtain ⟨g26, h⟩ := h
    refine b_iald dX6_perform_464 ly_381 g26 ?_
    refine b_iload_n dX6_perform_465 rfl ?_
    refine b_cSi (as := [vI x3]) (st := [vI (m26 381 ((m26 376 8) - 1)), vI (m26 376 8), vR 381]) dX6_perform_466 mf_X11_cells lk_X6_164 (p_X11_cells (f := 3) (Nat.le_refl _) _ _ h) (by omega) rfl rfl (Nat.le_of_ble_eq_true rfl) (by decide) rfl (fun _ => rfl) (fun r16 m27 h => ?_) (fun _ h => h)
    refine b_iadd dX6_perform_469 ?_
    obtain ⟨g27, h⟩ := h
    refine b_iast dX6_perform_470 ly_381 g27 (fun m28 em28 => ?_)
    have h := h m28 em28
    refine b_goto 744 dX6_perform_471 (by decide) ?_
    exact b_vret dX6_perform_744 rfl h
  have h := ifF c11 h
  by_cases c12 : x1 = 8
  · have h := ifT c12 h
    refine b_tswIn 474 dX6_perform_1 g1 (by omega) (by omega) (by rw [c12]; rfl) (by decide) ?_
    refine b_aload_n dX6_perform_474 rfl ?_
    refine b_iload_n dX6_perform_475 rfl ?_
    refine b_iload_n dX6_perform_476 rfl ?_
    refine b_cVv (as := [vI x2, vI x3]) (st := []) dX6_perform_477 mf_X6_call qs67 lk_X6_190 ly_376 rfl (p_X6_call (f := 686) (Nat.le_refl _) _ _ _ h) (by omega) rfl rfl (Nat.le_of_ble_eq_true rfl) (by decide) rfl (fun _ => rfl) (fun r17 m29 h => ?_) (fun _ h => h)
    refine b_goto 744 dX6_perform_480 (by decide) ?_
    exact b_vret dX6_perform_744 rfl h
  have h := ifF c12 h
  by_cases c13 : x1 = 9
  · have h := ifT c13 h
    refine b_tswIn 483 dX6_perform_1 g1 (by omega) (by omega) (by rw [c13]; rfl) (by decide) ?_
    refine b_aload_n dX6_perform_483 rfl ?_
    refine b_iload_n dX6_perform_484 rfl ?_
    refine b_cVv (as := [vI x2]) (st := []) dX6_perform_485 mf_X6_ends qs68 lk_X6_193 ly_376 rfl (p_X6_ends (f := 4) (Nat.le_refl _) _ _ h) (by omega) rfl rfl (Nat.le_of_ble_eq_true rfl) (by decide) rfl (fun _ => rfl) (fun r18 m30 h => ?_) (fun _ h => h)
    refine b_goto 744 dX6_perform_488 (by decide) ?_
    exact b_vret dX6_perform_744 rfl h
  have h := ifF c13 h
  by_cases c14 : x1 = 10
  · have h := ifT c14 h
    refine b_tswIn 491 dX6_perform_1 g1 (by omega) (by omega) (by rw [c14]; rfl) (by decide) ?_
    refine b_aload_n dX6_perform_491 rfl ?_
    refine b_iload_n dX6_perform_492 rfl ?_
    refine b_putI dX6_perform_493 fk_X6_103 ly_376 (fun m31 em31 => ?_)
    have h := h m31 em31
    refine b_goto 744 dX6_perform_496 (by decide) ?_
    exact b_vret dX6_perform_744 rfl h
  have h := ifF c14 h
  by_cases c15 : x1 = 11
  · have h := ifT c15 h
    refine b_tswIn 499 dX6_perform_1 g1 (by omega) (by omega) (by rw [c15]; rfl) (by decide) ?_
    refine b_aload_n dX6_perform_499 rfl ?_
    refine b_dup dX6_perform_500 rfl ?_
    refine b_getI dX6_perform_501 fk_X6_112 ly_376 ?_
    refine b_iconst dX6_perform_504 ?_
    refine b_isub dX6_perform_505 ?_
    refine b_putI dX6_perform_506 fk_X6_112 ly_376 (fun m32 em32 => ?_)
    have h := h m32 em32
    refine b_aload_n dX6_perform_509 rfl ?_
    refine b_getR dX6_perform_510 fk_X6_73 ly_376 gg_376_4 ?_
    refine b_aload_n dX6_perform_513 rfl ?_
    refine b_getR dX6_perform_514 fk_X6_31 ly_376 gg_376_7 ?_
    refine b_aload_n dX6_perform_517 rfl ?_
    refine b_getI dX6_perform_518 fk_X6_112 ly_376 ?_
    obtain ⟨g28, h⟩ := h
    refine b_iald dX6_perform_521 ly_381 g28 ?_
    obtain ⟨g29, h⟩ := h
    refine b_iald dX6_perform_522 ly_379 g29 ?_
    obtain ⟨g30, h⟩ := h
    refine b_if_ne 744 dX6_perform_523 g30 (by decide) (fun c16 => ?_) (fun c16 => ?_)
    · have h := ifF c16 h
      exact b_vret dX6_perform_744 rfl h
    · have h := ifT (Decidable.of_not_not c16) h
      refine b_aload_n dX6_perform_526 rfl ?_
      refine b_iload_n dX6_perform_527 rfl ?_
      refine b_putI dX6_perform_528 fk_X6_103 ly_376 (fun m33 em33 => ?_)
      have h := h m33 em33
      refine b_goto 744 dX6_perform_531 (by decide) ?_
      exact b_vret dX6_perform_744 rfl h
  have h := ifF c15 h
  by_cases c17 : x1 = 12
  · have h := ifT c17 h
    refine b_tswIn 534 dX6_perform_1 g1 (by omega) (by omega) (by rw [c17]; rfl) (by decide) ?_
    refine b_fgt [true, true, true, false, false, false, false] (ls' := [vR 376, vI x1, vI x2, vU, vU, vU, vU]) rfl rfl ?_
    exact pl_X6_perform_534 hf _ _ _ h
  have h := ifF c17 h
  by_cases c18 : x1 = 13
  · have h := ifT c18 h
    refine b_tswIn 534 dX6_perform_1 g1 (by omega) (by omega) (by rw [c18]; rfl) (by decide) ?_
    refine b_fgt [true, true, true, false, false, false, false] (ls' := [vR 376, vI x1, vI x2, vU, vU, vU, vU]) rfl rfl ?_
    exact pl_X6_perform_534 hf _ _ _ h
  have h := ifF c18 h
  by_cases c19 : x1 = 14
  · have h := ifT c19 h
    refine b_tswIn 585 dX6_perform_1 g1 (by omega) (by omega) (by rw [c19]; rfl) (by decide) ?_
    refine b_aload_n dX6_perform_585 rfl ?_
    refine b_getR dX6_perform_586 fk_X6_73 ly_376 gg_376_4 ?_
    refine b_aload_n dX6_perform_589 rfl ?_
    refine b_getR dX6_perform_590 fk_X6_31 ly_376 gg_376_7 ?_
    refine b_aload_n dX6_perform_593 rfl ?_
    refine b_getI dX6_perform_594 fk_X6_112 ly_376 ?_
    refine b_iconst dX6_perform_597 ?_
    refine b_isub dX6_perform_598 ?_
    obtain ⟨g31, h⟩ := h
    refine b_iald dX6_perform_599 ly_381 g31 ?_
    refine b_iconst dX6_perform_600 ?_
    refine b_aload_n dX6_perform_601 rfl ?_
    refine b_getR dX6_perform_602 fk_X6_73 ly_376 gg_376_4 ?_
    refine b_aload_n dX6_perform_605 rfl ?_
    refine b_getR dX6_perform_606 fk_X6_31 ly_376 gg_376_7 ?_
    refine b_aload_n dX6_perform_609 rfl ?_
    refine b_getI dX6_perform_610 fk_X6_112 ly_376 ?_
    refine b_iconst dX6_perform_613 ?_
    refine b_isub dX6_perform_614 ?_
    refine b_iald dX6_perform_615 ly_381 g31 ?_
    obtain ⟨g32, h⟩ := h
    refine b_iald dX6_perform_616 ly_379 g32 ?_
    refine b_isub dX6_perform_617 ?_
    refine b_iast dX6_perform_618 ly_379 g32 (fun m34 em34 => ?_)
    have h := h m34 em34
    refine b_goto 744 dX6_perform_619 (by decide) ?_
    exact b_vret dX6_perform_744 rfl h
  have h := ifF c19 h
  by_cases c20 : x1 = 25
  · have h := ifT c20 h
    refine b_tswIn 622 dX6_perform_1 g1 (by omega) (by omega) (by rw [c20]; rfl) (by decide) ?_
    refine b_aload_n dX6_perform_622 rfl ?_
    refine b_getR dX6_perform_623 fk_X6_21 ly_376 gg_376_3 ?_
    refine b_iload_n dX6_perform_626 rfl ?_
    refine b_cSi (as := [vI x2]) (st := [vR 378]) dX6_perform_627 mf_X11_base lk_X6_197 (p_X11_base (f := 1) (Nat.le_refl _) _ _ h) (by omega) rfl rfl (Nat.le_of_ble_eq_true rfl) (by decide) rfl (fun _ => rfl) (fun r19 m35 h => ?_) (fun _ h => h)
    refine b_aload_n dX6_perform_630 rfl ?_
    refine b_getR dX6_perform_631 fk_X6_31 ly_376 gg_376_7 ?_
    refine b_aload_n dX6_perform_634 rfl ?_
    refine b_getI dX6_perform_635 fk_X6_112 ly_376 ?_
    refine b_iconst dX6_perform_638 ?_
    refine b_isub dX6_perform_639 ?_
    obtain ⟨g33, h⟩ := h
    refine b_iald dX6_perform_640 ly_381 g33 ?_
    refine b_aload_n dX6_perform_641 rfl ?_
    refine b_iload_n dX6_perform_642 rfl ?_
    refine b_cVi (as := [vI x2]) (st := [vI (m35 381 ((m35 376 8) - 1)), vI r19, vR 378]) dX6_perform_643 mf_X6_number qs69 lk_X6_158 ly_376 rfl (p_X6_number (f := 3) (Nat.le_refl _) _ _ h) (by omega) rfl rfl (Nat.le_of_ble_eq_true rfl) (by decide) rfl (fun _ => rfl) (fun r20 m36 h => ?_) (fun _ h => h)
    refine b_cVv (as := [vI r19, vI (m35 381 ((m35 376 8) - 1)), vI r20]) (st := []) dX6_perform_646 mf_X8_less q1362 lk_X6_200 ly_378 rfl (p_X8_less (f := 2) (Nat.le_refl _) _ _ _ _ h) (by omega) rfl rfl (Nat.le_of_ble_eq_true rfl) (by decide) rfl (fun _ => rfl) (fun r21 m37 h => ?_) (fun _ h => h)
    refine b_goto 744 dX6_perform_649 (by decide) ?_
    exact b_vret dX6_perform_744 rfl h
  have h := ifF c20 h
  by_cases c21 : x1 = 26
  · have h := ifT c21 h
    refine b_tswIn 652 dX6_perform_1 g1 (by omega) (by omega) (by rw [c21]; rfl) (by decide) ?_
    refine b_aload_n dX6_perform_652 rfl ?_
    refine b_iload_n dX6_perform_653 rfl ?_
    refine b_iload_n dX6_perform_654 rfl ?_
    refine b_cVv (as := [vI x2, vI x3]) (st := []) dX6_perform_655 mf_X6_power qs70 lk_X6_203 ly_376 rfl (p_X6_power (f := 8) (Nat.le_refl _) _ _ _ h) (by omega) rfl rfl (Nat.le_of_ble_eq_true rfl) (by decide) rfl (fun _ => rfl) (fun r22 m38 h => ?_) (fun _ h => h)
    refine b_goto 744 dX6_perform_658 (by decide) ?_
    exact b_vret dX6_perform_744 rfl h
  have h := ifF c21 h
  by_cases c22 : x1 = 27
  · have h := ifT c22 h
    refine b_tswIn 661 dX6_perform_1 g1 (by omega) (by omega) (by rw [c22]; rfl) (by decide) ?_
    refine b_iload_n dX6_perform_661 rfl ?_
    refine b_cSi (as := [vI x2]) (st := []) dX6_perform_662 mf_X11_entries lk_X6_148 (p_X11_entries (f := 2) (Nat.le_refl _) _ _ h) (by omega) rfl rfl (Nat.le_of_ble_eq_true rfl) (by decide) rfl (fun _ => rfl) (fun r23 m39 h => ?_) (fun _ h => h)
    refine b_istore (ls' := [vR 376, vI x1, vI x2, vI x3, vI r23, vU, vU]) dX6_perform_665 (Nat.le_of_ble_eq_true rfl) rfl ?_
    refine b_aload_n dX6_perform_667 rfl ?_
    refine b_getR dX6_perform_668 fk_X6_31 ly_376 gg_376_7 ?_
    refine b_aload_n dX6_perform_671 rfl ?_
    refine b_getI dX6_perform_672 fk_X6_112 ly_376 ?_
    refine b_iload dX6_perform_675 rfl ?_
    refine b_isub dX6_perform_677 ?_
    obtain ⟨g34, h⟩ := h
    refine b_iald dX6_perform_678 ly_381 g34 ?_
    refine b_istore (ls' := [vR 376, vI x1, vI x2, vI x3, vI r23, vI (m39 381 ((m39 376 8) - r23)), vU]) dX6_perform_679 (Nat.le_of_ble_eq_true rfl) rfl ?_
    refine b_aload_n dX6_perform_681 rfl ?_
    refine b_getR dX6_perform_682 fk_X6_31 ly_376 gg_376_7 ?_
    refine b_aload_n dX6_perform_685 rfl ?_
    refine b_getI dX6_perform_686 fk_X6_112 ly_376 ?_
    obtain ⟨g35, h⟩ := h
    refine b_iald dX6_perform_689 ly_381 g35 ?_
    refine b_istore (ls' := [vR 376, vI x1, vI x2, vI x3, vI r23, vI (m39 381 ((m39 376 8) - r23)), vI (m39 381 (m39 376 8))]) dX6_perform_690 (Nat.le_of_ble_eq_true rfl) rfl ?_
    refine b_aload_n dX6_perform_692 rfl ?_
    refine b_aload_n dX6_perform_693 rfl ?_
    refine b_getI dX6_perform_694 fk_X6_112 ly_376 ?_
    refine b_iload dX6_perform_697 rfl ?_
    refine b_isub dX6_perform_699 ?_
    refine b_iconst dX6_perform_700 ?_
    refine b_iadd dX6_perform_701 ?_
    refine b_putI dX6_perform_702 fk_X6_112 ly_376 (fun m40 em40 => ?_)
    have h := h m40 em40
    refine b_aload_n dX6_perform_705 rfl ?_
    refine b_getR dX6_perform_706 fk_X6_31 ly_376 gg_376_7 ?_
    refine b_aload_n dX6_perform_709 rfl ?_
    refine b_getI dX6_perform_710 fk_X6_112 ly_376 ?_
    refine b_iload dX6_perform_713 rfl ?_
    obtain ⟨g36, h⟩ := h
    refine b_iast dX6_perform_715 ly_381 g36 (fun m41 em41 => ?_)
    have h := h m41 em41
    refine b_goto 744 dX6_perform_716 (by decide) ?_
    exact b_vret dX6_perform_744 rfl h
  have h := ifF c22 h
  by_cases c23 : x1 = 15
  · refine b_tswIn 719 dX6_perform_1 g1 (by omega) (by omega) (by rw [c23]; rfl) (by decide) ?_
    exact pl_X6_perform_719 hf _ _ _ _ h
  by_cases c24 : x1 = 16
  · refine b_tswIn 719 dX6_perform_1 g1 (by omega) (by omega) (by rw [c24]; rfl) (by decide) ?_
    exact pl_X6_perform_719 hf _ _ _ _ h
  by_cases c25 : x1 = 17
  · refine b_tswIn 719 dX6_perform_1 g1 (by omega) (by omega) (by rw [c25]; rfl) (by decide) ?_
    exact pl_X6_perform_719 hf _ _ _ _ h
  by_cases c26 : x1 = 18
  · refine b_tswIn 719 dX6_perform_1 g1 (by omega) (by omega) (by rw [c26]; rfl) (by decide) ?_
    exact pl_X6_perform_719 hf _ _ _ _ h
  by_cases c27 : x1 = 19
  · refine b_tswIn 719 dX6_perform_1 g1 (by omega) (by omega) (by rw [c27]; rfl) (by decide) ?_
    exact pl_X6_perform_719 hf _ _ _ _ h
  by_cases c28 : x1 = 20
  · refine b_tswIn 719 dX6_perform_1 g1 (by omega) (by omega) (by rw [c28]; rfl) (by decide) ?_
    exact pl_X6_perform_719 hf _ _ _ _ h
  by_cases c29 : x1 = 21
  · refine b_tswIn 719 dX6_perform_1 g1 (by omega) (by omega) (by rw [c29]; rfl) (by decide) ?_
    exact pl_X6_perform_719 hf _ _ _ _ h
  by_cases c30 : x1 = 22
  · refine b_tswIn 719 dX6_perform_1 g1 (by omega) (by omega) (by rw [c30]; rfl) (by decide) ?_
    exact pl_X6_perform_719 hf _ _ _ _ h
  by_cases c31 : x1 = 23
  · refine b_tswIn 719 dX6_perform_1 g1 (by omega) (by omega) (by rw [c31]; rfl) (by decide) ?_
    exact pl_X6_perform_719 hf _ _ _ _ h
  by_cases c32 : x1 = 24
  · refine b_tswIn 719 dX6_perform_1 g1 (by omega) (by omega) (by rw [c32]; rfl) (by decide) ?_
    exact pl_X6_perform_719 hf _ _ _ _ h
  refine b_tswOut 719 dX6_perform_1 g1 (by omega) (by decide) ?_
  exact pl_X6_perform_719 hf _ _ _ _ h
theorem dX6_run_0 : decode cX6_run 0 = .ok (.aload_n 0, 1) := by decide +kernel
theorem dX6_run_1 : decode cX6_run 1 = .ok (.getfield 21, 3) := by decide +kernel
theorem dX6_run_4 : decode cX6_run 4 = .ok (.iconst 0, 1) := by decide +kernel
theorem dX6_run_5 : decode cX6_run 5 = .ok (.putfield 109, 3) := by decide +kernel
theorem dX6_run_8 : decode cX6_run 8 = .ok (.aload_n 0, 1) := by decide +kernel
theorem dX6_run_9 : decode cX6_run 9 = .ok (.iconst 0, 1) := by decide +kernel
theorem dX6_run_10 : decode cX6_run 10 = .ok (.putfield 112, 3) := by decide +kernel
theorem dX6_run_13 : decode cX6_run 13 = .ok (.aload_n 0, 1) := by decide +kernel
theorem dX6_run_14 : decode cX6_run 14 = .ok (.getfield 31, 3) := by decide +kernel
theorem dX6_run_17 : decode cX6_run 17 = .ok (.iconst 0, 1) := by decide +kernel
theorem dX6_run_18 : decode cX6_run 18 = .ok (.iconst 0, 1) := by decide +kernel
theorem dX6_run_19 : decode cX6_run 19 = .ok (.iastore, 1) := by decide +kernel
theorem dX6_run_20 : decode cX6_run 20 = .ok (.aload_n 0, 1) := by decide +kernel
theorem dX6_run_21 : decode cX6_run 21 = .ok (.iconst 0, 1) := by decide +kernel
theorem dX6_run_22 : decode cX6_run 22 = .ok (.putfield 100, 3) := by decide +kernel
theorem dX6_run_25 : decode cX6_run 25 = .ok (.aload_n 0, 1) := by decide +kernel
theorem dX6_run_26 : decode cX6_run 26 = .ok (.iconst 0, 1) := by decide +kernel
theorem dX6_run_27 : decode cX6_run 27 = .ok (.putfield 115, 3) := by decide +kernel
theorem dX6_run_30 : decode cX6_run 30 = .ok (.aload_n 0, 1) := by decide +kernel
theorem dX6_run_31 : decode cX6_run 31 = .ok (.iconst 0, 1) := by decide +kernel
theorem dX6_run_32 : decode cX6_run 32 = .ok (.putfield 118, 3) := by decide +kernel
theorem dX6_run_35 : decode cX6_run 35 = .ok (.aload_n 0, 1) := by decide +kernel
theorem dX6_run_36 : decode cX6_run 36 = .ok (.iconst 0, 1) := by decide +kernel
theorem dX6_run_37 : decode cX6_run 37 = .ok (.putfield 103, 3) := by decide +kernel
theorem dX6_run_40 : decode cX6_run 40 = .ok (.aload_n 0, 1) := by decide +kernel
theorem dX6_run_41 : decode cX6_run 41 = .ok (.iconst (-1), 1) := by decide +kernel
theorem dX6_run_42 : decode cX6_run 42 = .ok (.iconst (-1), 1) := by decide +kernel
theorem dX6_run_43 : decode cX6_run 43 = .ok (.aload_n 1, 1) := by decide +kernel
theorem dX6_run_44 : decode cX6_run 44 = .ok (.aload_n 1, 1) := by decide +kernel
theorem dX6_run_45 : decode cX6_run 45 = .ok (.getfield 121, 3) := by decide +kernel
theorem dX6_run_48 : decode cX6_run 48 = .ok (.aload_n 1, 1) := by decide +kernel
theorem dX6_run_49 : decode cX6_run 49 = .ok (.getfield 125, 3) := by decide +kernel
theorem dX6_run_52 : decode cX6_run 52 = .ok (.iaload, 1) := by decide +kernel
theorem dX6_run_53 : decode cX6_run 53 = .ok (.invokevirtual 128, 3) := by decide +kernel
theorem dX6_run_56 : decode cX6_run 56 = .ok (.istore_n 2, 1) := by decide +kernel
theorem dX6_run_57 : decode cX6_run 57 = .ok (.aload_n 0, 1) := by decide +kernel
theorem dX6_run_58 : decode cX6_run 58 = .ok (.iload_n 2, 1) := by decide +kernel
theorem dX6_run_59 : decode cX6_run 59 = .ok (.iconst 0, 1) := by decide +kernel
theorem dX6_run_60 : decode cX6_run 60 = .ok (.iconst 0, 1) := by decide +kernel
theorem dX6_run_61 : decode cX6_run 61 = .ok (.invokevirtual 132, 3) := by decide +kernel
theorem dX6_run_64 : decode cX6_run 64 = .ok (.aload_n 0, 1) := by decide +kernel
theorem dX6_run_65 : decode cX6_run 65 = .ok (.getfield 21, 3) := by decide +kernel
theorem dX6_run_68 : decode cX6_run 68 = .ok (.getfield 109, 3) := by decide +kernel
theorem dX6_run_71 : decode cX6_run 71 = .ok (.ifCond .ne 71, 3) := by decide +kernel
theorem dX6_run_74 : decode cX6_run 74 = .ok (.aload_n 0, 1) := by decide +kernel
theorem dX6_run_75 : decode cX6_run 75 = .ok (.getfield 100, 3) := by decide +kernel
theorem dX6_run_78 : decode cX6_run 78 = .ok (.ifCond .le 64, 3) := by decide +kernel
theorem dX6_run_81 : decode cX6_run 81 = .ok (.aload_n 0, 1) := by decide +kernel
theorem dX6_run_82 : decode cX6_run 82 = .ok (.getfield 27, 3) := by decide +kernel
theorem dX6_run_85 : decode cX6_run 85 = .ok (.aload_n 0, 1) := by decide +kernel
theorem dX6_run_86 : decode cX6_run 86 = .ok (.getfield 35, 3) := by decide +kernel
theorem dX6_run_89 : decode cX6_run 89 = .ok (.aload_n 0, 1) := by decide +kernel
theorem dX6_run_90 : decode cX6_run 90 = .ok (.getfield 100, 3) := by decide +kernel
theorem dX6_run_93 : decode cX6_run 93 = .ok (.iconst 1, 1) := by decide +kernel
theorem dX6_run_94 : decode cX6_run 94 = .ok (.isub, 1) := by decide +kernel
theorem dX6_run_95 : decode cX6_run 95 = .ok (.iaload, 1) := by decide +kernel
theorem dX6_run_96 : decode cX6_run 96 = .ok (.aaload, 1) := by decide +kernel
theorem dX6_run_97 : decode cX6_run 97 = .ok (.astore_n 3, 1) := by decide +kernel
theorem dX6_run_98 : decode cX6_run 98 = .ok (.aload_n 0, 1) := by decide +kernel
theorem dX6_run_99 : decode cX6_run 99 = .ok (.getfield 103, 3) := by decide +kernel
theorem dX6_run_102 : decode cX6_run 102 = .ok (.istore 4, 2) := by decide +kernel
theorem dX6_run_104 : decode cX6_run 104 = .ok (.aload_n 0, 1) := by decide +kernel
theorem dX6_run_105 : decode cX6_run 105 = .ok (.dup, 1) := by decide +kernel
theorem dX6_run_106 : decode cX6_run 106 = .ok (.getfield 103, 3) := by decide +kernel
theorem dX6_run_109 : decode cX6_run 109 = .ok (.iconst 1, 1) := by decide +kernel
theorem dX6_run_110 : decode cX6_run 110 = .ok (.iadd, 1) := by decide +kernel
theorem dX6_run_111 : decode cX6_run 111 = .ok (.putfield 103, 3) := by decide +kernel
theorem dX6_run_114 : decode cX6_run 114 = .ok (.aload_n 0, 1) := by decide +kernel
theorem dX6_run_115 : decode cX6_run 115 = .ok (.aload_n 3, 1) := by decide +kernel
theorem dX6_run_116 : decode cX6_run 116 = .ok (.getfield 136, 3) := by decide +kernel
theorem dX6_run_119 : decode cX6_run 119 = .ok (.iload 4, 2) := by decide +kernel
theorem dX6_run_121 : decode cX6_run 121 = .ok (.iaload, 1) := by decide +kernel
theorem dX6_run_122 : decode cX6_run 122 = .ok (.aload_n 3, 1) := by decide +kernel
theorem dX6_run_123 : decode cX6_run 123 = .ok (.getfield 139, 3) := by decide +kernel
theorem dX6_run_126 : decode cX6_run 126 = .ok (.iload 4, 2) := by decide +kernel
theorem dX6_run_128 : decode cX6_run 128 = .ok (.iaload, 1) := by decide +kernel
theorem dX6_run_129 : decode cX6_run 129 = .ok (.aload_n 3, 1) := by decide +kernel
theorem dX6_run_130 : decode cX6_run 130 = .ok (.getfield 142, 3) := by decide +kernel
theorem dX6_run_133 : decode cX6_run 133 = .ok (.iload 4, 2) := by decide +kernel
theorem dX6_run_135 : decode cX6_run 135 = .ok (.iaload, 1) := by decide +kernel
theorem dX6_run_136 : decode cX6_run 136 = .ok (.invokevirtual 145, 3) := by decide +kernel
theorem dX6_run_139 : decode cX6_run 139 = .ok (.goto (-75), 3) := by decide +kernel
theorem dX6_run_142 : decode cX6_run 142 = .ok (.aload_n 0, 1) := by decide +kernel
theorem dX6_run_143 : decode cX6_run 143 = .ok (.getfield 100, 3) := by decide +kernel
theorem dX6_run_146 : decode cX6_run 146 = .ok (.ifCond .le 39, 3) := by decide +kernel
theorem dX6_run_149 : decode cX6_run 149 = .ok (.aload_n 0, 1) := by decide +kernel
theorem dX6_run_150 : decode cX6_run 150 = .ok (.dup, 1) := by decide +kernel
theorem dX6_run_151 : decode cX6_run 151 = .ok (.getfield 100, 3) := by decide +kernel
theorem dX6_run_154 : decode cX6_run 154 = .ok (.iconst 1, 1) := by decide +kernel
theorem dX6_run_155 : decode cX6_run 155 = .ok (.isub, 1) := by decide +kernel
theorem dX6_run_156 : decode cX6_run 156 = .ok (.putfield 100, 3) := by decide +kernel
theorem dX6_run_159 : decode cX6_run 159 = .ok (.aload_n 0, 1) := by decide +kernel
theorem dX6_run_160 : decode cX6_run 160 = .ok (.getfield 27, 3) := by decide +kernel
theorem dX6_run_163 : decode cX6_run 163 = .ok (.aload_n 0, 1) := by decide +kernel
theorem dX6_run_164 : decode cX6_run 164 = .ok (.getfield 35, 3) := by decide +kernel
theorem dX6_run_167 : decode cX6_run 167 = .ok (.aload_n 0, 1) := by decide +kernel
theorem dX6_run_168 : decode cX6_run 168 = .ok (.getfield 100, 3) := by decide +kernel
theorem dX6_run_171 : decode cX6_run 171 = .ok (.iaload, 1) := by decide +kernel
theorem dX6_run_172 : decode cX6_run 172 = .ok (.aaload, 1) := by decide +kernel
theorem dX6_run_173 : decode cX6_run 173 = .ok (.dup, 1) := by decide +kernel
theorem dX6_run_174 : decode cX6_run 174 = .ok (.getfield 85, 3) := by decide +kernel
theorem dX6_run_177 : decode cX6_run 177 = .ok (.iconst 1, 1) := by decide +kernel
theorem dX6_run_178 : decode cX6_run 178 = .ok (.isub, 1) := by decide +kernel
theorem dX6_run_179 : decode cX6_run 179 = .ok (.putfield 85, 3) := by decide +kernel
theorem dX6_run_182 : decode cX6_run 182 = .ok (.goto (-40), 3) := by decide +kernel
theorem dX6_run_185 : decode cX6_run 185 = .ok (.aload_n 0, 1) := by decide +kernel
theorem dX6_run_186 : decode cX6_run 186 = .ok (.getfield 27, 3) := by decide +kernel
theorem dX6_run_189 : decode cX6_run 189 = .ok (.iload_n 2, 1) := by decide +kernel
theorem dX6_run_190 : decode cX6_run 190 = .ok (.aaload, 1) := by decide +kernel
theorem dX6_run_191 : decode cX6_run 191 = .ok (.iconst (-1), 1) := by decide +kernel
theorem dX6_run_192 : decode cX6_run 192 = .ok (.putfield 75, 3) := by decide +kernel
theorem dX6_run_195 : decode cX6_run 195 = .ok (.aload_n 0, 1) := by decide +kernel
theorem dX6_run_196 : decode cX6_run 196 = .ok (.getfield 21, 3) := by decide +kernel
theorem dX6_run_199 : decode cX6_run 199 = .ok (.getfield 109, 3) := by decide +kernel
theorem dX6_run_202 : decode cX6_run 202 = .ok (.ireturn, 1) := by decide +kernel
/-! AlgebraHouse$Machine.run(LAlgebraHouse$Text;)I -/
def P_X6_run_185 (Q : Int → MM → Prop) (x2 : Int) (m : MM) : Prop := (0 ≤ x2 ∧ x2 < 48) ∧ (isCd (389 + 4 * x2)) ∧ ∀ m1 : MM, m1 = up m (389 + 4 * x2) 4 (-1) → Q (m1 378 2) m1
def P_X6_run_142 (Q : Int → MM → Prop) : Nat → Int → MM → Prop
  | 0, _, _ => False
  | n + 1, x2, m => (RI (m 376 13)) ∧ (if (m 376 13) ≤ 0 then P_X6_run_185 Q x2 m else ∀ m1 : MM, m1 = up m 376 13 ((m 376 13) - 1) → (0 ≤ (m1 376 13) ∧ (m1 376 13) < 21) ∧ (0 ≤ (m1 382 (m1 376 13)) ∧ (m1 382 (m1 376 13)) < 48) ∧ (isCd (389 + 4 * (m1 382 (m1 376 13)))) ∧ ∀ m2 : MM, m2 = up m1 (389 + 4 * (m1 382 (m1 376 13))) 6 ((m1 (389 + 4 * (m1 382 (m1 376 13))) 6) - 1) → P_X6_run_142 Q n x2 m2)
def P_X6_run_64 (Q : Int → MM → Prop) : Nat → Int → MM → Prop
  | 0, _, _ => False
  | n + 1, x2, m => (RI (m 378 2)) ∧ (if (m 378 2) = 0 then (RI (m 376 13)) ∧ (if (m 376 13) ≤ 0 then ∃ nn, P_X6_run_142 Q nn x2 m else (0 ≤ ((m 376 13) - 1) ∧ ((m 376 13) - 1) < 21) ∧ (0 ≤ (m 382 ((m 376 13) - 1)) ∧ (m 382 ((m 376 13) - 1)) < 48) ∧ ∀ m1 : MM, m1 = up m 376 14 ((m 376 14) + 1) → (isCd (389 + 4 * (m 382 ((m 376 13) - 1)))) ∧ (0 ≤ (m 376 14) ∧ (m 376 14) < 1200) ∧ P_X6_perform (m1 ((389 + 4 * (m 382 ((m 376 13) - 1))) + 1) (m 376 14)) (m1 ((389 + 4 * (m 382 ((m 376 13) - 1))) + 2) (m 376 14)) (m1 ((389 + 4 * (m 382 ((m 376 13) - 1))) + 3) (m 376 14)) m1 (fun r1 m2 => P_X6_run_64 Q n x2 m2)) else ∃ nn, P_X6_run_142 Q nn x2 m)
def P_X6_run (x1 : Int) (m : MM) (Q : Int → MM → Prop) : Prop := ∀ m1 : MM, m1 = up m 378 2 0 → ∀ m2 : MM, m2 = up m1 376 8 0 → ∀ m3 : MM, m3 = up m2 381 0 0 → ∀ m4 : MM, m4 = up m3 376 13 0 → ∀ m5 : MM, m5 = up m4 376 15 0 → ∀ m6 : MM, m6 = up m5 376 16 0 → ∀ m7 : MM, m7 = up m6 376 14 0 → (isTx x1) ∧ (0 ≤ (m7 x1 2) ∧ (m7 x1 2) < 160) ∧ P_X6_codeOf (-1) (-1) x1 (m7 (x1 + 6) (m7 x1 2)) m7 (fun r1 m8 => P_X6_enter r1 0 0 m8 (fun r2 m9 => ∃ nn, P_X6_run_64 Q nn r1 m9))
theorem pl_X6_run_185 {f : Nat} {Q : Int → MM → Prop} {T : MM → Prop} (hf : 688 ≤ f) : ∀ (x2 : Int) (m : MM), P_X6_run_185 Q x2 m → B f M_X6_run 185 [vR 376, vU, vI x2, vU, vU] [] m Q T := by
  intro x2 m h
  have h : (0 ≤ x2 ∧ x2 < 48) ∧ (isCd (389 + 4 * x2)) ∧ ∀ m1 : MM, m1 = up m (389 + 4 * x2) 4 (-1) → Q (m1 378 2) m1 := h
  refine b_aload_n dX6_run_185 rfl ?_
  refine b_getR dX6_run_186 fk_X6_27 ly_376 gg_376_5 ?_
  refine b_iload_n dX6_run_189 rfl ?_
  obtain ⟨g1, h⟩ := h
  refine b_aald dX6_run_190 ly_380 (Or.inr rfl) g1 (gg_codes _) ?_
  refine b_iconst dX6_run_191 ?_
  obtain ⟨g2, h⟩ := h
  refine b_putI dX6_run_192 fk_X6_75 (cd_ly0 g2) (fun m1 em1 => ?_)
  have h := h m1 em1
  refine b_aload_n dX6_run_195 rfl ?_
  refine b_getR dX6_run_196 fk_X6_21 ly_376 gg_376_3 ?_
  refine b_getI dX6_run_199 fk_X6_109 ly_378 ?_
  exact b_iret dX6_run_202 rfl h
theorem pl_X6_run_142 {f : Nat} {Q : Int → MM → Prop} {T : MM → Prop} (hf : 688 ≤ f) : ∀ (n : Nat) (x2 : Int) (m : MM), P_X6_run_142 Q n x2 m → B f M_X6_run 142 [vR 376, vU, vI x2, vU, vU] [] m Q T := by
  intro n
  induction n with
  | zero => intro x2 m h; exact h.elim
  | succ n ih =>
    intro x2 m h
    have h : (RI (m 376 13)) ∧ (if (m 376 13) ≤ 0 then P_X6_run_185 Q x2 m else ∀ m1 : MM, m1 = up m 376 13 ((m 376 13) - 1) → (0 ≤ (m1 376 13) ∧ (m1 376 13) < 21) ∧ (0 ≤ (m1 382 (m1 376 13)) ∧ (m1 382 (m1 376 13)) < 48) ∧ (isCd (389 + 4 * (m1 382 (m1 376 13)))) ∧ ∀ m2 : MM, m2 = up m1 (389 + 4 * (m1 382 (m1 376 13))) 6 ((m1 (389 + 4 * (m1 382 (m1 376 13))) 6) - 1) → P_X6_run_142 Q n x2 m2) := h
    refine b_aload_n dX6_run_142 rfl ?_
    refine b_getI dX6_run_143 fk_X6_100 ly_376 ?_
    obtain ⟨g1, h⟩ := h
    refine b_if_le 185 dX6_run_146 g1 (by decide) (fun c1 => ?_) (fun c1 => ?_)
    · have h := ifT c1 h
      exact pl_X6_run_185 hf _ _ h
    · have h := ifF c1 h
      refine b_aload_n dX6_run_149 rfl ?_
      refine b_dup dX6_run_150 rfl ?_
      refine b_getI dX6_run_151 fk_X6_100 ly_376 ?_
      refine b_iconst dX6_run_154 ?_
      refine b_isub dX6_run_155 ?_
      refine b_putI dX6_run_156 fk_X6_100 ly_376 (fun m1 em1 => ?_)
      have h := h m1 em1
      refine b_aload_n dX6_run_159 rfl ?_
      refine b_getR dX6_run_160 fk_X6_27 ly_376 gg_376_5 ?_
      refine b_aload_n dX6_run_163 rfl ?_
      refine b_getR dX6_run_164 fk_X6_35 ly_376 gg_376_9 ?_
      refine b_aload_n dX6_run_167 rfl ?_
      refine b_getI dX6_run_168 fk_X6_100 ly_376 ?_
      obtain ⟨g2, h⟩ := h
      refine b_iald dX6_run_171 ly_382 g2 ?_
      obtain ⟨g3, h⟩ := h
      refine b_aald dX6_run_172 ly_380 (Or.inr rfl) g3 (gg_codes _) ?_
      refine b_dup dX6_run_173 rfl ?_
      obtain ⟨g4, h⟩ := h
      refine b_getI dX6_run_174 fk_X6_85 (cd_ly0 g4) ?_
      refine b_iconst dX6_run_177 ?_
      refine b_isub dX6_run_178 ?_
      refine b_putI dX6_run_179 fk_X6_85 (cd_ly0 g4) (fun m2 em2 => ?_)
      have h := h m2 em2
      refine b_goto 142 dX6_run_182 (by decide) ?_
      exact ih _ _ h
theorem pl_X6_run_64 {f : Nat} {Q : Int → MM → Prop} {T : MM → Prop} (hf : 688 ≤ f) : ∀ (n : Nat) (x2 : Int) (m : MM), P_X6_run_64 Q n x2 m → B f M_X6_run 64 [vR 376, vU, vI x2, vU, vU] [] m Q T := by
  intro n
  induction n with
  | zero => intro x2 m h; exact h.elim
  | succ n ih =>
    intro x2 m h
    have h : (RI (m 378 2)) ∧ (if (m 378 2) = 0 then (RI (m 376 13)) ∧ (if (m 376 13) ≤ 0 then ∃ nn, P_X6_run_142 Q nn x2 m else (0 ≤ ((m 376 13) - 1) ∧ ((m 376 13) - 1) < 21) ∧ (0 ≤ (m 382 ((m 376 13) - 1)) ∧ (m 382 ((m 376 13) - 1)) < 48) ∧ ∀ m1 : MM, m1 = up m 376 14 ((m 376 14) + 1) → (isCd (389 + 4 * (m 382 ((m 376 13) - 1)))) ∧ (0 ≤ (m 376 14) ∧ (m 376 14) < 1200) ∧ P_X6_perform (m1 ((389 + 4 * (m 382 ((m 376 13) - 1))) + 1) (m 376 14)) (m1 ((389 + 4 * (m 382 ((m 376 13) - 1))) + 2) (m 376 14)) (m1 ((389 + 4 * (m 382 ((m 376 13) - 1))) + 3) (m 376 14)) m1 (fun r1 m2 => P_X6_run_64 Q n x2 m2)) else ∃ nn, P_X6_run_142 Q nn x2 m) := h
    refine b_aload_n dX6_run_64 rfl ?_
    refine b_getR dX6_run_65 fk_X6_21 ly_376 gg_376_3 ?_
    refine b_getI dX6_run_68 fk_X6_109 ly_378 ?_
    obtain ⟨g1, h⟩ := h
    refine b_if_ne 142 dX6_run_71 g1 (by decide) (fun c1 => ?_) (fun c1 => ?_)
    · have h := ifF c1 h
      obtain ⟨nn, h⟩ := h
      exact pl_X6_run_142 hf nn _ _ h
    · have h := ifT (Decidable.of_not_not c1) h
      refine b_aload_n dX6_run_74 rfl ?_
      refine b_getI dX6_run_75 fk_X6_100 ly_376 ?_
      obtain ⟨g2, h⟩ := h
      refine b_if_le 142 dX6_run_78 g2 (by decide) (fun c2 => ?_) (fun c2 => ?_)
      · have h := ifT c2 h
        obtain ⟨nn, h⟩ := h
        exact pl_X6_run_142 hf nn _ _ h
      · have h := ifF c2 h
        refine b_aload_n dX6_run_81 rfl ?_
        refine b_getR dX6_run_82 fk_X6_27 ly_376 gg_376_5 ?_
        refine b_aload_n dX6_run_85 rfl ?_
        refine b_getR dX6_run_86 fk_X6_35 ly_376 gg_376_9 ?_
        refine b_aload_n dX6_run_89 rfl ?_
        refine b_getI dX6_run_90 fk_X6_100 ly_376 ?_
        refine b_iconst dX6_run_93 ?_
        refine b_isub dX6_run_94 ?_
        obtain ⟨g3, h⟩ := h
        refine b_iald dX6_run_95 ly_382 g3 ?_
        obtain ⟨g4, h⟩ := h
        refine b_aald dX6_run_96 ly_380 (Or.inr rfl) g4 (gg_codes _) ?_
        refine b_astore_n (ls' := [vR 376, vU, vI x2, vR (389 + 4 * (m 382 ((m 376 13) - 1))), vU]) dX6_run_97 (Nat.le_of_ble_eq_true rfl) rfl ?_
        refine b_aload_n dX6_run_98 rfl ?_
        refine b_getI dX6_run_99 fk_X6_103 ly_376 ?_
        refine b_istore (ls' := [vR 376, vU, vI x2, vR (389 + 4 * (m 382 ((m 376 13) - 1))), vI (m 376 14)]) dX6_run_102 (Nat.le_of_ble_eq_true rfl) rfl ?_
        refine b_aload_n dX6_run_104 rfl ?_
        refine b_dup dX6_run_105 rfl ?_
        refine b_getI dX6_run_106 fk_X6_103 ly_376 ?_
        refine b_iconst dX6_run_109 ?_
        refine b_iadd dX6_run_110 ?_
        refine b_putI dX6_run_111 fk_X6_103 ly_376 (fun m1 em1 => ?_)
        have h := h m1 em1
        refine b_aload_n dX6_run_114 rfl ?_
        refine b_aload_n dX6_run_115 rfl ?_
        obtain ⟨g5, h⟩ := h
        refine b_getR dX6_run_116 fk_X6_136 (cd_ly0 g5) (cd_gg0 g5) ?_
        refine b_iload dX6_run_119 rfl ?_
        obtain ⟨g6, h⟩ := h
        refine b_iald dX6_run_121 (cd_ly1 g5) g6 ?_
        refine b_aload_n dX6_run_122 rfl ?_
        refine b_getR dX6_run_123 fk_X6_139 (cd_ly0 g5) (cd_gg1 g5) ?_
        refine b_iload dX6_run_126 rfl ?_
        refine b_iald dX6_run_128 (cd_ly2 g5) g6 ?_
        refine b_aload_n dX6_run_129 rfl ?_
        refine b_getR dX6_run_130 fk_X6_142 (cd_ly0 g5) (cd_gg2 g5) ?_
        refine b_iload dX6_run_133 rfl ?_
        refine b_iald dX6_run_135 (cd_ly3 g5) g6 ?_
        refine b_cVv (as := [vI (m1 ((389 + 4 * (m 382 ((m 376 13) - 1))) + 1) (m 376 14)), vI (m1 ((389 + 4 * (m 382 ((m 376 13) - 1))) + 2) (m 376 14)), vI (m1 ((389 + 4 * (m 382 ((m 376 13) - 1))) + 3) (m 376 14))]) (st := []) dX6_run_136 mf_X6_perform qs64 lk_X6_145 ly_376 rfl (p_X6_perform (f := 687) (Nat.le_refl _) _ _ _ _ h) (by omega) rfl rfl (Nat.le_of_ble_eq_true rfl) (by decide) rfl (fun _ => rfl) (fun r1 m2 h => ?_) (fun _ h => h)
        refine b_goto 64 dX6_run_139 (by decide) ?_
        refine b_fgt [true, false, true, false, false] (ls' := [vR 376, vU, vI x2, vU, vU]) rfl rfl ?_
        exact ih _ _ h
theorem p_X6_run {f : Nat} {Q : Int → MM → Prop} {T : MM → Prop} (hf : 688 ≤ f) (x1 : Int) (m : MM) (h : P_X6_run x1 m Q) : CC f M_X6_run [vR 376, vR x1] m Q T := by
  refine CC.of (plainFor_of_name (by decide)) (Nat.le_of_ble_eq_true rfl) (ls := [vR 376, vR x1, vU, vU, vU]) rfl ?_
  have h : ∀ m1 : MM, m1 = up m 378 2 0 → ∀ m2 : MM, m2 = up m1 376 8 0 → ∀ m3 : MM, m3 = up m2 381 0 0 → ∀ m4 : MM, m4 = up m3 376 13 0 → ∀ m5 : MM, m5 = up m4 376 15 0 → ∀ m6 : MM, m6 = up m5 376 16 0 → ∀ m7 : MM, m7 = up m6 376 14 0 → (isTx x1) ∧ (0 ≤ (m7 x1 2) ∧ (m7 x1 2) < 160) ∧ P_X6_codeOf (-1) (-1) x1 (m7 (x1 + 6) (m7 x1 2)) m7 (fun r1 m8 => P_X6_enter r1 0 0 m8 (fun r2 m9 => ∃ nn, P_X6_run_64 Q nn r1 m9)) := h
  refine b_aload_n dX6_run_0 rfl ?_
  refine b_getR dX6_run_1 fk_X6_21 ly_376 gg_376_3 ?_
  refine b_iconst dX6_run_4 ?_
  refine b_putI dX6_run_5 fk_X6_109 ly_378 (fun m1 em1 => ?_)
  have h := h m1 em1
  refine b_aload_n dX6_run_8 rfl ?_
  refine b_iconst dX6_run_9 ?_
  refine b_putI dX6_run_10 fk_X6_112 ly_376 (fun m2 em2 => ?_)
  have h := h m2 em2
  refine b_aload_n dX6_run_13 rfl ?_
  refine b_getR dX6_run_14 fk_X6_31 ly_376 gg_376_7 ?_
  refine b_iconst dX6_run_17 ?_
  refine b_iconst dX6_run_18 ?_
  refine b_iast dX6_run_19 ly_381 (by decide) (fun m3 em3 => ?_)
  have h := h m3 em3
  refine b_aload_n dX6_run_20 rfl ?_
  refine b_iconst dX6_run_21 ?_
  refine b_putI dX6_run_22 fk_X6_100 ly_376 (fun m4 em4 => ?_)
  have h := h m4 em4
  refine b_aload_n dX6_run_25 rfl ?_
  refine b_iconst dX6_run_26 ?_
  refine b_putI dX6_run_27 fk_X6_115 ly_376 (fun m5 em5 => ?_)
  have h := h m5 em5
  refine b_aload_n dX6_run_30 rfl ?_
  refine b_iconst dX6_run_31 ?_
  refine b_putI dX6_run_32 fk_X6_118 ly_376 (fun m6 em6 => ?_)
  have h := h m6 em6
  refine b_aload_n dX6_run_35 rfl ?_
  refine b_iconst dX6_run_36 ?_
  refine b_putI dX6_run_37 fk_X6_103 ly_376 (fun m7 em7 => ?_)
  have h := h m7 em7
  refine b_aload_n dX6_run_40 rfl ?_
  refine b_iconst dX6_run_41 ?_
  refine b_iconst dX6_run_42 ?_
  refine b_aload_n dX6_run_43 rfl ?_
  refine b_aload_n dX6_run_44 rfl ?_
  obtain ⟨g1, h⟩ := h
  refine b_getR dX6_run_45 fk_X6_121 (tx_ly0 g1) (tx_gg12 g1) ?_
  refine b_aload_n dX6_run_48 rfl ?_
  refine b_getI dX6_run_49 fk_X6_125 (tx_ly0 g1) ?_
  obtain ⟨g2, h⟩ := h
  refine b_iald dX6_run_52 (tx_ly6 g1) g2 ?_
  refine b_cVi (as := [vI (-1), vI (-1), vR x1, vI (m7 (x1 + 6) (m7 x1 2))]) (st := []) dX6_run_53 mf_X6_codeOf qs53 lk_X6_128 ly_376 rfl (p_X6_codeOf (f := 685) (Nat.le_refl _) _ _ _ _ _ h) (by omega) rfl rfl (Nat.le_of_ble_eq_true rfl) (by decide) rfl (fun _ => rfl) (fun r1 m8 h => ?_) (fun _ h => h)
  refine b_istore_n (ls' := [vR 376, vR x1, vI r1, vU, vU]) dX6_run_56 (Nat.le_of_ble_eq_true rfl) rfl ?_
  refine b_aload_n dX6_run_57 rfl ?_
  refine b_iload_n dX6_run_58 rfl ?_
  refine b_iconst dX6_run_59 ?_
  refine b_iconst dX6_run_60 ?_
  refine b_cVv (as := [vI r1, vI 0, vI 0]) (st := []) dX6_run_61 mf_X6_enter qs63 lk_X6_132 ly_376 rfl (p_X6_enter (f := 1) (Nat.le_refl _) _ _ _ _ h) (by omega) rfl rfl (Nat.le_of_ble_eq_true rfl) (by decide) rfl (fun _ => rfl) (fun r2 m9 h => ?_) (fun _ h => h)
  refine b_fgt [true, false, true, false, false] (ls' := [vR 376, vU, vI r1, vU, vU]) rfl rfl ?_
  obtain ⟨nn, h⟩ := h
  exact pl_X6_run_64 hf nn _ _ h
