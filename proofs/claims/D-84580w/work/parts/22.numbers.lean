set_option maxRecDepth 100000
theorem dX8_common_0 : decode cX8_common 0 = .ok (.lload_n 0, 1) := by decide +kernel
theorem dX8_common_1 : decode cX8_common 1 = .ok (.invokestatic 29, 3) := by decide +kernel
theorem dX8_common_4 : decode cX8_common 4 = .ok (.lstore 4, 2) := by decide +kernel
theorem dX8_common_6 : decode cX8_common 6 = .ok (.lload_n 2, 1) := by decide +kernel
theorem dX8_common_7 : decode cX8_common 7 = .ok (.invokestatic 29, 3) := by decide +kernel
theorem dX8_common_10 : decode cX8_common 10 = .ok (.lstore 6, 2) := by decide +kernel
theorem dX8_common_12 : decode cX8_common 12 = .ok (.lload 6, 2) := by decide +kernel
theorem dX8_common_14 : decode cX8_common 14 = .ok (.lconst 0, 1) := by decide +kernel
theorem dX8_common_15 : decode cX8_common 15 = .ok (.lcmp, 1) := by decide +kernel
theorem dX8_common_16 : decode cX8_common 16 = .ok (.ifCond .eq 21, 3) := by decide +kernel
theorem dX8_common_19 : decode cX8_common 19 = .ok (.lload 4, 2) := by decide +kernel
theorem dX8_common_21 : decode cX8_common 21 = .ok (.lload 6, 2) := by decide +kernel
theorem dX8_common_23 : decode cX8_common 23 = .ok (.lrem, 1) := by decide +kernel
theorem dX8_common_24 : decode cX8_common 24 = .ok (.lstore 8, 2) := by decide +kernel
theorem dX8_common_26 : decode cX8_common 26 = .ok (.lload 6, 2) := by decide +kernel
theorem dX8_common_28 : decode cX8_common 28 = .ok (.lstore 4, 2) := by decide +kernel
theorem dX8_common_30 : decode cX8_common 30 = .ok (.lload 8, 2) := by decide +kernel
theorem dX8_common_32 : decode cX8_common 32 = .ok (.lstore 6, 2) := by decide +kernel
theorem dX8_common_34 : decode cX8_common 34 = .ok (.goto (-22), 3) := by decide +kernel
theorem dX8_common_37 : decode cX8_common 37 = .ok (.lload 4, 2) := by decide +kernel
theorem dX8_common_39 : decode cX8_common 39 = .ok (.lreturn, 1) := by decide +kernel
/-! AlgebraHouse$Numbers.common(JJ)J -/
def P_X8_common_12 (Q : Int → MM → Prop) : Nat → Int → Int → MM → Prop
  | 0, _, _, _ => False
  | n + 1, x4, x6, m => (RL x6) ∧ (if x6 = 0 then Q x4 m else (RL x4) ∧ (x6 ≠ 0) ∧ P_X8_common_12 Q n x6 (Int.tmod x4 x6) m)
def P_X8_common (x0 : Int) (x2 : Int) (m : MM) (Q : Int → MM → Prop) : Prop := P_J4_abs x0 m (fun r1 m1 => P_J4_abs x2 m1 (fun r2 m2 => ∃ nn, P_X8_common_12 Q nn r1 r2 m2))
theorem pl_X8_common_12 {f : Nat} {Q : Int → MM → Prop} {T : MM → Prop} (hf : 2 ≤ f) : ∀ (n : Nat) (x4 : Int) (x6 : Int) (m : MM), P_X8_common_12 Q n x4 x6 m → B f M_X8_common 12 [vU, vU, vU, vU, vL x4, vU, vL x6, vU, vU, vU] [] m Q T := by
  intro n
  induction n with
  | zero => intro x4 x6 m h; exact h.elim
  | succ n ih =>
    intro x4 x6 m h
    have h : (RL x6) ∧ (if x6 = 0 then Q x4 m else (RL x4) ∧ (x6 ≠ 0) ∧ P_X8_common_12 Q n x6 (Int.tmod x4 x6) m) := h
    refine b_lload dX8_common_12 rfl ?_
    refine b_lconst 0 dX8_common_14 (by decide) ?_
    obtain ⟨g1, h⟩ := h
    refine b_lc_eq 37 dX8_common_15 dX8_common_16 g1 (by decide) (by decide) (fun c1 => ?_) (fun c1 => ?_)
    · have h := ifT c1 h
      refine b_lload dX8_common_37 rfl ?_
      exact b_lret dX8_common_39 rfl h
    · have h := ifF c1 h
      refine b_lload dX8_common_19 rfl ?_
      refine b_lload dX8_common_21 rfl ?_
      obtain ⟨g2, h⟩ := h
      obtain ⟨g3, h⟩ := h
      refine b_lrem dX8_common_23 g2 g1 g3 ?_
      refine b_lstore (ls' := [vU, vU, vU, vU, vL x4, vU, vL x6, vU, vL (Int.tmod x4 x6), vU]) dX8_common_24 (Nat.le_of_ble_eq_true rfl) rfl ?_
      refine b_lload dX8_common_26 rfl ?_
      refine b_lstore (ls' := [vU, vU, vU, vU, vL x6, vU, vL x6, vU, vL (Int.tmod x4 x6), vU]) dX8_common_28 (Nat.le_of_ble_eq_true rfl) rfl ?_
      refine b_lload dX8_common_30 rfl ?_
      refine b_lstore (ls' := [vU, vU, vU, vU, vL x6, vU, vL (Int.tmod x4 x6), vU, vL (Int.tmod x4 x6), vU]) dX8_common_32 (Nat.le_of_ble_eq_true rfl) rfl ?_
      refine b_goto 12 dX8_common_34 (by decide) ?_
      refine b_fgt [false, false, false, false, true, false, true, false, false, false] (ls' := [vU, vU, vU, vU, vL x6, vU, vL (Int.tmod x4 x6), vU, vU, vU]) rfl rfl ?_
      exact ih _ _ _ h
theorem p_X8_common {f : Nat} {Q : Int → MM → Prop} {T : MM → Prop} (hf : 2 ≤ f) (x0 : Int) (x2 : Int) (m : MM) (h : P_X8_common x0 x2 m Q) : CC f M_X8_common [vL x0, vL x2] m Q T := by
  refine CC.of (plainFor_of_name (by decide)) (Nat.le_of_ble_eq_true rfl) (ls := [vL x0, vU, vL x2, vU, vU, vU, vU, vU, vU, vU]) rfl ?_
  have h : P_J4_abs x0 m (fun r1 m1 => P_J4_abs x2 m1 (fun r2 m2 => ∃ nn, P_X8_common_12 Q nn r1 r2 m2)) := h
  refine b_lload_n dX8_common_0 rfl ?_
  refine b_cSl (as := [vL x0]) (st := []) dX8_common_1 mf_J4_abs lk_X8_29 (p_J4_abs (f := 1) (Nat.le_refl _) _ _ h) (by omega) rfl rfl (Nat.le_of_ble_eq_true rfl) (by decide) rfl (fun _ => rfl) (fun r1 m1 h => ?_) (fun _ h => h)
  refine b_lstore (ls' := [vL x0, vU, vL x2, vU, vL r1, vU, vU, vU, vU, vU]) dX8_common_4 (Nat.le_of_ble_eq_true rfl) rfl ?_
  refine b_lload_n dX8_common_6 rfl ?_
  refine b_cSl (as := [vL x2]) (st := []) dX8_common_7 mf_J4_abs lk_X8_29 (p_J4_abs (f := 1) (Nat.le_refl _) _ _ h) (by omega) rfl rfl (Nat.le_of_ble_eq_true rfl) (by decide) rfl (fun _ => rfl) (fun r2 m2 h => ?_) (fun _ h => h)
  refine b_lstore (ls' := [vL x0, vU, vL x2, vU, vL r1, vU, vL r2, vU, vU, vU]) dX8_common_10 (Nat.le_of_ble_eq_true rfl) rfl ?_
  refine b_fgt [false, false, false, false, true, false, true, false, false, false] (ls' := [vU, vU, vU, vU, vL r1, vU, vL r2, vU, vU, vU]) rfl rfl ?_
  obtain ⟨nn, h⟩ := h
  exact pl_X8_common_12 hf nn _ _ _ h
theorem dX8_put_0 : decode cX8_put 0 = .ok (.lload_n 2, 1) := by decide +kernel
theorem dX8_put_1 : decode cX8_put 1 = .ok (.ldc2_w 22, 3) := by decide +kernel
theorem dX8_put_4 : decode cX8_put 4 = .ok (.lcmp, 1) := by decide +kernel
theorem dX8_put_5 : decode cX8_put 5 = .ok (.ifCond .gt 20, 3) := by decide +kernel
theorem dX8_put_8 : decode cX8_put 8 = .ok (.lload_n 2, 1) := by decide +kernel
theorem dX8_put_9 : decode cX8_put 9 = .ok (.ldc2_w 24, 3) := by decide +kernel
theorem dX8_put_12 : decode cX8_put 12 = .ok (.lcmp, 1) := by decide +kernel
theorem dX8_put_13 : decode cX8_put 13 = .ok (.ifCond .lt 12, 3) := by decide +kernel
theorem dX8_put_16 : decode cX8_put 16 = .ok (.lload 4, 2) := by decide +kernel
theorem dX8_put_18 : decode cX8_put 18 = .ok (.ldc2_w 22, 3) := by decide +kernel
theorem dX8_put_21 : decode cX8_put 21 = .ok (.lcmp, 1) := by decide +kernel
theorem dX8_put_22 : decode cX8_put 22 = .ok (.ifCond .le 9, 3) := by decide +kernel
theorem dX8_put_25 : decode cX8_put 25 = .ok (.aload_n 0, 1) := by decide +kernel
theorem dX8_put_26 : decode cX8_put 26 = .ok (.iconst 1, 1) := by decide +kernel
theorem dX8_put_27 : decode cX8_put 27 = .ok (.putfield 26, 3) := by decide +kernel
theorem dX8_put_30 : decode cX8_put 30 = .ok (.return_, 1) := by decide +kernel
theorem dX8_put_31 : decode cX8_put 31 = .ok (.aload_n 0, 1) := by decide +kernel
theorem dX8_put_32 : decode cX8_put 32 = .ok (.getfield 12, 3) := by decide +kernel
theorem dX8_put_35 : decode cX8_put 35 = .ok (.iload_n 1, 1) := by decide +kernel
theorem dX8_put_36 : decode cX8_put 36 = .ok (.lload_n 2, 1) := by decide +kernel
theorem dX8_put_37 : decode cX8_put 37 = .ok (.l2i, 1) := by decide +kernel
theorem dX8_put_38 : decode cX8_put 38 = .ok (.iastore, 1) := by decide +kernel
theorem dX8_put_39 : decode cX8_put 39 = .ok (.aload_n 0, 1) := by decide +kernel
theorem dX8_put_40 : decode cX8_put 40 = .ok (.getfield 12, 3) := by decide +kernel
theorem dX8_put_43 : decode cX8_put 43 = .ok (.iload_n 1, 1) := by decide +kernel
theorem dX8_put_44 : decode cX8_put 44 = .ok (.iconst 1, 1) := by decide +kernel
theorem dX8_put_45 : decode cX8_put 45 = .ok (.iadd, 1) := by decide +kernel
theorem dX8_put_46 : decode cX8_put 46 = .ok (.lload 4, 2) := by decide +kernel
theorem dX8_put_48 : decode cX8_put 48 = .ok (.l2i, 1) := by decide +kernel
theorem dX8_put_49 : decode cX8_put 49 = .ok (.iastore, 1) := by decide +kernel
theorem dX8_put_50 : decode cX8_put 50 = .ok (.return_, 1) := by decide +kernel
/-! AlgebraHouse$Numbers.put(IJJ)V -/
def P_X8_put (x1 : Int) (x2 : Int) (x4 : Int) (m : MM) (Q : Int → MM → Prop) : Prop := (RL x2) ∧ (if 999999999 < x2 then ∀ m1 : MM, m1 = up m 378 2 1 → Q 0 m1 else (if x2 < (-999999999) then ∀ m2 : MM, m2 = up m 378 2 1 → Q 0 m2 else (RL x4) ∧ (if x4 ≤ 999999999 then (0 ≤ x1 ∧ x1 < 1159540) ∧ ∀ m3 : MM, m3 = up m 379 x1 x2 → (0 ≤ (x1 + 1) ∧ (x1 + 1) < 1159540) ∧ ∀ m4 : MM, m4 = up m3 379 (x1 + 1) x4 → Q 0 m4 else ∀ m5 : MM, m5 = up m 378 2 1 → Q 0 m5)))
theorem p_X8_put {f : Nat} {Q : Int → MM → Prop} {T : MM → Prop} (hf : 1 ≤ f) (x1 : Int) (x2 : Int) (x4 : Int) (m : MM) (h : P_X8_put x1 x2 x4 m Q) : CC f M_X8_put [vR 378, vI x1, vL x2, vL x4] m Q T := by
  refine CC.of (plainFor_of_name (by decide)) (Nat.le_of_ble_eq_true rfl) (ls := [vR 378, vI x1, vL x2, vU, vL x4, vU]) rfl ?_
  have h : (RL x2) ∧ (if 999999999 < x2 then ∀ m1 : MM, m1 = up m 378 2 1 → Q 0 m1 else (if x2 < (-999999999) then ∀ m2 : MM, m2 = up m 378 2 1 → Q 0 m2 else (RL x4) ∧ (if x4 ≤ 999999999 then (0 ≤ x1 ∧ x1 < 1159540) ∧ ∀ m3 : MM, m3 = up m 379 x1 x2 → (0 ≤ (x1 + 1) ∧ (x1 + 1) < 1159540) ∧ ∀ m4 : MM, m4 = up m3 379 (x1 + 1) x4 → Q 0 m4 else ∀ m5 : MM, m5 = up m 378 2 1 → Q 0 m5))) := h
  refine b_lload_n dX8_put_0 rfl ?_
  refine b_ldc2 (999999999) dX8_put_1 q1392 (by decide) ?_
  obtain ⟨g1, h⟩ := h
  refine b_lc_gt 25 dX8_put_4 dX8_put_5 g1 (by decide) (by decide) (fun c1 => ?_) (fun c1 => ?_)
  · have h := ifT c1 h
    refine b_aload_n dX8_put_25 rfl ?_
    refine b_iconst dX8_put_26 ?_
    refine b_putI dX8_put_27 fk_X8_26 ly_378 (fun m1 em1 => ?_)
    have h := h m1 em1
    exact b_vret dX8_put_30 rfl h
  · have h := ifF c1 h
    refine b_lload_n dX8_put_8 rfl ?_
    refine b_ldc2 (-999999999) dX8_put_9 q1393 (by decide) ?_
    refine b_lc_lt 25 dX8_put_12 dX8_put_13 g1 (by decide) (by decide) (fun c2 => ?_) (fun c2 => ?_)
    · have h := ifT c2 h
      refine b_aload_n dX8_put_25 rfl ?_
      refine b_iconst dX8_put_26 ?_
      refine b_putI dX8_put_27 fk_X8_26 ly_378 (fun m2 em2 => ?_)
      have h := h m2 em2
      exact b_vret dX8_put_30 rfl h
    · have h := ifF c2 h
      refine b_lload dX8_put_16 rfl ?_
      refine b_ldc2 (999999999) dX8_put_18 q1392 (by decide) ?_
      obtain ⟨g2, h⟩ := h
      refine b_lc_le 31 dX8_put_21 dX8_put_22 g2 (by decide) (by decide) (fun c3 => ?_) (fun c3 => ?_)
      · have h := ifT c3 h
        refine b_aload_n dX8_put_31 rfl ?_
        refine b_getR dX8_put_32 fk_X8_12 ly_378 gg_378_0 ?_
        refine b_iload_n dX8_put_35 rfl ?_
        refine b_lload_n dX8_put_36 rfl ?_
        refine b_l2i dX8_put_37 ?_
        obtain ⟨g3, h⟩ := h
        refine b_iast dX8_put_38 ly_379 g3 (fun m3 em3 => ?_)
        have h := h m3 em3
        refine b_aload_n dX8_put_39 rfl ?_
        refine b_getR dX8_put_40 fk_X8_12 ly_378 gg_378_0 ?_
        refine b_iload_n dX8_put_43 rfl ?_
        refine b_iconst dX8_put_44 ?_
        refine b_iadd dX8_put_45 ?_
        refine b_lload dX8_put_46 rfl ?_
        refine b_l2i dX8_put_48 ?_
        obtain ⟨g4, h⟩ := h
        refine b_iast dX8_put_49 ly_379 g4 (fun m4 em4 => ?_)
        have h := h m4 em4
        exact b_vret dX8_put_50 rfl h
      · have h := ifF c3 h
        refine b_aload_n dX8_put_25 rfl ?_
        refine b_iconst dX8_put_26 ?_
        refine b_putI dX8_put_27 fk_X8_26 ly_378 (fun m5 em5 => ?_)
        have h := h m5 em5
        exact b_vret dX8_put_30 rfl h
theorem dX8_least_0 : decode cX8_least 0 = .ok (.lload_n 2, 1) := by decide +kernel
theorem dX8_least_1 : decode cX8_least 1 = .ok (.lload 4, 2) := by decide +kernel
theorem dX8_least_3 : decode cX8_least 3 = .ok (.invokestatic 35, 3) := by decide +kernel
theorem dX8_least_6 : decode cX8_least 6 = .ok (.lstore 6, 2) := by decide +kernel
theorem dX8_least_8 : decode cX8_least 8 = .ok (.aload_n 0, 1) := by decide +kernel
theorem dX8_least_9 : decode cX8_least 9 = .ok (.iload_n 1, 1) := by decide +kernel
theorem dX8_least_10 : decode cX8_least 10 = .ok (.lload 4, 2) := by decide +kernel
theorem dX8_least_12 : decode cX8_least 12 = .ok (.lconst 0, 1) := by decide +kernel
theorem dX8_least_13 : decode cX8_least 13 = .ok (.lcmp, 1) := by decide +kernel
theorem dX8_least_14 : decode cX8_least 14 = .ok (.ifCond .ge 11, 3) := by decide +kernel
theorem dX8_least_17 : decode cX8_least 17 = .ok (.lload_n 2, 1) := by decide +kernel
theorem dX8_least_18 : decode cX8_least 18 = .ok (.lneg, 1) := by decide +kernel
theorem dX8_least_19 : decode cX8_least 19 = .ok (.lload 6, 2) := by decide +kernel
theorem dX8_least_21 : decode cX8_least 21 = .ok (.ldiv, 1) := by decide +kernel
theorem dX8_least_22 : decode cX8_least 22 = .ok (.goto 7, 3) := by decide +kernel
theorem dX8_least_25 : decode cX8_least 25 = .ok (.lload_n 2, 1) := by decide +kernel
theorem dX8_least_26 : decode cX8_least 26 = .ok (.lload 6, 2) := by decide +kernel
theorem dX8_least_28 : decode cX8_least 28 = .ok (.ldiv, 1) := by decide +kernel
theorem dX8_least_29 : decode cX8_least 29 = .ok (.lload 4, 2) := by decide +kernel
theorem dX8_least_31 : decode cX8_least 31 = .ok (.invokestatic 29, 3) := by decide +kernel
theorem dX8_least_34 : decode cX8_least 34 = .ok (.lload 6, 2) := by decide +kernel
theorem dX8_least_36 : decode cX8_least 36 = .ok (.ldiv, 1) := by decide +kernel
theorem dX8_least_37 : decode cX8_least 37 = .ok (.invokevirtual 39, 3) := by decide +kernel
theorem dX8_least_40 : decode cX8_least 40 = .ok (.return_, 1) := by decide +kernel
/-! AlgebraHouse$Numbers.least(IJJ)V -/
def P_X8_least (x1 : Int) (x2 : Int) (x4 : Int) (m : MM) (Q : Int → MM → Prop) : Prop := P_X8_common x2 x4 m (fun r1 m1 => ((RL x4) ∧ (if 0 ≤ x4 then ((RL x2) ∧ (RL r1) ∧ (r1 ≠ 0)) else ((RL (-x2)) ∧ (RL r1) ∧ (r1 ≠ 0)))) ∧ P_J4_abs x4 m1 (fun r2 m2 => (RL r2) ∧ (RL r1) ∧ (r1 ≠ 0) ∧ P_X8_put x1 (if 0 ≤ x4 then (Int.tdiv x2 r1) else (Int.tdiv (-x2) r1) : Int) (Int.tdiv r2 r1) m2 (fun r3 m3 => Q 0 m3)))
theorem p_X8_least {f : Nat} {Q : Int → MM → Prop} {T : MM → Prop} (hf : 3 ≤ f) (x1 : Int) (x2 : Int) (x4 : Int) (m : MM) (h : P_X8_least x1 x2 x4 m Q) : CC f M_X8_least [vR 378, vI x1, vL x2, vL x4] m Q T := by
  refine CC.of (plainFor_of_name (by decide)) (Nat.le_of_ble_eq_true rfl) (ls := [vR 378, vI x1, vL x2, vU, vL x4, vU, vU, vU]) rfl ?_
  have h : P_X8_common x2 x4 m (fun r1 m1 => ((RL x4) ∧ (if 0 ≤ x4 then ((RL x2) ∧ (RL r1) ∧ (r1 ≠ 0)) else ((RL (-x2)) ∧ (RL r1) ∧ (r1 ≠ 0)))) ∧ P_J4_abs x4 m1 (fun r2 m2 => (RL r2) ∧ (RL r1) ∧ (r1 ≠ 0) ∧ P_X8_put x1 (if 0 ≤ x4 then (Int.tdiv x2 r1) else (Int.tdiv (-x2) r1) : Int) (Int.tdiv r2 r1) m2 (fun r3 m3 => Q 0 m3))) := h
  refine b_lload_n dX8_least_0 rfl ?_
  refine b_lload dX8_least_1 rfl ?_
  refine b_cSl (as := [vL x2, vL x4]) (st := []) dX8_least_3 mf_X8_common lk_X8_35 (p_X8_common (f := 2) (Nat.le_refl _) _ _ _ h) (by omega) rfl rfl (Nat.le_of_ble_eq_true rfl) (by decide) rfl (fun _ => rfl) (fun r1 m1 h => ?_) (fun _ h => h)
  refine b_lstore (ls' := [vR 378, vI x1, vL x2, vU, vL x4, vU, vL r1, vU]) dX8_least_6 (Nat.le_of_ble_eq_true rfl) rfl ?_
  refine b_aload_n dX8_least_8 rfl ?_
  refine b_iload_n dX8_least_9 rfl ?_
  refine b_lload dX8_least_10 rfl ?_
  refine b_lconst 0 dX8_least_12 (by decide) ?_
  obtain ⟨hs, h⟩ := h
  have K : B f M_X8_least 29 [vR 378, vI x1, vL x2, vU, vL x4, vU, vL r1, vU] [vL (if 0 ≤ x4 then (Int.tdiv x2 r1) else (Int.tdiv (-x2) r1) : Int), vI x1, vR 378] m1 Q T := by
    clear hs
    refine b_lload dX8_least_29 rfl ?_
    refine b_cSl (as := [vL x4]) (st := [vL (if 0 ≤ x4 then (Int.tdiv x2 r1) else (Int.tdiv (-x2) r1) : Int), vI x1, vR 378]) dX8_least_31 mf_J4_abs lk_X8_29 (p_J4_abs (f := 1) (Nat.le_refl _) _ _ h) (by omega) rfl rfl (Nat.le_of_ble_eq_true rfl) (by decide) rfl (fun _ => rfl) (fun r2 m2 h => ?_) (fun _ h => h)
    refine b_lload dX8_least_34 rfl ?_
    obtain ⟨g8, h⟩ := h
    obtain ⟨g9, h⟩ := h
    obtain ⟨g10, h⟩ := h
    refine b_ldiv dX8_least_36 g8 g9 g10 ?_
    refine b_cVv (as := [vI x1, vL (if 0 ≤ x4 then (Int.tdiv x2 r1) else (Int.tdiv (-x2) r1) : Int), vL (Int.tdiv r2 r1)]) (st := []) dX8_least_37 mf_X8_put qs71 lk_X8_39 ly_378 rfl (p_X8_put (f := 1) (Nat.le_refl _) _ _ _ _ h) (by omega) rfl rfl (Nat.le_of_ble_eq_true rfl) (by decide) rfl (fun _ => rfl) (fun r3 m3 h => ?_) (fun _ h => h)
    exact b_vret dX8_least_40 rfl h
  obtain ⟨g1, hs⟩ := hs
  refine b_lc_ge 25 dX8_least_13 dX8_least_14 g1 (by decide) (by decide) (fun c1 => ?_) (fun c1 => ?_)
  ·
    have hs := ifT c1 hs
    obtain ⟨g2, g3, g4⟩ := hs
    refine b_lload_n dX8_least_25 rfl ?_
    refine b_lload dX8_least_26 rfl ?_
    refine b_ldiv dX8_least_28 g2 g3 g4 ?_
    rw [if_pos c1] at K
    exact K
  ·
    have hs := ifF c1 hs
    obtain ⟨g5, g6, g7⟩ := hs
    refine b_lload_n dX8_least_17 rfl ?_
    refine b_lneg dX8_least_18 ?_
    refine b_lload dX8_least_19 rfl ?_
    refine b_ldiv dX8_least_21 g5 g6 g7 ?_
    refine b_goto 29 dX8_least_22 (by decide) ?_
    rw [if_neg c1] at K
    exact K
theorem dX8_modulus_0 : decode cX8_modulus 0 = .ok (.iload_n 1, 1) := by decide +kernel
theorem dX8_modulus_1 : decode cX8_modulus 1 = .ok (.sipush 20000, 3) := by decide +kernel
theorem dX8_modulus_4 : decode cX8_modulus 4 = .ok (.if_icmp .lt 10, 3) := by decide +kernel
theorem dX8_modulus_7 : decode cX8_modulus 7 = .ok (.aload_n 0, 1) := by decide +kernel
theorem dX8_modulus_8 : decode cX8_modulus 8 = .ok (.getfield 18, 3) := by decide +kernel
theorem dX8_modulus_11 : decode cX8_modulus 11 = .ok (.goto 4, 3) := by decide +kernel
theorem dX8_modulus_14 : decode cX8_modulus 14 = .ok (.iload_n 1, 1) := by decide +kernel
theorem dX8_modulus_15 : decode cX8_modulus 15 = .ok (.ireturn, 1) := by decide +kernel
/-! AlgebraHouse$Numbers.modulus(I)I -/
def P_X8_modulus (x1 : Int) (m : MM) (Q : Int → MM → Prop) : Prop := (RI x1) ∧ (if x1 < 20000 then Q x1 m else Q (m 378 1) m)
theorem p_X8_modulus {f : Nat} {Q : Int → MM → Prop} {T : MM → Prop} (hf : 1 ≤ f) (x1 : Int) (m : MM) (h : P_X8_modulus x1 m Q) : CC f M_X8_modulus [vR 378, vI x1] m Q T := by
  refine CC.of (plainFor_of_name (by decide)) (Nat.le_of_ble_eq_true rfl) (ls := [vR 378, vI x1]) rfl ?_
  have h : (RI x1) ∧ (if x1 < 20000 then Q x1 m else Q (m 378 1) m) := h
  refine b_iload_n dX8_modulus_0 rfl ?_
  refine b_sipush dX8_modulus_1 (by decide) ?_
  obtain ⟨g1, h⟩ := h
  refine b_icmp_lt 14 dX8_modulus_4 g1 (by decide) (by decide) (fun c1 => ?_) (fun c1 => ?_)
  · have h := ifT c1 h
    refine b_iload_n dX8_modulus_14 rfl ?_
    exact b_iret dX8_modulus_15 rfl h
  · have h := ifF c1 h
    refine b_aload_n dX8_modulus_7 rfl ?_
    refine b_getI dX8_modulus_8 fk_X8_18 ly_378 ?_
    refine b_goto 15 dX8_modulus_11 (by decide) ?_
    exact b_iret dX8_modulus_15 rfl h
theorem dX8_add_0 : decode cX8_add 0 = .ok (.aload_n 0, 1) := by decide +kernel
theorem dX8_add_1 : decode cX8_add 1 = .ok (.iload_n 1, 1) := by decide +kernel
theorem dX8_add_2 : decode cX8_add 2 = .ok (.invokevirtual 49, 3) := by decide +kernel
theorem dX8_add_5 : decode cX8_add 5 = .ok (.istore 6, 2) := by decide +kernel
theorem dX8_add_7 : decode cX8_add 7 = .ok (.aload_n 0, 1) := by decide +kernel
theorem dX8_add_8 : decode cX8_add 8 = .ok (.getfield 12, 3) := by decide +kernel
theorem dX8_add_11 : decode cX8_add 11 = .ok (.iload_n 2, 1) := by decide +kernel
theorem dX8_add_12 : decode cX8_add 12 = .ok (.iaload, 1) := by decide +kernel
theorem dX8_add_13 : decode cX8_add 13 = .ok (.i2l, 1) := by decide +kernel
theorem dX8_add_14 : decode cX8_add 14 = .ok (.lstore 7, 2) := by decide +kernel
theorem dX8_add_16 : decode cX8_add 16 = .ok (.iload 5, 2) := by decide +kernel
theorem dX8_add_18 : decode cX8_add 18 = .ok (.ifCond .eq 14, 3) := by decide +kernel
theorem dX8_add_21 : decode cX8_add 21 = .ok (.aload_n 0, 1) := by decide +kernel
theorem dX8_add_22 : decode cX8_add 22 = .ok (.getfield 12, 3) := by decide +kernel
theorem dX8_add_25 : decode cX8_add 25 = .ok (.iload_n 3, 1) := by decide +kernel
theorem dX8_add_26 : decode cX8_add 26 = .ok (.iaload, 1) := by decide +kernel
theorem dX8_add_27 : decode cX8_add 27 = .ok (.i2l, 1) := by decide +kernel
theorem dX8_add_28 : decode cX8_add 28 = .ok (.lneg, 1) := by decide +kernel
theorem dX8_add_29 : decode cX8_add 29 = .ok (.goto 10, 3) := by decide +kernel
theorem dX8_add_32 : decode cX8_add 32 = .ok (.aload_n 0, 1) := by decide +kernel
theorem dX8_add_33 : decode cX8_add 33 = .ok (.getfield 12, 3) := by decide +kernel
theorem dX8_add_36 : decode cX8_add 36 = .ok (.iload_n 3, 1) := by decide +kernel
theorem dX8_add_37 : decode cX8_add 37 = .ok (.iaload, 1) := by decide +kernel
theorem dX8_add_38 : decode cX8_add 38 = .ok (.i2l, 1) := by decide +kernel
theorem dX8_add_39 : decode cX8_add 39 = .ok (.lstore 9, 2) := by decide +kernel
theorem dX8_add_41 : decode cX8_add 41 = .ok (.iload 6, 2) := by decide +kernel
theorem dX8_add_43 : decode cX8_add 43 = .ok (.ifCond .ne 18, 3) := by decide +kernel
theorem dX8_add_46 : decode cX8_add 46 = .ok (.aload_n 0, 1) := by decide +kernel
theorem dX8_add_47 : decode cX8_add 47 = .ok (.iload 4, 2) := by decide +kernel
theorem dX8_add_49 : decode cX8_add 49 = .ok (.lload 7, 2) := by decide +kernel
theorem dX8_add_51 : decode cX8_add 51 = .ok (.lload 9, 2) := by decide +kernel
theorem dX8_add_53 : decode cX8_add 53 = .ok (.ladd, 1) := by decide +kernel
theorem dX8_add_54 : decode cX8_add 54 = .ok (.lconst 1, 1) := by decide +kernel
theorem dX8_add_55 : decode cX8_add 55 = .ok (.invokevirtual 39, 3) := by decide +kernel
theorem dX8_add_58 : decode cX8_add 58 = .ok (.goto 80, 3) := by decide +kernel
theorem dX8_add_61 : decode cX8_add 61 = .ok (.iload 6, 2) := by decide +kernel
theorem dX8_add_63 : decode cX8_add 63 = .ok (.iconst 1, 1) := by decide +kernel
theorem dX8_add_64 : decode cX8_add 64 = .ok (.if_icmp .ne 56, 3) := by decide +kernel
theorem dX8_add_67 : decode cX8_add 67 = .ok (.aload_n 0, 1) := by decide +kernel
theorem dX8_add_68 : decode cX8_add 68 = .ok (.iload 4, 2) := by decide +kernel
theorem dX8_add_70 : decode cX8_add 70 = .ok (.lload 7, 2) := by decide +kernel
theorem dX8_add_72 : decode cX8_add 72 = .ok (.aload_n 0, 1) := by decide +kernel
theorem dX8_add_73 : decode cX8_add 73 = .ok (.getfield 12, 3) := by decide +kernel
theorem dX8_add_76 : decode cX8_add 76 = .ok (.iload_n 3, 1) := by decide +kernel
theorem dX8_add_77 : decode cX8_add 77 = .ok (.iconst 1, 1) := by decide +kernel
theorem dX8_add_78 : decode cX8_add 78 = .ok (.iadd, 1) := by decide +kernel
theorem dX8_add_79 : decode cX8_add 79 = .ok (.iaload, 1) := by decide +kernel
theorem dX8_add_80 : decode cX8_add 80 = .ok (.i2l, 1) := by decide +kernel
theorem dX8_add_81 : decode cX8_add 81 = .ok (.lmul, 1) := by decide +kernel
theorem dX8_add_82 : decode cX8_add 82 = .ok (.lload 9, 2) := by decide +kernel
theorem dX8_add_84 : decode cX8_add 84 = .ok (.aload_n 0, 1) := by decide +kernel
theorem dX8_add_85 : decode cX8_add 85 = .ok (.getfield 12, 3) := by decide +kernel
theorem dX8_add_88 : decode cX8_add 88 = .ok (.iload_n 2, 1) := by decide +kernel
theorem dX8_add_89 : decode cX8_add 89 = .ok (.iconst 1, 1) := by decide +kernel
theorem dX8_add_90 : decode cX8_add 90 = .ok (.iadd, 1) := by decide +kernel
theorem dX8_add_91 : decode cX8_add 91 = .ok (.iaload, 1) := by decide +kernel
theorem dX8_add_92 : decode cX8_add 92 = .ok (.i2l, 1) := by decide +kernel
theorem dX8_add_93 : decode cX8_add 93 = .ok (.lmul, 1) := by decide +kernel
theorem dX8_add_94 : decode cX8_add 94 = .ok (.ladd, 1) := by decide +kernel
theorem dX8_add_95 : decode cX8_add 95 = .ok (.aload_n 0, 1) := by decide +kernel
theorem dX8_add_96 : decode cX8_add 96 = .ok (.getfield 12, 3) := by decide +kernel
theorem dX8_add_99 : decode cX8_add 99 = .ok (.iload_n 2, 1) := by decide +kernel
theorem dX8_add_100 : decode cX8_add 100 = .ok (.iconst 1, 1) := by decide +kernel
theorem dX8_add_101 : decode cX8_add 101 = .ok (.iadd, 1) := by decide +kernel
theorem dX8_add_102 : decode cX8_add 102 = .ok (.iaload, 1) := by decide +kernel
theorem dX8_add_103 : decode cX8_add 103 = .ok (.i2l, 1) := by decide +kernel
theorem dX8_add_104 : decode cX8_add 104 = .ok (.aload_n 0, 1) := by decide +kernel
theorem dX8_add_105 : decode cX8_add 105 = .ok (.getfield 12, 3) := by decide +kernel
theorem dX8_add_108 : decode cX8_add 108 = .ok (.iload_n 3, 1) := by decide +kernel
theorem dX8_add_109 : decode cX8_add 109 = .ok (.iconst 1, 1) := by decide +kernel
theorem dX8_add_110 : decode cX8_add 110 = .ok (.iadd, 1) := by decide +kernel
theorem dX8_add_111 : decode cX8_add 111 = .ok (.iaload, 1) := by decide +kernel
theorem dX8_add_112 : decode cX8_add 112 = .ok (.i2l, 1) := by decide +kernel
theorem dX8_add_113 : decode cX8_add 113 = .ok (.lmul, 1) := by decide +kernel
theorem dX8_add_114 : decode cX8_add 114 = .ok (.invokevirtual 53, 3) := by decide +kernel
theorem dX8_add_117 : decode cX8_add 117 = .ok (.goto 21, 3) := by decide +kernel
theorem dX8_add_120 : decode cX8_add 120 = .ok (.aload_n 0, 1) := by decide +kernel
theorem dX8_add_121 : decode cX8_add 121 = .ok (.iload 4, 2) := by decide +kernel
theorem dX8_add_123 : decode cX8_add 123 = .ok (.lload 7, 2) := by decide +kernel
theorem dX8_add_125 : decode cX8_add 125 = .ok (.lload 9, 2) := by decide +kernel
theorem dX8_add_127 : decode cX8_add 127 = .ok (.ladd, 1) := by decide +kernel
theorem dX8_add_128 : decode cX8_add 128 = .ok (.iload 6, 2) := by decide +kernel
theorem dX8_add_130 : decode cX8_add 130 = .ok (.i2l, 1) := by decide +kernel
theorem dX8_add_131 : decode cX8_add 131 = .ok (.invokestatic 56, 3) := by decide +kernel
theorem dX8_add_134 : decode cX8_add 134 = .ok (.lconst 1, 1) := by decide +kernel
theorem dX8_add_135 : decode cX8_add 135 = .ok (.invokevirtual 39, 3) := by decide +kernel
theorem dX8_add_138 : decode cX8_add 138 = .ok (.return_, 1) := by decide +kernel
/-! AlgebraHouse$Numbers.add(IIIIZ)V -/
def P_X8_add (x1 : Int) (x2 : Int) (x3 : Int) (x4 : Int) (x5 : Int) (m : MM) (Q : Int → MM → Prop) : Prop := P_X8_modulus x1 m (fun r1 m1 => (0 ≤ x2 ∧ x2 < 1159540) ∧ (RI (m1 379 x2)) ∧ ((RI x5) ∧ (if x5 = 0 then ((0 ≤ x3 ∧ x3 < 1159540) ∧ (RI (m1 379 x3))) else ((0 ≤ x3 ∧ x3 < 1159540) ∧ (RI (m1 379 x3))))) ∧ (RI r1) ∧ (if r1 = 0 then P_X8_put x4 ((m1 379 x2) + (if x5 = 0 then (m1 379 x3) else (-(m1 379 x3)) : Int)) 1 m1 (fun r5 m5 => Q 0 m5) else (if r1 = 1 then (0 ≤ (x3 + 1) ∧ (x3 + 1) < 1159540) ∧ (RI (m1 379 (x3 + 1))) ∧ (0 ≤ (x2 + 1) ∧ (x2 + 1) < 1159540) ∧ (RI (m1 379 (x2 + 1))) ∧ P_X8_least x4 (((m1 379 x2) * (m1 379 (x3 + 1))) + ((if x5 = 0 then (m1 379 x3) else (-(m1 379 x3)) : Int) * (m1 379 (x2 + 1)))) ((m1 379 (x2 + 1)) * (m1 379 (x3 + 1))) m1 (fun r4 m4 => Q 0 m4) else P_J4_floorMod_2 ((m1 379 x2) + (if x5 = 0 then (m1 379 x3) else (-(m1 379 x3)) : Int)) r1 m1 (fun r2 m2 => P_X8_put x4 r2 1 m2 (fun r3 m3 => Q 0 m3)))))
theorem p_X8_add {f : Nat} {Q : Int → MM → Prop} {T : MM → Prop} (hf : 4 ≤ f) (x1 : Int) (x2 : Int) (x3 : Int) (x4 : Int) (x5 : Int) (m : MM) (h : P_X8_add x1 x2 x3 x4 x5 m Q) : CC f M_X8_add [vR 378, vI x1, vI x2, vI x3, vI x4, vI x5] m Q T := by
  refine CC.of (plainFor_of_name (by decide)) (Nat.le_of_ble_eq_true rfl) (ls := [vR 378, vI x1, vI x2, vI x3, vI x4, vI x5, vU, vU, vU, vU, vU]) rfl ?_
  have h : P_X8_modulus x1 m (fun r1 m1 => (0 ≤ x2 ∧ x2 < 1159540) ∧ (RI (m1 379 x2)) ∧ ((RI x5) ∧ (if x5 = 0 then ((0 ≤ x3 ∧ x3 < 1159540) ∧ (RI (m1 379 x3))) else ((0 ≤ x3 ∧ x3 < 1159540) ∧ (RI (m1 379 x3))))) ∧ (RI r1) ∧ (if r1 = 0 then P_X8_put x4 ((m1 379 x2) + (if x5 = 0 then (m1 379 x3) else (-(m1 379 x3)) : Int)) 1 m1 (fun r5 m5 => Q 0 m5) else (if r1 = 1 then (0 ≤ (x3 + 1) ∧ (x3 + 1) < 1159540) ∧ (RI (m1 379 (x3 + 1))) ∧ (0 ≤ (x2 + 1) ∧ (x2 + 1) < 1159540) ∧ (RI (m1 379 (x2 + 1))) ∧ P_X8_least x4 (((m1 379 x2) * (m1 379 (x3 + 1))) + ((if x5 = 0 then (m1 379 x3) else (-(m1 379 x3)) : Int) * (m1 379 (x2 + 1)))) ((m1 379 (x2 + 1)) * (m1 379 (x3 + 1))) m1 (fun r4 m4 => Q 0 m4) else P_J4_floorMod_2 ((m1 379 x2) + (if x5 = 0 then (m1 379 x3) else (-(m1 379 x3)) : Int)) r1 m1 (fun r2 m2 => P_X8_put x4 r2 1 m2 (fun r3 m3 => Q 0 m3))))) := h
  refine b_aload_n dX8_add_0 rfl ?_
  refine b_iload_n dX8_add_1 rfl ?_
  refine b_cVi (as := [vI x1]) (st := []) dX8_add_2 mf_X8_modulus qs66 lk_X8_49 ly_378 rfl (p_X8_modulus (f := 1) (Nat.le_refl _) _ _ h) (by omega) rfl rfl (Nat.le_of_ble_eq_true rfl) (by decide) rfl (fun _ => rfl) (fun r1 m1 h => ?_) (fun _ h => h)
  refine b_istore (ls' := [vR 378, vI x1, vI x2, vI x3, vI x4, vI x5, vI r1, vU, vU, vU, vU]) dX8_add_5 (Nat.le_of_ble_eq_true rfl) rfl ?_
  refine b_aload_n dX8_add_7 rfl ?_
  refine b_getR dX8_add_8 fk_X8_12 ly_378 gg_378_0 ?_
  refine b_iload_n dX8_add_11 rfl ?_
  obtain ⟨g1, h⟩ := h
  refine b_iald dX8_add_12 ly_379 g1 ?_
  obtain ⟨g2, h⟩ := h
  refine b_i2l dX8_add_13 g2 ?_
  refine b_lstore (ls' := [vR 378, vI x1, vI x2, vI x3, vI x4, vI x5, vI r1, vL (m1 379 x2), vU, vU, vU]) dX8_add_14 (Nat.le_of_ble_eq_true rfl) rfl ?_
  refine b_iload dX8_add_16 rfl ?_
  obtain ⟨hs, h⟩ := h
  have K : B f M_X8_add 39 [vR 378, vI x1, vI x2, vI x3, vI x4, vI x5, vI r1, vL (m1 379 x2), vU, vU, vU] [vL (if x5 = 0 then (m1 379 x3) else (-(m1 379 x3)) : Int)] m1 Q T := by
    clear hs
    refine b_lstore (ls' := [vR 378, vI x1, vI x2, vI x3, vI x4, vI x5, vI r1, vL (m1 379 x2), vU, vL (if x5 = 0 then (m1 379 x3) else (-(m1 379 x3)) : Int), vU]) dX8_add_39 (Nat.le_of_ble_eq_true rfl) rfl ?_
    refine b_iload dX8_add_41 rfl ?_
    obtain ⟨g8, h⟩ := h
    refine b_if_ne 61 dX8_add_43 g8 (by decide) (fun c1 => ?_) (fun c1 => ?_)
    · have h := ifF c1 h
      refine b_iload dX8_add_61 rfl ?_
      refine b_iconst dX8_add_63 ?_
      refine b_icmp_ne 120 dX8_add_64 g8 (by decide) (by decide) (fun c2 => ?_) (fun c2 => ?_)
      · have h := ifF c2 h
        refine b_aload_n dX8_add_120 rfl ?_
        refine b_iload dX8_add_121 rfl ?_
        refine b_lload dX8_add_123 rfl ?_
        refine b_lload dX8_add_125 rfl ?_
        refine b_ladd dX8_add_127 ?_
        refine b_iload dX8_add_128 rfl ?_
        refine b_i2l dX8_add_130 g8 ?_
        refine b_cSl (as := [vL ((m1 379 x2) + (if x5 = 0 then (m1 379 x3) else (-(m1 379 x3)) : Int)), vL r1]) (st := [vI x4, vR 378]) dX8_add_131 mf_J4_floorMod_2 lk_X8_56 (p_J4_floorMod_2 (f := 1) (Nat.le_refl _) _ _ _ h) (by omega) rfl rfl (Nat.le_of_ble_eq_true rfl) (by decide) rfl (fun _ => rfl) (fun r2 m2 h => ?_) (fun _ h => h)
        refine b_lconst 1 dX8_add_134 (by decide) ?_
        refine b_cVv (as := [vI x4, vL r2, vL 1]) (st := []) dX8_add_135 mf_X8_put qs71 lk_X8_39 ly_378 rfl (p_X8_put (f := 1) (Nat.le_refl _) _ _ _ _ h) (by omega) rfl rfl (Nat.le_of_ble_eq_true rfl) (by decide) rfl (fun _ => rfl) (fun r3 m3 h => ?_) (fun _ h => h)
        exact b_vret dX8_add_138 rfl h
      · have h := ifT (Decidable.of_not_not c2) h
        refine b_aload_n dX8_add_67 rfl ?_
        refine b_iload dX8_add_68 rfl ?_
        refine b_lload dX8_add_70 rfl ?_
        refine b_aload_n dX8_add_72 rfl ?_
        refine b_getR dX8_add_73 fk_X8_12 ly_378 gg_378_0 ?_
        refine b_iload_n dX8_add_76 rfl ?_
        refine b_iconst dX8_add_77 ?_
        refine b_iadd dX8_add_78 ?_
        obtain ⟨g9, h⟩ := h
        refine b_iald dX8_add_79 ly_379 g9 ?_
        obtain ⟨g10, h⟩ := h
        refine b_i2l dX8_add_80 g10 ?_
        refine b_lmul dX8_add_81 ?_
        refine b_lload dX8_add_82 rfl ?_
        refine b_aload_n dX8_add_84 rfl ?_
        refine b_getR dX8_add_85 fk_X8_12 ly_378 gg_378_0 ?_
        refine b_iload_n dX8_add_88 rfl ?_
        refine b_iconst dX8_add_89 ?_
        refine b_iadd dX8_add_90 ?_
        obtain ⟨g11, h⟩ := h
        refine b_iald dX8_add_91 ly_379 g11 ?_
        obtain ⟨g12, h⟩ := h
        refine b_i2l dX8_add_92 g12 ?_
        refine b_lmul dX8_add_93 ?_
        refine b_ladd dX8_add_94 ?_
        refine b_aload_n dX8_add_95 rfl ?_
        refine b_getR dX8_add_96 fk_X8_12 ly_378 gg_378_0 ?_
        refine b_iload_n dX8_add_99 rfl ?_
        refine b_iconst dX8_add_100 ?_
        refine b_iadd dX8_add_101 ?_
        refine b_iald dX8_add_102 ly_379 g11 ?_
        refine b_i2l dX8_add_103 g12 ?_
        refine b_aload_n dX8_add_104 rfl ?_
        refine b_getR dX8_add_105 fk_X8_12 ly_378 gg_378_0 ?_
        refine b_iload_n dX8_add_108 rfl ?_
        refine b_iconst dX8_add_109 ?_
        refine b_iadd dX8_add_110 ?_
        refine b_iald dX8_add_111 ly_379 g9 ?_
        refine b_i2l dX8_add_112 g10 ?_
        refine b_lmul dX8_add_113 ?_
        refine b_cVv (as := [vI x4, vL (((m1 379 x2) * (m1 379 (x3 + 1))) + ((if x5 = 0 then (m1 379 x3) else (-(m1 379 x3)) : Int) * (m1 379 (x2 + 1)))), vL ((m1 379 (x2 + 1)) * (m1 379 (x3 + 1)))]) (st := []) dX8_add_114 mf_X8_least qs72 lk_X8_53 ly_378 rfl (p_X8_least (f := 3) (Nat.le_refl _) _ _ _ _ h) (by omega) rfl rfl (Nat.le_of_ble_eq_true rfl) (by decide) rfl (fun _ => rfl) (fun r4 m4 h => ?_) (fun _ h => h)
        refine b_goto 138 dX8_add_117 (by decide) ?_
        exact b_vret dX8_add_138 rfl h
    · have h := ifT (Decidable.of_not_not c1) h
      refine b_aload_n dX8_add_46 rfl ?_
      refine b_iload dX8_add_47 rfl ?_
      refine b_lload dX8_add_49 rfl ?_
      refine b_lload dX8_add_51 rfl ?_
      refine b_ladd dX8_add_53 ?_
      refine b_lconst 1 dX8_add_54 (by decide) ?_
      refine b_cVv (as := [vI x4, vL ((m1 379 x2) + (if x5 = 0 then (m1 379 x3) else (-(m1 379 x3)) : Int)), vL 1]) (st := []) dX8_add_55 mf_X8_put qs71 lk_X8_39 ly_378 rfl (p_X8_put (f := 1) (Nat.le_refl _) _ _ _ _ h) (by omega) rfl rfl (Nat.le_of_ble_eq_true rfl) (by decide) rfl (fun _ => rfl) (fun r5 m5 h => ?_) (fun _ h => h)
      refine b_goto 138 dX8_add_58 (by decide) ?_
      exact b_vret dX8_add_138 rfl h
  obtain ⟨g3, hs⟩ := hs
  refine b_if_eq 32 dX8_add_18 g3 (by decide) (fun c3 => ?_) (fun c3 => ?_)
  ·
    have hs := ifT c3 hs
    obtain ⟨g4, g5⟩ := hs
    refine b_aload_n dX8_add_32 rfl ?_
    refine b_getR dX8_add_33 fk_X8_12 ly_378 gg_378_0 ?_
    refine b_iload_n dX8_add_36 rfl ?_
    refine b_iald dX8_add_37 ly_379 g4 ?_
    refine b_i2l dX8_add_38 g5 ?_
    rw [if_pos c3] at K
    exact K
  ·
    have hs := ifF c3 hs
    obtain ⟨g6, g7⟩ := hs
    refine b_aload_n dX8_add_21 rfl ?_
    refine b_getR dX8_add_22 fk_X8_12 ly_378 gg_378_0 ?_
    refine b_iload_n dX8_add_25 rfl ?_
    refine b_iald dX8_add_26 ly_379 g6 ?_
    refine b_i2l dX8_add_27 g7 ?_
    refine b_lneg dX8_add_28 ?_
    refine b_goto 39 dX8_add_29 (by decide) ?_
    rw [if_neg c3] at K
    exact K
theorem dX8_addAll_0 : decode cX8_addAll 0 = .ok (.iconst 0, 1) := by decide +kernel
theorem dX8_addAll_1 : decode cX8_addAll 1 = .ok (.istore 7, 2) := by decide +kernel
theorem dX8_addAll_3 : decode cX8_addAll 3 = .ok (.iload 7, 2) := by decide +kernel
theorem dX8_addAll_5 : decode cX8_addAll 5 = .ok (.iload 5, 2) := by decide +kernel
theorem dX8_addAll_7 : decode cX8_addAll 7 = .ok (.if_icmp .ge 42, 3) := by decide +kernel
theorem dX8_addAll_10 : decode cX8_addAll 10 = .ok (.aload_n 0, 1) := by decide +kernel
theorem dX8_addAll_11 : decode cX8_addAll 11 = .ok (.getfield 26, 3) := by decide +kernel
theorem dX8_addAll_14 : decode cX8_addAll 14 = .ok (.ifCond .ne 35, 3) := by decide +kernel
theorem dX8_addAll_17 : decode cX8_addAll 17 = .ok (.aload_n 0, 1) := by decide +kernel
theorem dX8_addAll_18 : decode cX8_addAll 18 = .ok (.iload_n 1, 1) := by decide +kernel
theorem dX8_addAll_19 : decode cX8_addAll 19 = .ok (.iload_n 2, 1) := by decide +kernel
theorem dX8_addAll_20 : decode cX8_addAll 20 = .ok (.iconst 2, 1) := by decide +kernel
theorem dX8_addAll_21 : decode cX8_addAll 21 = .ok (.iload 7, 2) := by decide +kernel
theorem dX8_addAll_23 : decode cX8_addAll 23 = .ok (.imul, 1) := by decide +kernel
theorem dX8_addAll_24 : decode cX8_addAll 24 = .ok (.iadd, 1) := by decide +kernel
theorem dX8_addAll_25 : decode cX8_addAll 25 = .ok (.iload_n 3, 1) := by decide +kernel
theorem dX8_addAll_26 : decode cX8_addAll 26 = .ok (.iconst 2, 1) := by decide +kernel
theorem dX8_addAll_27 : decode cX8_addAll 27 = .ok (.iload 7, 2) := by decide +kernel
theorem dX8_addAll_29 : decode cX8_addAll 29 = .ok (.imul, 1) := by decide +kernel
theorem dX8_addAll_30 : decode cX8_addAll 30 = .ok (.iadd, 1) := by decide +kernel
theorem dX8_addAll_31 : decode cX8_addAll 31 = .ok (.iload 4, 2) := by decide +kernel
theorem dX8_addAll_33 : decode cX8_addAll 33 = .ok (.iconst 2, 1) := by decide +kernel
theorem dX8_addAll_34 : decode cX8_addAll 34 = .ok (.iload 7, 2) := by decide +kernel
theorem dX8_addAll_36 : decode cX8_addAll 36 = .ok (.imul, 1) := by decide +kernel
theorem dX8_addAll_37 : decode cX8_addAll 37 = .ok (.iadd, 1) := by decide +kernel
theorem dX8_addAll_38 : decode cX8_addAll 38 = .ok (.iload 6, 2) := by decide +kernel
theorem dX8_addAll_40 : decode cX8_addAll 40 = .ok (.invokevirtual 65, 3) := by decide +kernel
theorem dX8_addAll_43 : decode cX8_addAll 43 = .ok (.iinc 7 1, 3) := by decide +kernel
theorem dX8_addAll_46 : decode cX8_addAll 46 = .ok (.goto (-43), 3) := by decide +kernel
theorem dX8_addAll_49 : decode cX8_addAll 49 = .ok (.return_, 1) := by decide +kernel
/-! AlgebraHouse$Numbers.addAll(IIIIIZ)V -/
def P_X8_addAll_3 (Q : Int → MM → Prop) : Nat → Int → Int → Int → Int → Int → Int → Int → MM → Prop
  | 0, _, _, _, _, _, _, _, _ => False
  | n + 1, x1, x2, x3, x4, x5, x6, x7, m => (RI x7) ∧ (RI x5) ∧ (if x5 ≤ x7 then Q 0 m else (RI (m 378 2)) ∧ (if (m 378 2) = 0 then P_X8_add x1 (x2 + (2 * x7)) (x3 + (2 * x7)) (x4 + (2 * x7)) x6 m (fun r1 m1 => P_X8_addAll_3 Q n x1 x2 x3 x4 x5 x6 (x7 + 1) m1) else Q 0 m))
def P_X8_addAll (x1 : Int) (x2 : Int) (x3 : Int) (x4 : Int) (x5 : Int) (x6 : Int) (m : MM) (Q : Int → MM → Prop) : Prop := ∃ nn, P_X8_addAll_3 Q nn x1 x2 x3 x4 x5 x6 0 m
theorem pl_X8_addAll_3 {f : Nat} {Q : Int → MM → Prop} {T : MM → Prop} (hf : 5 ≤ f) : ∀ (n : Nat) (x1 : Int) (x2 : Int) (x3 : Int) (x4 : Int) (x5 : Int) (x6 : Int) (x7 : Int) (m : MM), P_X8_addAll_3 Q n x1 x2 x3 x4 x5 x6 x7 m → B f M_X8_addAll 3 [vR 378, vI x1, vI x2, vI x3, vI x4, vI x5, vI x6, vI x7] [] m Q T := by
  intro n
  induction n with
  | zero => intro x1 x2 x3 x4 x5 x6 x7 m h; exact h.elim
  | succ n ih =>
    intro x1 x2 x3 x4 x5 x6 x7 m h
    have h : (RI x7) ∧ (RI x5) ∧ (if x5 ≤ x7 then Q 0 m else (RI (m 378 2)) ∧ (if (m 378 2) = 0 then P_X8_add x1 (x2 + (2 * x7)) (x3 + (2 * x7)) (x4 + (2 * x7)) x6 m (fun r1 m1 => P_X8_addAll_3 Q n x1 x2 x3 x4 x5 x6 (x7 + 1) m1) else Q 0 m)) := h
    refine b_iload dX8_addAll_3 rfl ?_
    refine b_iload dX8_addAll_5 rfl ?_
    obtain ⟨g1, h⟩ := h
    obtain ⟨g2, h⟩ := h
    refine b_icmp_ge 49 dX8_addAll_7 g1 g2 (by decide) (fun c1 => ?_) (fun c1 => ?_)
    · have h := ifT c1 h
      exact b_vret dX8_addAll_49 rfl h
    · have h := ifF c1 h
      refine b_aload_n dX8_addAll_10 rfl ?_
      refine b_getI dX8_addAll_11 fk_X8_26 ly_378 ?_
      obtain ⟨g3, h⟩ := h
      refine b_if_ne 49 dX8_addAll_14 g3 (by decide) (fun c2 => ?_) (fun c2 => ?_)
      · have h := ifF c2 h
        exact b_vret dX8_addAll_49 rfl h
      · have h := ifT (Decidable.of_not_not c2) h
        refine b_aload_n dX8_addAll_17 rfl ?_
        refine b_iload_n dX8_addAll_18 rfl ?_
        refine b_iload_n dX8_addAll_19 rfl ?_
        refine b_iconst dX8_addAll_20 ?_
        refine b_iload dX8_addAll_21 rfl ?_
        refine b_imul dX8_addAll_23 ?_
        refine b_iadd dX8_addAll_24 ?_
        refine b_iload_n dX8_addAll_25 rfl ?_
        refine b_iconst dX8_addAll_26 ?_
        refine b_iload dX8_addAll_27 rfl ?_
        refine b_imul dX8_addAll_29 ?_
        refine b_iadd dX8_addAll_30 ?_
        refine b_iload dX8_addAll_31 rfl ?_
        refine b_iconst dX8_addAll_33 ?_
        refine b_iload dX8_addAll_34 rfl ?_
        refine b_imul dX8_addAll_36 ?_
        refine b_iadd dX8_addAll_37 ?_
        refine b_iload dX8_addAll_38 rfl ?_
        refine b_cVv (as := [vI x1, vI (x2 + (2 * x7)), vI (x3 + (2 * x7)), vI (x4 + (2 * x7)), vI x6]) (st := []) dX8_addAll_40 mf_X8_add q1413 lk_X8_65 ly_378 rfl (p_X8_add (f := 4) (Nat.le_refl _) _ _ _ _ _ _ h) (by omega) rfl rfl (Nat.le_of_ble_eq_true rfl) (by decide) rfl (fun _ => rfl) (fun r1 m1 h => ?_) (fun _ h => h)
        refine b_iinc (ls' := [vR 378, vI x1, vI x2, vI x3, vI x4, vI x5, vI x6, vI (x7 + 1)]) dX8_addAll_43 rfl rfl ?_
        refine b_goto 3 dX8_addAll_46 (by decide) ?_
        exact ih _ _ _ _ _ _ _ _ h
theorem p_X8_addAll {f : Nat} {Q : Int → MM → Prop} {T : MM → Prop} (hf : 5 ≤ f) (x1 : Int) (x2 : Int) (x3 : Int) (x4 : Int) (x5 : Int) (x6 : Int) (m : MM) (h : P_X8_addAll x1 x2 x3 x4 x5 x6 m Q) : CC f M_X8_addAll [vR 378, vI x1, vI x2, vI x3, vI x4, vI x5, vI x6] m Q T := by
  refine CC.of (plainFor_of_name (by decide)) (Nat.le_of_ble_eq_true rfl) (ls := [vR 378, vI x1, vI x2, vI x3, vI x4, vI x5, vI x6, vU]) rfl ?_
  have h : ∃ nn, P_X8_addAll_3 Q nn x1 x2 x3 x4 x5 x6 0 m := h
  refine b_iconst dX8_addAll_0 ?_
  refine b_istore (ls' := [vR 378, vI x1, vI x2, vI x3, vI x4, vI x5, vI x6, vI 0]) dX8_addAll_1 (Nat.le_of_ble_eq_true rfl) rfl ?_
  obtain ⟨nn, h⟩ := h
  exact pl_X8_addAll_3 hf nn _ _ _ _ _ _ _ _ h
theorem dX8_clear_0 : decode cX8_clear 0 = .ok (.iconst 0, 1) := by decide +kernel
theorem dX8_clear_1 : decode cX8_clear 1 = .ok (.istore_n 3, 1) := by decide +kernel
theorem dX8_clear_2 : decode cX8_clear 2 = .ok (.iload_n 3, 1) := by decide +kernel
theorem dX8_clear_3 : decode cX8_clear 3 = .ok (.iload_n 2, 1) := by decide +kernel
theorem dX8_clear_4 : decode cX8_clear 4 = .ok (.if_icmp .ge 33, 3) := by decide +kernel
theorem dX8_clear_7 : decode cX8_clear 7 = .ok (.aload_n 0, 1) := by decide +kernel
theorem dX8_clear_8 : decode cX8_clear 8 = .ok (.getfield 12, 3) := by decide +kernel
theorem dX8_clear_11 : decode cX8_clear 11 = .ok (.iload_n 1, 1) := by decide +kernel
theorem dX8_clear_12 : decode cX8_clear 12 = .ok (.iconst 2, 1) := by decide +kernel
theorem dX8_clear_13 : decode cX8_clear 13 = .ok (.iload_n 3, 1) := by decide +kernel
theorem dX8_clear_14 : decode cX8_clear 14 = .ok (.imul, 1) := by decide +kernel
theorem dX8_clear_15 : decode cX8_clear 15 = .ok (.iadd, 1) := by decide +kernel
theorem dX8_clear_16 : decode cX8_clear 16 = .ok (.iconst 0, 1) := by decide +kernel
theorem dX8_clear_17 : decode cX8_clear 17 = .ok (.iastore, 1) := by decide +kernel
theorem dX8_clear_18 : decode cX8_clear 18 = .ok (.aload_n 0, 1) := by decide +kernel
theorem dX8_clear_19 : decode cX8_clear 19 = .ok (.getfield 12, 3) := by decide +kernel
theorem dX8_clear_22 : decode cX8_clear 22 = .ok (.iload_n 1, 1) := by decide +kernel
theorem dX8_clear_23 : decode cX8_clear 23 = .ok (.iconst 2, 1) := by decide +kernel
theorem dX8_clear_24 : decode cX8_clear 24 = .ok (.iload_n 3, 1) := by decide +kernel
theorem dX8_clear_25 : decode cX8_clear 25 = .ok (.imul, 1) := by decide +kernel
theorem dX8_clear_26 : decode cX8_clear 26 = .ok (.iadd, 1) := by decide +kernel
theorem dX8_clear_27 : decode cX8_clear 27 = .ok (.iconst 1, 1) := by decide +kernel
theorem dX8_clear_28 : decode cX8_clear 28 = .ok (.iadd, 1) := by decide +kernel
theorem dX8_clear_29 : decode cX8_clear 29 = .ok (.iconst 1, 1) := by decide +kernel
theorem dX8_clear_30 : decode cX8_clear 30 = .ok (.iastore, 1) := by decide +kernel
theorem dX8_clear_31 : decode cX8_clear 31 = .ok (.iinc 3 1, 3) := by decide +kernel
theorem dX8_clear_34 : decode cX8_clear 34 = .ok (.goto (-32), 3) := by decide +kernel
theorem dX8_clear_37 : decode cX8_clear 37 = .ok (.return_, 1) := by decide +kernel
/-! AlgebraHouse$Numbers.clear(II)V -/
def P_X8_clear_2 (Q : Int → MM → Prop) : Nat → Int → Int → Int → MM → Prop
  | 0, _, _, _, _ => False
  | n + 1, x1, x2, x3, m => (RI x3) ∧ (RI x2) ∧ (if x2 ≤ x3 then Q 0 m else (0 ≤ (x1 + (2 * x3)) ∧ (x1 + (2 * x3)) < 1159540) ∧ ∀ m1 : MM, m1 = up m 379 (x1 + (2 * x3)) 0 → (0 ≤ ((x1 + (2 * x3)) + 1) ∧ ((x1 + (2 * x3)) + 1) < 1159540) ∧ ∀ m2 : MM, m2 = up m1 379 ((x1 + (2 * x3)) + 1) 1 → P_X8_clear_2 Q n x1 x2 (x3 + 1) m2)
def P_X8_clear (x1 : Int) (x2 : Int) (m : MM) (Q : Int → MM → Prop) : Prop := ∃ nn, P_X8_clear_2 Q nn x1 x2 0 m
theorem pl_X8_clear_2 {f : Nat} {Q : Int → MM → Prop} {T : MM → Prop} (hf : 1 ≤ f) : ∀ (n : Nat) (x1 : Int) (x2 : Int) (x3 : Int) (m : MM), P_X8_clear_2 Q n x1 x2 x3 m → B f M_X8_clear 2 [vR 378, vI x1, vI x2, vI x3] [] m Q T := by
  intro n
  induction n with
  | zero => intro x1 x2 x3 m h; exact h.elim
  | succ n ih =>
    intro x1 x2 x3 m h
    have h : (RI x3) ∧ (RI x2) ∧ (if x2 ≤ x3 then Q 0 m else (0 ≤ (x1 + (2 * x3)) ∧ (x1 + (2 * x3)) < 1159540) ∧ ∀ m1 : MM, m1 = up m 379 (x1 + (2 * x3)) 0 → (0 ≤ ((x1 + (2 * x3)) + 1) ∧ ((x1 + (2 * x3)) + 1) < 1159540) ∧ ∀ m2 : MM, m2 = up m1 379 ((x1 + (2 * x3)) + 1) 1 → P_X8_clear_2 Q n x1 x2 (x3 + 1) m2) := h
    refine b_iload_n dX8_clear_2 rfl ?_
    refine b_iload_n dX8_clear_3 rfl ?_
    obtain ⟨g1, h⟩ := h
    obtain ⟨g2, h⟩ := h
    refine b_icmp_ge 37 dX8_clear_4 g1 g2 (by decide) (fun c1 => ?_) (fun c1 => ?_)
    · have h := ifT c1 h
      exact b_vret dX8_clear_37 rfl h
    · have h := ifF c1 h
      refine b_aload_n dX8_clear_7 rfl ?_
      refine b_getR dX8_clear_8 fk_X8_12 ly_378 gg_378_0 ?_
      refine b_iload_n dX8_clear_11 rfl ?_
      refine b_iconst dX8_clear_12 ?_
      refine b_iload_n dX8_clear_13 rfl ?_
      refine b_imul dX8_clear_14 ?_
      refine b_iadd dX8_clear_15 ?_
      refine b_iconst dX8_clear_16 ?_
      obtain ⟨g3, h⟩ := h
      refine b_iast dX8_clear_17 ly_379 g3 (fun m1 em1 => ?_)
      have h := h m1 em1
      refine b_aload_n dX8_clear_18 rfl ?_
      refine b_getR dX8_clear_19 fk_X8_12 ly_378 gg_378_0 ?_
      refine b_iload_n dX8_clear_22 rfl ?_
      refine b_iconst dX8_clear_23 ?_
      refine b_iload_n dX8_clear_24 rfl ?_
      refine b_imul dX8_clear_25 ?_
      refine b_iadd dX8_clear_26 ?_
      refine b_iconst dX8_clear_27 ?_
      refine b_iadd dX8_clear_28 ?_
      refine b_iconst dX8_clear_29 ?_
      obtain ⟨g4, h⟩ := h
      refine b_iast dX8_clear_30 ly_379 g4 (fun m2 em2 => ?_)
      have h := h m2 em2
      refine b_iinc (ls' := [vR 378, vI x1, vI x2, vI (x3 + 1)]) dX8_clear_31 rfl rfl ?_
      refine b_goto 2 dX8_clear_34 (by decide) ?_
      exact ih _ _ _ _ h
theorem p_X8_clear {f : Nat} {Q : Int → MM → Prop} {T : MM → Prop} (hf : 1 ≤ f) (x1 : Int) (x2 : Int) (m : MM) (h : P_X8_clear x1 x2 m Q) : CC f M_X8_clear [vR 378, vI x1, vI x2] m Q T := by
  refine CC.of (plainFor_of_name (by decide)) (Nat.le_of_ble_eq_true rfl) (ls := [vR 378, vI x1, vI x2, vU]) rfl ?_
  have h : ∃ nn, P_X8_clear_2 Q nn x1 x2 0 m := h
  refine b_iconst dX8_clear_0 ?_
  refine b_istore_n (ls' := [vR 378, vI x1, vI x2, vI 0]) dX8_clear_1 (Nat.le_of_ble_eq_true rfl) rfl ?_
  obtain ⟨nn, h⟩ := h
  exact pl_X8_clear_2 hf nn _ _ _ _ h
theorem dX8_copy_0 : decode cX8_copy 0 = .ok (.aload_n 0, 1) := by decide +kernel
theorem dX8_copy_1 : decode cX8_copy 1 = .ok (.getfield 12, 3) := by decide +kernel
theorem dX8_copy_4 : decode cX8_copy 4 = .ok (.iload_n 1, 1) := by decide +kernel
theorem dX8_copy_5 : decode cX8_copy 5 = .ok (.aload_n 0, 1) := by decide +kernel
theorem dX8_copy_6 : decode cX8_copy 6 = .ok (.getfield 12, 3) := by decide +kernel
theorem dX8_copy_9 : decode cX8_copy 9 = .ok (.iload_n 2, 1) := by decide +kernel
theorem dX8_copy_10 : decode cX8_copy 10 = .ok (.iconst 2, 1) := by decide +kernel
theorem dX8_copy_11 : decode cX8_copy 11 = .ok (.iload_n 3, 1) := by decide +kernel
theorem dX8_copy_12 : decode cX8_copy 12 = .ok (.imul, 1) := by decide +kernel
theorem dX8_copy_13 : decode cX8_copy 13 = .ok (.invokestatic 43, 3) := by decide +kernel
theorem dX8_copy_16 : decode cX8_copy 16 = .ok (.return_, 1) := by decide +kernel
/-! AlgebraHouse$Numbers.copy(III)V -/
def P_X8_copy (x1 : Int) (x2 : Int) (x3 : Int) (m : MM) (Q : Int → MM → Prop) : Prop := (0 ≤ (2 * x3)) ∧ (inR 379 0 x1 (2 * x3)) ∧ (inR 379 0 x2 (2 * x3)) ∧ ∀ m1 : MM, m1 = cpm m 379 x1 379 x2 (2 * x3) → Q 0 m1
theorem p_X8_copy {f : Nat} {Q : Int → MM → Prop} {T : MM → Prop} (hf : 2 ≤ f) (x1 : Int) (x2 : Int) (x3 : Int) (m : MM) (h : P_X8_copy x1 x2 x3 m Q) : CC f M_X8_copy [vR 378, vI x1, vI x2, vI x3] m Q T := by
  refine CC.of (plainFor_of_name (by decide)) (Nat.le_of_ble_eq_true rfl) (ls := [vR 378, vI x1, vI x2, vI x3]) rfl ?_
  have h : (0 ≤ (2 * x3)) ∧ (inR 379 0 x1 (2 * x3)) ∧ (inR 379 0 x2 (2 * x3)) ∧ ∀ m1 : MM, m1 = cpm m 379 x1 379 x2 (2 * x3) → Q 0 m1 := h
  refine b_aload_n dX8_copy_0 rfl ?_
  refine b_getR dX8_copy_1 fk_X8_12 ly_378 gg_378_0 ?_
  refine b_iload_n dX8_copy_4 rfl ?_
  refine b_aload_n dX8_copy_5 rfl ?_
  refine b_getR dX8_copy_6 fk_X8_12 ly_378 gg_378_0 ?_
  refine b_iload_n dX8_copy_9 rfl ?_
  refine b_iconst dX8_copy_10 ?_
  refine b_iload_n dX8_copy_11 rfl ?_
  refine b_imul dX8_copy_12 ?_
  obtain ⟨g1, h⟩ := h
  obtain ⟨g2, h⟩ := h
  obtain ⟨g3, h⟩ := h
  refine b_copyi dX8_copy_13 lk_X8_43 g1 g2 g3 (by omega) (Nat.le_of_ble_eq_true rfl) rfl (fun m1 em1 => ?_)
  have h := h m1 em1
  exact b_vret dX8_copy_16 rfl h
theorem dX8_isClear_0 : decode cX8_isClear 0 = .ok (.iconst 0, 1) := by decide +kernel
theorem dX8_isClear_1 : decode cX8_isClear 1 = .ok (.istore_n 3, 1) := by decide +kernel
theorem dX8_isClear_2 : decode cX8_isClear 2 = .ok (.iload_n 3, 1) := by decide +kernel
theorem dX8_isClear_3 : decode cX8_isClear 3 = .ok (.iload_n 2, 1) := by decide +kernel
theorem dX8_isClear_4 : decode cX8_isClear 4 = .ok (.if_icmp .ge 24, 3) := by decide +kernel
theorem dX8_isClear_7 : decode cX8_isClear 7 = .ok (.aload_n 0, 1) := by decide +kernel
theorem dX8_isClear_8 : decode cX8_isClear 8 = .ok (.getfield 12, 3) := by decide +kernel
theorem dX8_isClear_11 : decode cX8_isClear 11 = .ok (.iload_n 1, 1) := by decide +kernel
theorem dX8_isClear_12 : decode cX8_isClear 12 = .ok (.iconst 2, 1) := by decide +kernel
theorem dX8_isClear_13 : decode cX8_isClear 13 = .ok (.iload_n 3, 1) := by decide +kernel
theorem dX8_isClear_14 : decode cX8_isClear 14 = .ok (.imul, 1) := by decide +kernel
theorem dX8_isClear_15 : decode cX8_isClear 15 = .ok (.iadd, 1) := by decide +kernel
theorem dX8_isClear_16 : decode cX8_isClear 16 = .ok (.iaload, 1) := by decide +kernel
theorem dX8_isClear_17 : decode cX8_isClear 17 = .ok (.ifCond .eq 5, 3) := by decide +kernel
theorem dX8_isClear_20 : decode cX8_isClear 20 = .ok (.iconst 0, 1) := by decide +kernel
theorem dX8_isClear_21 : decode cX8_isClear 21 = .ok (.ireturn, 1) := by decide +kernel
theorem dX8_isClear_22 : decode cX8_isClear 22 = .ok (.iinc 3 1, 3) := by decide +kernel
theorem dX8_isClear_25 : decode cX8_isClear 25 = .ok (.goto (-23), 3) := by decide +kernel
theorem dX8_isClear_28 : decode cX8_isClear 28 = .ok (.iconst 1, 1) := by decide +kernel
theorem dX8_isClear_29 : decode cX8_isClear 29 = .ok (.ireturn, 1) := by decide +kernel
/-! AlgebraHouse$Numbers.isClear(II)Z -/
def P_X8_isClear_2 (Q : Int → MM → Prop) : Nat → Int → Int → Int → MM → Prop
  | 0, _, _, _, _ => False
  | n + 1, x1, x2, x3, m => (RI x3) ∧ (RI x2) ∧ (if x2 ≤ x3 then Q 1 m else (0 ≤ (x1 + (2 * x3)) ∧ (x1 + (2 * x3)) < 1159540) ∧ (RI (m 379 (x1 + (2 * x3)))) ∧ (if (m 379 (x1 + (2 * x3))) = 0 then P_X8_isClear_2 Q n x1 x2 (x3 + 1) m else Q 0 m))
def P_X8_isClear (x1 : Int) (x2 : Int) (m : MM) (Q : Int → MM → Prop) : Prop := ∃ nn, P_X8_isClear_2 Q nn x1 x2 0 m
theorem pl_X8_isClear_2 {f : Nat} {Q : Int → MM → Prop} {T : MM → Prop} (hf : 1 ≤ f) : ∀ (n : Nat) (x1 : Int) (x2 : Int) (x3 : Int) (m : MM), P_X8_isClear_2 Q n x1 x2 x3 m → B f M_X8_isClear 2 [vR 378, vI x1, vI x2, vI x3] [] m Q T := by
  intro n
  induction n with
  | zero => intro x1 x2 x3 m h; exact h.elim
  | succ n ih =>
    intro x1 x2 x3 m h
    have h : (RI x3) ∧ (RI x2) ∧ (if x2 ≤ x3 then Q 1 m else (0 ≤ (x1 + (2 * x3)) ∧ (x1 + (2 * x3)) < 1159540) ∧ (RI (m 379 (x1 + (2 * x3)))) ∧ (if (m 379 (x1 + (2 * x3))) = 0 then P_X8_isClear_2 Q n x1 x2 (x3 + 1) m else Q 0 m)) := h
    refine b_iload_n dX8_isClear_2 rfl ?_
    refine b_iload_n dX8_isClear_3 rfl ?_
    obtain ⟨g1, h⟩ := h
    obtain ⟨g2, h⟩ := h
    refine b_icmp_ge 28 dX8_isClear_4 g1 g2 (by decide) (fun c1 => ?_) (fun c1 => ?_)
    · have h := ifT c1 h
      refine b_iconst dX8_isClear_28 ?_
      exact b_zret dX8_isClear_29 rfl (Or.inr rfl) h
    · have h := ifF c1 h
      refine b_aload_n dX8_isClear_7 rfl ?_
      refine b_getR dX8_isClear_8 fk_X8_12 ly_378 gg_378_0 ?_
      refine b_iload_n dX8_isClear_11 rfl ?_
      refine b_iconst dX8_isClear_12 ?_
      refine b_iload_n dX8_isClear_13 rfl ?_
      refine b_imul dX8_isClear_14 ?_
      refine b_iadd dX8_isClear_15 ?_
      obtain ⟨g3, h⟩ := h
      refine b_iald dX8_isClear_16 ly_379 g3 ?_
      obtain ⟨g4, h⟩ := h
      refine b_if_eq 22 dX8_isClear_17 g4 (by decide) (fun c2 => ?_) (fun c2 => ?_)
      · have h := ifT c2 h
        refine b_iinc (ls' := [vR 378, vI x1, vI x2, vI (x3 + 1)]) dX8_isClear_22 rfl rfl ?_
        refine b_goto 2 dX8_isClear_25 (by decide) ?_
        exact ih _ _ _ _ h
      · have h := ifF c2 h
        refine b_iconst dX8_isClear_20 ?_
        exact b_zret dX8_isClear_21 rfl (Or.inl rfl) h
theorem p_X8_isClear {f : Nat} {Q : Int → MM → Prop} {T : MM → Prop} (hf : 1 ≤ f) (x1 : Int) (x2 : Int) (m : MM) (h : P_X8_isClear x1 x2 m Q) : CC f M_X8_isClear [vR 378, vI x1, vI x2] m Q T := by
  refine CC.of (plainFor_of_name (by decide)) (Nat.le_of_ble_eq_true rfl) (ls := [vR 378, vI x1, vI x2, vU]) rfl ?_
  have h : ∃ nn, P_X8_isClear_2 Q nn x1 x2 0 m := h
  refine b_iconst dX8_isClear_0 ?_
  refine b_istore_n (ls' := [vR 378, vI x1, vI x2, vI 0]) dX8_isClear_1 (Nat.le_of_ble_eq_true rfl) rfl ?_
  obtain ⟨nn, h⟩ := h
  exact pl_X8_isClear_2 hf nn _ _ _ _ h
theorem dX8_isZero_0 : decode cX8_isZero 0 = .ok (.aload_n 0, 1) := by decide +kernel
theorem dX8_isZero_1 : decode cX8_isZero 1 = .ok (.getfield 12, 3) := by decide +kernel
theorem dX8_isZero_4 : decode cX8_isZero 4 = .ok (.iload_n 1, 1) := by decide +kernel
theorem dX8_isZero_5 : decode cX8_isZero 5 = .ok (.iaload, 1) := by decide +kernel
theorem dX8_isZero_6 : decode cX8_isZero 6 = .ok (.ifCond .ne 7, 3) := by decide +kernel
theorem dX8_isZero_9 : decode cX8_isZero 9 = .ok (.iconst 1, 1) := by decide +kernel
theorem dX8_isZero_10 : decode cX8_isZero 10 = .ok (.goto 4, 3) := by decide +kernel
theorem dX8_isZero_13 : decode cX8_isZero 13 = .ok (.iconst 0, 1) := by decide +kernel
theorem dX8_isZero_14 : decode cX8_isZero 14 = .ok (.ireturn, 1) := by decide +kernel
/-! AlgebraHouse$Numbers.isZero(I)Z -/
def P_X8_isZero (x1 : Int) (m : MM) (Q : Int → MM → Prop) : Prop := (0 ≤ x1 ∧ x1 < 1159540) ∧ (RI (m 379 x1)) ∧ (if (m 379 x1) = 0 then Q 1 m else Q 0 m)
theorem p_X8_isZero {f : Nat} {Q : Int → MM → Prop} {T : MM → Prop} (hf : 1 ≤ f) (x1 : Int) (m : MM) (h : P_X8_isZero x1 m Q) : CC f M_X8_isZero [vR 378, vI x1] m Q T := by
  refine CC.of (plainFor_of_name (by decide)) (Nat.le_of_ble_eq_true rfl) (ls := [vR 378, vI x1]) rfl ?_
  have h : (0 ≤ x1 ∧ x1 < 1159540) ∧ (RI (m 379 x1)) ∧ (if (m 379 x1) = 0 then Q 1 m else Q 0 m) := h
  refine b_aload_n dX8_isZero_0 rfl ?_
  refine b_getR dX8_isZero_1 fk_X8_12 ly_378 gg_378_0 ?_
  refine b_iload_n dX8_isZero_4 rfl ?_
  obtain ⟨g1, h⟩ := h
  refine b_iald dX8_isZero_5 ly_379 g1 ?_
  obtain ⟨g2, h⟩ := h
  refine b_if_ne 13 dX8_isZero_6 g2 (by decide) (fun c1 => ?_) (fun c1 => ?_)
  · have h := ifF c1 h
    refine b_iconst dX8_isZero_13 ?_
    exact b_zret dX8_isZero_14 rfl (Or.inl rfl) h
  · have h := ifT (Decidable.of_not_not c1) h
    refine b_iconst dX8_isZero_9 ?_
    refine b_goto 14 dX8_isZero_10 (by decide) ?_
    exact b_zret dX8_isZero_14 rfl (Or.inr rfl) h
theorem dX8_times_0 : decode cX8_times 0 = .ok (.aload_n 0, 1) := by decide +kernel
theorem dX8_times_1 : decode cX8_times 1 = .ok (.iload_n 1, 1) := by decide +kernel
theorem dX8_times_2 : decode cX8_times 2 = .ok (.invokevirtual 49, 3) := by decide +kernel
theorem dX8_times_5 : decode cX8_times 5 = .ok (.istore 5, 2) := by decide +kernel
theorem dX8_times_7 : decode cX8_times 7 = .ok (.aload_n 0, 1) := by decide +kernel
theorem dX8_times_8 : decode cX8_times 8 = .ok (.getfield 12, 3) := by decide +kernel
theorem dX8_times_11 : decode cX8_times 11 = .ok (.iload_n 2, 1) := by decide +kernel
theorem dX8_times_12 : decode cX8_times 12 = .ok (.iaload, 1) := by decide +kernel
theorem dX8_times_13 : decode cX8_times 13 = .ok (.i2l, 1) := by decide +kernel
theorem dX8_times_14 : decode cX8_times 14 = .ok (.aload_n 0, 1) := by decide +kernel
theorem dX8_times_15 : decode cX8_times 15 = .ok (.getfield 12, 3) := by decide +kernel
theorem dX8_times_18 : decode cX8_times 18 = .ok (.iload_n 3, 1) := by decide +kernel
theorem dX8_times_19 : decode cX8_times 19 = .ok (.iaload, 1) := by decide +kernel
theorem dX8_times_20 : decode cX8_times 20 = .ok (.i2l, 1) := by decide +kernel
theorem dX8_times_21 : decode cX8_times 21 = .ok (.lmul, 1) := by decide +kernel
theorem dX8_times_22 : decode cX8_times 22 = .ok (.lstore 6, 2) := by decide +kernel
theorem dX8_times_24 : decode cX8_times 24 = .ok (.iload 5, 2) := by decide +kernel
theorem dX8_times_26 : decode cX8_times 26 = .ok (.ifCond .ne 15, 3) := by decide +kernel
theorem dX8_times_29 : decode cX8_times 29 = .ok (.aload_n 0, 1) := by decide +kernel
theorem dX8_times_30 : decode cX8_times 30 = .ok (.iload 4, 2) := by decide +kernel
theorem dX8_times_32 : decode cX8_times 32 = .ok (.lload 6, 2) := by decide +kernel
theorem dX8_times_34 : decode cX8_times 34 = .ok (.lconst 1, 1) := by decide +kernel
theorem dX8_times_35 : decode cX8_times 35 = .ok (.invokevirtual 39, 3) := by decide +kernel
theorem dX8_times_38 : decode cX8_times 38 = .ok (.goto 52, 3) := by decide +kernel
theorem dX8_times_41 : decode cX8_times 41 = .ok (.iload 5, 2) := by decide +kernel
theorem dX8_times_43 : decode cX8_times 43 = .ok (.iconst 1, 1) := by decide +kernel
theorem dX8_times_44 : decode cX8_times 44 = .ok (.if_icmp .ne 33, 3) := by decide +kernel
theorem dX8_times_47 : decode cX8_times 47 = .ok (.aload_n 0, 1) := by decide +kernel
theorem dX8_times_48 : decode cX8_times 48 = .ok (.iload 4, 2) := by decide +kernel
theorem dX8_times_50 : decode cX8_times 50 = .ok (.lload 6, 2) := by decide +kernel
theorem dX8_times_52 : decode cX8_times 52 = .ok (.aload_n 0, 1) := by decide +kernel
theorem dX8_times_53 : decode cX8_times 53 = .ok (.getfield 12, 3) := by decide +kernel
theorem dX8_times_56 : decode cX8_times 56 = .ok (.iload_n 2, 1) := by decide +kernel
theorem dX8_times_57 : decode cX8_times 57 = .ok (.iconst 1, 1) := by decide +kernel
theorem dX8_times_58 : decode cX8_times 58 = .ok (.iadd, 1) := by decide +kernel
theorem dX8_times_59 : decode cX8_times 59 = .ok (.iaload, 1) := by decide +kernel
theorem dX8_times_60 : decode cX8_times 60 = .ok (.i2l, 1) := by decide +kernel
theorem dX8_times_61 : decode cX8_times 61 = .ok (.aload_n 0, 1) := by decide +kernel
theorem dX8_times_62 : decode cX8_times 62 = .ok (.getfield 12, 3) := by decide +kernel
theorem dX8_times_65 : decode cX8_times 65 = .ok (.iload_n 3, 1) := by decide +kernel
theorem dX8_times_66 : decode cX8_times 66 = .ok (.iconst 1, 1) := by decide +kernel
theorem dX8_times_67 : decode cX8_times 67 = .ok (.iadd, 1) := by decide +kernel
theorem dX8_times_68 : decode cX8_times 68 = .ok (.iaload, 1) := by decide +kernel
theorem dX8_times_69 : decode cX8_times 69 = .ok (.i2l, 1) := by decide +kernel
theorem dX8_times_70 : decode cX8_times 70 = .ok (.lmul, 1) := by decide +kernel
theorem dX8_times_71 : decode cX8_times 71 = .ok (.invokevirtual 53, 3) := by decide +kernel
theorem dX8_times_74 : decode cX8_times 74 = .ok (.goto 16, 3) := by decide +kernel
theorem dX8_times_77 : decode cX8_times 77 = .ok (.aload_n 0, 1) := by decide +kernel
theorem dX8_times_78 : decode cX8_times 78 = .ok (.iload 4, 2) := by decide +kernel
theorem dX8_times_80 : decode cX8_times 80 = .ok (.lload 6, 2) := by decide +kernel
theorem dX8_times_82 : decode cX8_times 82 = .ok (.iload 5, 2) := by decide +kernel
theorem dX8_times_84 : decode cX8_times 84 = .ok (.i2l, 1) := by decide +kernel
theorem dX8_times_85 : decode cX8_times 85 = .ok (.lrem, 1) := by decide +kernel
theorem dX8_times_86 : decode cX8_times 86 = .ok (.lconst 1, 1) := by decide +kernel
theorem dX8_times_87 : decode cX8_times 87 = .ok (.invokevirtual 39, 3) := by decide +kernel
theorem dX8_times_90 : decode cX8_times 90 = .ok (.return_, 1) := by decide +kernel
/-! AlgebraHouse$Numbers.times(IIII)V -/
def P_X8_times (x1 : Int) (x2 : Int) (x3 : Int) (x4 : Int) (m : MM) (Q : Int → MM → Prop) : Prop := P_X8_modulus x1 m (fun r1 m1 => (0 ≤ x2 ∧ x2 < 1159540) ∧ (RI (m1 379 x2)) ∧ (0 ≤ x3 ∧ x3 < 1159540) ∧ (RI (m1 379 x3)) ∧ (RI r1) ∧ (if r1 = 0 then P_X8_put x4 ((m1 379 x2) * (m1 379 x3)) 1 m1 (fun r4 m4 => Q 0 m4) else (if r1 = 1 then (0 ≤ (x2 + 1) ∧ (x2 + 1) < 1159540) ∧ (RI (m1 379 (x2 + 1))) ∧ (0 ≤ (x3 + 1) ∧ (x3 + 1) < 1159540) ∧ (RI (m1 379 (x3 + 1))) ∧ P_X8_least x4 ((m1 379 x2) * (m1 379 x3)) ((m1 379 (x2 + 1)) * (m1 379 (x3 + 1))) m1 (fun r3 m3 => Q 0 m3) else (RL ((m1 379 x2) * (m1 379 x3))) ∧ (RL r1) ∧ (r1 ≠ 0) ∧ P_X8_put x4 (Int.tmod ((m1 379 x2) * (m1 379 x3)) r1) 1 m1 (fun r2 m2 => Q 0 m2))))
theorem p_X8_times {f : Nat} {Q : Int → MM → Prop} {T : MM → Prop} (hf : 4 ≤ f) (x1 : Int) (x2 : Int) (x3 : Int) (x4 : Int) (m : MM) (h : P_X8_times x1 x2 x3 x4 m Q) : CC f M_X8_times [vR 378, vI x1, vI x2, vI x3, vI x4] m Q T := by
  refine CC.of (plainFor_of_name (by decide)) (Nat.le_of_ble_eq_true rfl) (ls := [vR 378, vI x1, vI x2, vI x3, vI x4, vU, vU, vU]) rfl ?_
  have h : P_X8_modulus x1 m (fun r1 m1 => (0 ≤ x2 ∧ x2 < 1159540) ∧ (RI (m1 379 x2)) ∧ (0 ≤ x3 ∧ x3 < 1159540) ∧ (RI (m1 379 x3)) ∧ (RI r1) ∧ (if r1 = 0 then P_X8_put x4 ((m1 379 x2) * (m1 379 x3)) 1 m1 (fun r4 m4 => Q 0 m4) else (if r1 = 1 then (0 ≤ (x2 + 1) ∧ (x2 + 1) < 1159540) ∧ (RI (m1 379 (x2 + 1))) ∧ (0 ≤ (x3 + 1) ∧ (x3 + 1) < 1159540) ∧ (RI (m1 379 (x3 + 1))) ∧ P_X8_least x4 ((m1 379 x2) * (m1 379 x3)) ((m1 379 (x2 + 1)) * (m1 379 (x3 + 1))) m1 (fun r3 m3 => Q 0 m3) else (RL ((m1 379 x2) * (m1 379 x3))) ∧ (RL r1) ∧ (r1 ≠ 0) ∧ P_X8_put x4 (Int.tmod ((m1 379 x2) * (m1 379 x3)) r1) 1 m1 (fun r2 m2 => Q 0 m2)))) := h
  refine b_aload_n dX8_times_0 rfl ?_
  refine b_iload_n dX8_times_1 rfl ?_
  refine b_cVi (as := [vI x1]) (st := []) dX8_times_2 mf_X8_modulus qs66 lk_X8_49 ly_378 rfl (p_X8_modulus (f := 1) (Nat.le_refl _) _ _ h) (by omega) rfl rfl (Nat.le_of_ble_eq_true rfl) (by decide) rfl (fun _ => rfl) (fun r1 m1 h => ?_) (fun _ h => h)
  refine b_istore (ls' := [vR 378, vI x1, vI x2, vI x3, vI x4, vI r1, vU, vU]) dX8_times_5 (Nat.le_of_ble_eq_true rfl) rfl ?_
  refine b_aload_n dX8_times_7 rfl ?_
  refine b_getR dX8_times_8 fk_X8_12 ly_378 gg_378_0 ?_
  refine b_iload_n dX8_times_11 rfl ?_
  obtain ⟨g1, h⟩ := h
  refine b_iald dX8_times_12 ly_379 g1 ?_
  obtain ⟨g2, h⟩ := h
  refine b_i2l dX8_times_13 g2 ?_
  refine b_aload_n dX8_times_14 rfl ?_
  refine b_getR dX8_times_15 fk_X8_12 ly_378 gg_378_0 ?_
  refine b_iload_n dX8_times_18 rfl ?_
  obtain ⟨g3, h⟩ := h
  refine b_iald dX8_times_19 ly_379 g3 ?_
  obtain ⟨g4, h⟩ := h
  refine b_i2l dX8_times_20 g4 ?_
  refine b_lmul dX8_times_21 ?_
  refine b_lstore (ls' := [vR 378, vI x1, vI x2, vI x3, vI x4, vI r1, vL ((m1 379 x2) * (m1 379 x3)), vU]) dX8_times_22 (Nat.le_of_ble_eq_true rfl) rfl ?_
  refine b_iload dX8_times_24 rfl ?_
  obtain ⟨g5, h⟩ := h
  refine b_if_ne 41 dX8_times_26 g5 (by decide) (fun c1 => ?_) (fun c1 => ?_)
  · have h := ifF c1 h
    refine b_iload dX8_times_41 rfl ?_
    refine b_iconst dX8_times_43 ?_
    refine b_icmp_ne 77 dX8_times_44 g5 (by decide) (by decide) (fun c2 => ?_) (fun c2 => ?_)
    · have h := ifF c2 h
      refine b_aload_n dX8_times_77 rfl ?_
      refine b_iload dX8_times_78 rfl ?_
      refine b_lload dX8_times_80 rfl ?_
      refine b_iload dX8_times_82 rfl ?_
      refine b_i2l dX8_times_84 g5 ?_
      obtain ⟨g6, h⟩ := h
      obtain ⟨g7, h⟩ := h
      obtain ⟨g8, h⟩ := h
      refine b_lrem dX8_times_85 g6 g7 g8 ?_
      refine b_lconst 1 dX8_times_86 (by decide) ?_
      refine b_cVv (as := [vI x4, vL (Int.tmod ((m1 379 x2) * (m1 379 x3)) r1), vL 1]) (st := []) dX8_times_87 mf_X8_put qs71 lk_X8_39 ly_378 rfl (p_X8_put (f := 1) (Nat.le_refl _) _ _ _ _ h) (by omega) rfl rfl (Nat.le_of_ble_eq_true rfl) (by decide) rfl (fun _ => rfl) (fun r2 m2 h => ?_) (fun _ h => h)
      exact b_vret dX8_times_90 rfl h
    · have h := ifT (Decidable.of_not_not c2) h
      refine b_aload_n dX8_times_47 rfl ?_
      refine b_iload dX8_times_48 rfl ?_
      refine b_lload dX8_times_50 rfl ?_
      refine b_aload_n dX8_times_52 rfl ?_
      refine b_getR dX8_times_53 fk_X8_12 ly_378 gg_378_0 ?_
      refine b_iload_n dX8_times_56 rfl ?_
      refine b_iconst dX8_times_57 ?_
      refine b_iadd dX8_times_58 ?_
      obtain ⟨g9, h⟩ := h
      refine b_iald dX8_times_59 ly_379 g9 ?_
      obtain ⟨g10, h⟩ := h
      refine b_i2l dX8_times_60 g10 ?_
      refine b_aload_n dX8_times_61 rfl ?_
      refine b_getR dX8_times_62 fk_X8_12 ly_378 gg_378_0 ?_
      refine b_iload_n dX8_times_65 rfl ?_
      refine b_iconst dX8_times_66 ?_
      refine b_iadd dX8_times_67 ?_
      obtain ⟨g11, h⟩ := h
      refine b_iald dX8_times_68 ly_379 g11 ?_
      obtain ⟨g12, h⟩ := h
      refine b_i2l dX8_times_69 g12 ?_
      refine b_lmul dX8_times_70 ?_
      refine b_cVv (as := [vI x4, vL ((m1 379 x2) * (m1 379 x3)), vL ((m1 379 (x2 + 1)) * (m1 379 (x3 + 1)))]) (st := []) dX8_times_71 mf_X8_least qs72 lk_X8_53 ly_378 rfl (p_X8_least (f := 3) (Nat.le_refl _) _ _ _ _ h) (by omega) rfl rfl (Nat.le_of_ble_eq_true rfl) (by decide) rfl (fun _ => rfl) (fun r3 m3 h => ?_) (fun _ h => h)
      refine b_goto 90 dX8_times_74 (by decide) ?_
      exact b_vret dX8_times_90 rfl h
  · have h := ifT (Decidable.of_not_not c1) h
    refine b_aload_n dX8_times_29 rfl ?_
    refine b_iload dX8_times_30 rfl ?_
    refine b_lload dX8_times_32 rfl ?_
    refine b_lconst 1 dX8_times_34 (by decide) ?_
    refine b_cVv (as := [vI x4, vL ((m1 379 x2) * (m1 379 x3)), vL 1]) (st := []) dX8_times_35 mf_X8_put qs71 lk_X8_39 ly_378 rfl (p_X8_put (f := 1) (Nat.le_refl _) _ _ _ _ h) (by omega) rfl rfl (Nat.le_of_ble_eq_true rfl) (by decide) rfl (fun _ => rfl) (fun r4 m4 h => ?_) (fun _ h => h)
    refine b_goto 90 dX8_times_38 (by decide) ?_
    exact b_vret dX8_times_90 rfl h
theorem dX8_poly_0 : decode cX8_poly 0 = .ok (.iconst 0, 1) := by decide +kernel
theorem dX8_poly_1 : decode cX8_poly 1 = .ok (.istore 5, 2) := by decide +kernel
theorem dX8_poly_3 : decode cX8_poly 3 = .ok (.iload 5, 2) := by decide +kernel
theorem dX8_poly_5 : decode cX8_poly 5 = .ok (.bipush 12, 2) := by decide +kernel
theorem dX8_poly_7 : decode cX8_poly 7 = .ok (.if_icmp .gt 158, 3) := by decide +kernel
theorem dX8_poly_10 : decode cX8_poly 10 = .ok (.iconst 0, 1) := by decide +kernel
theorem dX8_poly_11 : decode cX8_poly 11 = .ok (.iload 5, 2) := by decide +kernel
theorem dX8_poly_13 : decode cX8_poly 13 = .ok (.bipush 7, 2) := by decide +kernel
theorem dX8_poly_15 : decode cX8_poly 15 = .ok (.isub, 1) := by decide +kernel
theorem dX8_poly_16 : decode cX8_poly 16 = .ok (.iconst 1, 1) := by decide +kernel
theorem dX8_poly_17 : decode cX8_poly 17 = .ok (.iadd, 1) := by decide +kernel
theorem dX8_poly_18 : decode cX8_poly 18 = .ok (.invokestatic 69, 3) := by decide +kernel
theorem dX8_poly_21 : decode cX8_poly 21 = .ok (.istore 6, 2) := by decide +kernel
theorem dX8_poly_23 : decode cX8_poly 23 = .ok (.iload 6, 2) := by decide +kernel
theorem dX8_poly_25 : decode cX8_poly 25 = .ok (.istore 7, 2) := by decide +kernel
theorem dX8_poly_27 : decode cX8_poly 27 = .ok (.iload 7, 2) := by decide +kernel
theorem dX8_poly_29 : decode cX8_poly 29 = .ok (.iload 5, 2) := by decide +kernel
theorem dX8_poly_31 : decode cX8_poly 31 = .ok (.bipush 6, 2) := by decide +kernel
theorem dX8_poly_33 : decode cX8_poly 33 = .ok (.invokestatic 72, 3) := by decide +kernel
theorem dX8_poly_36 : decode cX8_poly 36 = .ok (.if_icmp .gt 77, 3) := by decide +kernel
theorem dX8_poly_39 : decode cX8_poly 39 = .ok (.aload_n 0, 1) := by decide +kernel
theorem dX8_poly_40 : decode cX8_poly 40 = .ok (.iload_n 1, 1) := by decide +kernel
theorem dX8_poly_41 : decode cX8_poly 41 = .ok (.iload_n 2, 1) := by decide +kernel
theorem dX8_poly_42 : decode cX8_poly 42 = .ok (.iconst 2, 1) := by decide +kernel
theorem dX8_poly_43 : decode cX8_poly 43 = .ok (.iload 7, 2) := by decide +kernel
theorem dX8_poly_45 : decode cX8_poly 45 = .ok (.imul, 1) := by decide +kernel
theorem dX8_poly_46 : decode cX8_poly 46 = .ok (.iadd, 1) := by decide +kernel
theorem dX8_poly_47 : decode cX8_poly 47 = .ok (.iload_n 3, 1) := by decide +kernel
theorem dX8_poly_48 : decode cX8_poly 48 = .ok (.iconst 2, 1) := by decide +kernel
theorem dX8_poly_49 : decode cX8_poly 49 = .ok (.iload 5, 2) := by decide +kernel
theorem dX8_poly_51 : decode cX8_poly 51 = .ok (.iload 7, 2) := by decide +kernel
theorem dX8_poly_53 : decode cX8_poly 53 = .ok (.isub, 1) := by decide +kernel
theorem dX8_poly_54 : decode cX8_poly 54 = .ok (.imul, 1) := by decide +kernel
theorem dX8_poly_55 : decode cX8_poly 55 = .ok (.iadd, 1) := by decide +kernel
theorem dX8_poly_56 : decode cX8_poly 56 = .ok (.iload 7, 2) := by decide +kernel
theorem dX8_poly_58 : decode cX8_poly 58 = .ok (.iload 6, 2) := by decide +kernel
theorem dX8_poly_60 : decode cX8_poly 60 = .ok (.if_icmp .ne 8, 3) := by decide +kernel
theorem dX8_poly_63 : decode cX8_poly 63 = .ok (.ldc 75, 2) := by decide +kernel
theorem dX8_poly_65 : decode cX8_poly 65 = .ok (.goto 5, 3) := by decide +kernel
theorem dX8_poly_68 : decode cX8_poly 68 = .ok (.ldc 76, 2) := by decide +kernel
theorem dX8_poly_70 : decode cX8_poly 70 = .ok (.invokevirtual 77, 3) := by decide +kernel
theorem dX8_poly_73 : decode cX8_poly 73 = .ok (.aload_n 0, 1) := by decide +kernel
theorem dX8_poly_74 : decode cX8_poly 74 = .ok (.getfield 26, 3) := by decide +kernel
theorem dX8_poly_77 : decode cX8_poly 77 = .ok (.ifCond .ne 22, 3) := by decide +kernel
theorem dX8_poly_80 : decode cX8_poly 80 = .ok (.iload 7, 2) := by decide +kernel
theorem dX8_poly_82 : decode cX8_poly 82 = .ok (.iload 6, 2) := by decide +kernel
theorem dX8_poly_84 : decode cX8_poly 84 = .ok (.if_icmp .le 15, 3) := by decide +kernel
theorem dX8_poly_87 : decode cX8_poly 87 = .ok (.aload_n 0, 1) := by decide +kernel
theorem dX8_poly_88 : decode cX8_poly 88 = .ok (.iload_n 1, 1) := by decide +kernel
theorem dX8_poly_89 : decode cX8_poly 89 = .ok (.ldc 75, 2) := by decide +kernel
theorem dX8_poly_91 : decode cX8_poly 91 = .ok (.ldc 76, 2) := by decide +kernel
theorem dX8_poly_93 : decode cX8_poly 93 = .ok (.ldc 75, 2) := by decide +kernel
theorem dX8_poly_95 : decode cX8_poly 95 = .ok (.iconst 0, 1) := by decide +kernel
theorem dX8_poly_96 : decode cX8_poly 96 = .ok (.invokevirtual 65, 3) := by decide +kernel
theorem dX8_poly_99 : decode cX8_poly 99 = .ok (.aload_n 0, 1) := by decide +kernel
theorem dX8_poly_100 : decode cX8_poly 100 = .ok (.getfield 26, 3) := by decide +kernel
theorem dX8_poly_103 : decode cX8_poly 103 = .ok (.ifCond .eq 4, 3) := by decide +kernel
theorem dX8_poly_106 : decode cX8_poly 106 = .ok (.return_, 1) := by decide +kernel
theorem dX8_poly_107 : decode cX8_poly 107 = .ok (.iinc 7 1, 3) := by decide +kernel
theorem dX8_poly_110 : decode cX8_poly 110 = .ok (.goto (-83), 3) := by decide +kernel
theorem dX8_poly_113 : decode cX8_poly 113 = .ok (.iload 5, 2) := by decide +kernel
theorem dX8_poly_115 : decode cX8_poly 115 = .ok (.bipush 7, 2) := by decide +kernel
theorem dX8_poly_117 : decode cX8_poly 117 = .ok (.if_icmp .ge 20, 3) := by decide +kernel
theorem dX8_poly_120 : decode cX8_poly 120 = .ok (.aload_n 0, 1) := by decide +kernel
theorem dX8_poly_121 : decode cX8_poly 121 = .ok (.ldc 75, 2) := by decide +kernel
theorem dX8_poly_123 : decode cX8_poly 123 = .ok (.iload 4, 2) := by decide +kernel
theorem dX8_poly_125 : decode cX8_poly 125 = .ok (.iconst 2, 1) := by decide +kernel
theorem dX8_poly_126 : decode cX8_poly 126 = .ok (.iload 5, 2) := by decide +kernel
theorem dX8_poly_128 : decode cX8_poly 128 = .ok (.imul, 1) := by decide +kernel
theorem dX8_poly_129 : decode cX8_poly 129 = .ok (.iadd, 1) := by decide +kernel
theorem dX8_poly_130 : decode cX8_poly 130 = .ok (.iconst 1, 1) := by decide +kernel
theorem dX8_poly_131 : decode cX8_poly 131 = .ok (.invokevirtual 81, 3) := by decide +kernel
theorem dX8_poly_134 : decode cX8_poly 134 = .ok (.goto 17, 3) := by decide +kernel
theorem dX8_poly_137 : decode cX8_poly 137 = .ok (.aload_n 0, 1) := by decide +kernel
theorem dX8_poly_138 : decode cX8_poly 138 = .ok (.ldc 75, 2) := by decide +kernel
theorem dX8_poly_140 : decode cX8_poly 140 = .ok (.invokevirtual 85, 3) := by decide +kernel
theorem dX8_poly_143 : decode cX8_poly 143 = .ok (.ifCond .ne 8, 3) := by decide +kernel
theorem dX8_poly_146 : decode cX8_poly 146 = .ok (.aload_n 0, 1) := by decide +kernel
theorem dX8_poly_147 : decode cX8_poly 147 = .ok (.iconst 4, 1) := by decide +kernel
theorem dX8_poly_148 : decode cX8_poly 148 = .ok (.putfield 26, 3) := by decide +kernel
theorem dX8_poly_151 : decode cX8_poly 151 = .ok (.aload_n 0, 1) := by decide +kernel
theorem dX8_poly_152 : decode cX8_poly 152 = .ok (.getfield 26, 3) := by decide +kernel
theorem dX8_poly_155 : decode cX8_poly 155 = .ok (.ifCond .eq 4, 3) := by decide +kernel
theorem dX8_poly_158 : decode cX8_poly 158 = .ok (.return_, 1) := by decide +kernel
theorem dX8_poly_159 : decode cX8_poly 159 = .ok (.iinc 5 1, 3) := by decide +kernel
theorem dX8_poly_162 : decode cX8_poly 162 = .ok (.goto (-159), 3) := by decide +kernel
theorem dX8_poly_165 : decode cX8_poly 165 = .ok (.return_, 1) := by decide +kernel
/-! AlgebraHouse$Numbers.poly(IIII)V -/
def P_X8_poly_99 (Q : Int → MM → Prop) (K3 : Int → Int → Int → Int → Int → MM → Prop) (K27 : Int → Int → Int → Int → Int → Int → Int → MM → Prop) (x1 : Int) (x2 : Int) (x3 : Int) (x4 : Int) (x5 : Int) (x6 : Int) (x7 : Int) (m : MM) : Prop := (RI (m 378 2)) ∧ (if (m 378 2) = 0 then K27 x1 x2 x3 x4 x5 x6 (x7 + 1) m else Q 0 m)
def P_X8_poly_151 (Q : Int → MM → Prop) (K3 : Int → Int → Int → Int → Int → MM → Prop) (x1 : Int) (x2 : Int) (x3 : Int) (x4 : Int) (x5 : Int) (m : MM) : Prop := (RI (m 378 2)) ∧ (if (m 378 2) = 0 then K3 x1 x2 x3 x4 (x5 + 1) m else Q 0 m)
def P_X8_poly_113 (Q : Int → MM → Prop) (K3 : Int → Int → Int → Int → Int → MM → Prop) (x1 : Int) (x2 : Int) (x3 : Int) (x4 : Int) (x5 : Int) (m : MM) : Prop := (RI x5) ∧ (if 7 ≤ x5 then P_X8_isZero 1157576 m (fun r1 m1 => (RI r1) ∧ (if r1 = 0 then ∀ m2 : MM, m2 = up m1 378 2 4 → P_X8_poly_151 Q K3 x1 x2 x3 x4 x5 m2 else P_X8_poly_151 Q K3 x1 x2 x3 x4 x5 m1)) else P_X8_copy 1157576 (x4 + (2 * x5)) 1 m (fun r2 m3 => P_X8_poly_151 Q K3 x1 x2 x3 x4 x5 m3))
def P_X8_poly_27 (Q : Int → MM → Prop) (K3 : Int → Int → Int → Int → Int → MM → Prop) : Nat → Int → Int → Int → Int → Int → Int → Int → MM → Prop
  | 0, _, _, _, _, _, _, _, _ => False
  | n + 1, x1, x2, x3, x4, x5, x6, x7, m => P_J4_min x5 6 m (fun r1 m1 => (RI x7) ∧ (RI r1) ∧ (if r1 < x7 then P_X8_poly_113 Q K3 x1 x2 x3 x4 x5 m1 else ((RI x6)) ∧ P_X8_times x1 (x2 + (2 * x7)) (x3 + (2 * (x5 - x7))) (if x7 = x6 then 1157576 else 1157578 : Int) m1 (fun r2 m2 => (RI (m2 378 2)) ∧ (if (m2 378 2) = 0 then (RI x6) ∧ (if x7 ≤ x6 then P_X8_poly_99 Q K3 (fun z0 z1 z2 z3 z4 z5 z6 z7 => P_X8_poly_27 Q K3 n z0 z1 z2 z3 z4 z5 z6 z7) x1 x2 x3 x4 x5 x6 x7 m2 else P_X8_add x1 1157576 1157578 1157576 0 m2 (fun r3 m3 => P_X8_poly_99 Q K3 (fun z0 z1 z2 z3 z4 z5 z6 z7 => P_X8_poly_27 Q K3 n z0 z1 z2 z3 z4 z5 z6 z7) x1 x2 x3 x4 x5 x6 x7 m3)) else P_X8_poly_99 Q K3 (fun z0 z1 z2 z3 z4 z5 z6 z7 => P_X8_poly_27 Q K3 n z0 z1 z2 z3 z4 z5 z6 z7) x1 x2 x3 x4 x5 x6 x7 m2))))
def P_X8_poly_3 (Q : Int → MM → Prop) : Nat → Int → Int → Int → Int → Int → MM → Prop
  | 0, _, _, _, _, _, _ => False
  | n + 1, x1, x2, x3, x4, x5, m => (RI x5) ∧ (if 12 < x5 then Q 0 m else P_J4_max 0 ((x5 - 7) + 1) m (fun r1 m1 => ∃ nn, P_X8_poly_27 Q (fun z0 z1 z2 z3 z4 z5 => P_X8_poly_3 Q n z0 z1 z2 z3 z4 z5) nn x1 x2 x3 x4 x5 r1 r1 m1))
def P_X8_poly (x1 : Int) (x2 : Int) (x3 : Int) (x4 : Int) (m : MM) (Q : Int → MM → Prop) : Prop := ∃ nn, P_X8_poly_3 Q nn x1 x2 x3 x4 0 m
theorem pl_X8_poly_99 {f : Nat} {Q : Int → MM → Prop} {T : MM → Prop} (hf : 5 ≤ f) {K3 : Int → Int → Int → Int → Int → MM → Prop} {K27 : Int → Int → Int → Int → Int → Int → Int → MM → Prop} (hK3 : ∀ (x1 : Int) (x2 : Int) (x3 : Int) (x4 : Int) (x5 : Int) (m : MM), K3 x1 x2 x3 x4 x5 m → B f M_X8_poly 3 [vR 378, vI x1, vI x2, vI x3, vI x4, vI x5, vU, vU] [] m Q T) (hK27 : ∀ (x1 : Int) (x2 : Int) (x3 : Int) (x4 : Int) (x5 : Int) (x6 : Int) (x7 : Int) (m : MM), K27 x1 x2 x3 x4 x5 x6 x7 m → B f M_X8_poly 27 [vR 378, vI x1, vI x2, vI x3, vI x4, vI x5, vI x6, vI x7] [] m Q T) : ∀ (x1 : Int) (x2 : Int) (x3 : Int) (x4 : Int) (x5 : Int) (x6 : Int) (x7 : Int) (m : MM), P_X8_poly_99 Q K3 K27 x1 x2 x3 x4 x5 x6 x7 m → B f M_X8_poly 99 [vR 378, vI x1, vI x2, vI x3, vI x4, vI x5, vI x6, vI x7] [] m Q T := by
  intro x1 x2 x3 x4 x5 x6 x7 m h
  have h : (RI (m 378 2)) ∧ (if (m 378 2) = 0 then K27 x1 x2 x3 x4 x5 x6 (x7 + 1) m else Q 0 m) := h
  refine b_aload_n dX8_poly_99 rfl ?_
  refine b_getI dX8_poly_100 fk_X8_26 ly_378 ?_
  obtain ⟨g1, h⟩ := h
  refine b_if_eq 107 dX8_poly_103 g1 (by decide) (fun c1 => ?_) (fun c1 => ?_)
  · have h := ifT c1 h
    refine b_iinc (ls' := [vR 378, vI x1, vI x2, vI x3, vI x4, vI x5, vI x6, vI (x7 + 1)]) dX8_poly_107 rfl rfl ?_
    refine b_goto 27 dX8_poly_110 (by decide) ?_
    exact hK27 _ _ _ _ _ _ _ _ h
  · have h := ifF c1 h
    exact b_vret dX8_poly_106 rfl h
theorem pl_X8_poly_151 {f : Nat} {Q : Int → MM → Prop} {T : MM → Prop} (hf : 5 ≤ f) {K3 : Int → Int → Int → Int → Int → MM → Prop} (hK3 : ∀ (x1 : Int) (x2 : Int) (x3 : Int) (x4 : Int) (x5 : Int) (m : MM), K3 x1 x2 x3 x4 x5 m → B f M_X8_poly 3 [vR 378, vI x1, vI x2, vI x3, vI x4, vI x5, vU, vU] [] m Q T) : ∀ (x1 : Int) (x2 : Int) (x3 : Int) (x4 : Int) (x5 : Int) (m : MM), P_X8_poly_151 Q K3 x1 x2 x3 x4 x5 m → B f M_X8_poly 151 [vR 378, vI x1, vI x2, vI x3, vI x4, vI x5, vU, vU] [] m Q T := by
  intro x1 x2 x3 x4 x5 m h
  have h : (RI (m 378 2)) ∧ (if (m 378 2) = 0 then K3 x1 x2 x3 x4 (x5 + 1) m else Q 0 m) := h
  refine b_aload_n dX8_poly_151 rfl ?_
  refine b_getI dX8_poly_152 fk_X8_26 ly_378 ?_
  obtain ⟨g1, h⟩ := h
  refine b_if_eq 159 dX8_poly_155 g1 (by decide) (fun c1 => ?_) (fun c1 => ?_)
  · have h := ifT c1 h
    refine b_iinc (ls' := [vR 378, vI x1, vI x2, vI x3, vI x4, vI (x5 + 1), vU, vU]) dX8_poly_159 rfl rfl ?_
    refine b_goto 3 dX8_poly_162 (by decide) ?_
    exact hK3 _ _ _ _ _ _ h
  · have h := ifF c1 h
    exact b_vret dX8_poly_158 rfl h
theorem pl_X8_poly_113 {f : Nat} {Q : Int → MM → Prop} {T : MM → Prop} (hf : 5 ≤ f) {K3 : Int → Int → Int → Int → Int → MM → Prop} (hK3 : ∀ (x1 : Int) (x2 : Int) (x3 : Int) (x4 : Int) (x5 : Int) (m : MM), K3 x1 x2 x3 x4 x5 m → B f M_X8_poly 3 [vR 378, vI x1, vI x2, vI x3, vI x4, vI x5, vU, vU] [] m Q T) : ∀ (x1 : Int) (x2 : Int) (x3 : Int) (x4 : Int) (x5 : Int) (m : MM), P_X8_poly_113 Q K3 x1 x2 x3 x4 x5 m → B f M_X8_poly 113 [vR 378, vI x1, vI x2, vI x3, vI x4, vI x5, vU, vU] [] m Q T := by
  intro x1 x2 x3 x4 x5 m h
  have h : (RI x5) ∧ (if 7 ≤ x5 then P_X8_isZero 1157576 m (fun r1 m1 => (RI r1) ∧ (if r1 = 0 then ∀ m2 : MM, m2 = up m1 378 2 4 → P_X8_poly_151 Q K3 x1 x2 x3 x4 x5 m2 else P_X8_poly_151 Q K3 x1 x2 x3 x4 x5 m1)) else P_X8_copy 1157576 (x4 + (2 * x5)) 1 m (fun r2 m3 => P_X8_poly_151 Q K3 x1 x2 x3 x4 x5 m3)) := h
  refine b_iload dX8_poly_113 rfl ?_
  refine b_bipush dX8_poly_115 (by decide) ?_
  obtain ⟨g1, h⟩ := h
  refine b_icmp_ge 137 dX8_poly_117 g1 (by decide) (by decide) (fun c1 => ?_) (fun c1 => ?_)
  · have h := ifT c1 h
    refine b_aload_n dX8_poly_137 rfl ?_
    refine b_ldc (1157576) dX8_poly_138 q1409 (by decide) ?_
    refine b_cVi (as := [vI 1157576]) (st := []) dX8_poly_140 mf_X8_isZero q1420 lk_X8_85 ly_378 rfl (p_X8_isZero (f := 1) (Nat.le_refl _) _ _ h) (by omega) rfl rfl (Nat.le_of_ble_eq_true rfl) (by decide) rfl (fun _ => rfl) (fun r1 m1 h => ?_) (fun _ h => h)
    obtain ⟨g2, h⟩ := h
    refine b_if_ne 151 dX8_poly_143 g2 (by decide) (fun c2 => ?_) (fun c2 => ?_)
    · have h := ifF c2 h
      exact pl_X8_poly_151 hf hK3 _ _ _ _ _ _ h
    · have h := ifT (Decidable.of_not_not c2) h
      refine b_aload_n dX8_poly_146 rfl ?_
      refine b_iconst dX8_poly_147 ?_
      refine b_putI dX8_poly_148 fk_X8_26 ly_378 (fun m2 em2 => ?_)
      have h := h m2 em2
      exact pl_X8_poly_151 hf hK3 _ _ _ _ _ _ h
  · have h := ifF c1 h
    refine b_aload_n dX8_poly_120 rfl ?_
    refine b_ldc (1157576) dX8_poly_121 q1409 (by decide) ?_
    refine b_iload dX8_poly_123 rfl ?_
    refine b_iconst dX8_poly_125 ?_
    refine b_iload dX8_poly_126 rfl ?_
    refine b_imul dX8_poly_128 ?_
    refine b_iadd dX8_poly_129 ?_
    refine b_iconst dX8_poly_130 ?_
    refine b_cVv (as := [vI 1157576, vI (x4 + (2 * x5)), vI 1]) (st := []) dX8_poly_131 mf_X8_copy q1320 lk_X8_81 ly_378 rfl (p_X8_copy (f := 2) (Nat.le_refl _) _ _ _ _ h) (by omega) rfl rfl (Nat.le_of_ble_eq_true rfl) (by decide) rfl (fun _ => rfl) (fun r2 m3 h => ?_) (fun _ h => h)
    refine b_goto 151 dX8_poly_134 (by decide) ?_
    exact pl_X8_poly_151 hf hK3 _ _ _ _ _ _ h
theorem pl_X8_poly_27 {f : Nat} {Q : Int → MM → Prop} {T : MM → Prop} (hf : 5 ≤ f) {K3 : Int → Int → Int → Int → Int → MM → Prop} (hK3 : ∀ (x1 : Int) (x2 : Int) (x3 : Int) (x4 : Int) (x5 : Int) (m : MM), K3 x1 x2 x3 x4 x5 m → B f M_X8_poly 3 [vR 378, vI x1, vI x2, vI x3, vI x4, vI x5, vU, vU] [] m Q T) : ∀ (n : Nat) (x1 : Int) (x2 : Int) (x3 : Int) (x4 : Int) (x5 : Int) (x6 : Int) (x7 : Int) (m : MM), P_X8_poly_27 Q K3 n x1 x2 x3 x4 x5 x6 x7 m → B f M_X8_poly 27 [vR 378, vI x1, vI x2, vI x3, vI x4, vI x5, vI x6, vI x7] [] m Q T := by
  intro n
  induction n with
  | zero => intro x1 x2 x3 x4 x5 x6 x7 m h; exact h.elim
  | succ n ih =>
    intro x1 x2 x3 x4 x5 x6 x7 m h
    have h : P_J4_min x5 6 m (fun r1 m1 => (RI x7) ∧ (RI r1) ∧ (if r1 < x7 then P_X8_poly_113 Q K3 x1 x2 x3 x4 x5 m1 else ((RI x6)) ∧ P_X8_times x1 (x2 + (2 * x7)) (x3 + (2 * (x5 - x7))) (if x7 = x6 then 1157576 else 1157578 : Int) m1 (fun r2 m2 => (RI (m2 378 2)) ∧ (if (m2 378 2) = 0 then (RI x6) ∧ (if x7 ≤ x6 then P_X8_poly_99 Q K3 (fun z0 z1 z2 z3 z4 z5 z6 z7 => P_X8_poly_27 Q K3 n z0 z1 z2 z3 z4 z5 z6 z7) x1 x2 x3 x4 x5 x6 x7 m2 else P_X8_add x1 1157576 1157578 1157576 0 m2 (fun r3 m3 => P_X8_poly_99 Q K3 (fun z0 z1 z2 z3 z4 z5 z6 z7 => P_X8_poly_27 Q K3 n z0 z1 z2 z3 z4 z5 z6 z7) x1 x2 x3 x4 x5 x6 x7 m3)) else P_X8_poly_99 Q K3 (fun z0 z1 z2 z3 z4 z5 z6 z7 => P_X8_poly_27 Q K3 n z0 z1 z2 z3 z4 z5 z6 z7) x1 x2 x3 x4 x5 x6 x7 m2)))) := h
    refine b_iload dX8_poly_27 rfl ?_
    refine b_iload dX8_poly_29 rfl ?_
    refine b_bipush dX8_poly_31 (by decide) ?_
    refine b_cSi (as := [vI x5, vI 6]) (st := [vI x7]) dX8_poly_33 mf_J4_min lk_X8_72 (p_J4_min (f := 1) (Nat.le_refl _) _ _ _ h) (by omega) rfl rfl (Nat.le_of_ble_eq_true rfl) (by decide) rfl (fun _ => rfl) (fun r1 m1 h => ?_) (fun _ h => h)
    obtain ⟨g1, h⟩ := h
    obtain ⟨g2, h⟩ := h
    refine b_icmp_gt 113 dX8_poly_36 g1 g2 (by decide) (fun c1 => ?_) (fun c1 => ?_)
    · have h := ifT c1 h
      refine b_fgt [true, true, true, true, true, true, false, false] (ls' := [vR 378, vI x1, vI x2, vI x3, vI x4, vI x5, vU, vU]) rfl rfl ?_
      exact pl_X8_poly_113 hf hK3 _ _ _ _ _ _ h
    · have h := ifF c1 h
      refine b_aload_n dX8_poly_39 rfl ?_
      refine b_iload_n dX8_poly_40 rfl ?_
      refine b_iload_n dX8_poly_41 rfl ?_
      refine b_iconst dX8_poly_42 ?_
      refine b_iload dX8_poly_43 rfl ?_
      refine b_imul dX8_poly_45 ?_
      refine b_iadd dX8_poly_46 ?_
      refine b_iload_n dX8_poly_47 rfl ?_
      refine b_iconst dX8_poly_48 ?_
      refine b_iload dX8_poly_49 rfl ?_
      refine b_iload dX8_poly_51 rfl ?_
      refine b_isub dX8_poly_53 ?_
      refine b_imul dX8_poly_54 ?_
      refine b_iadd dX8_poly_55 ?_
      refine b_iload dX8_poly_56 rfl ?_
      refine b_iload dX8_poly_58 rfl ?_
      obtain ⟨hs, h⟩ := h
      have K : B f M_X8_poly 70 [vR 378, vI x1, vI x2, vI x3, vI x4, vI x5, vI x6, vI x7] [vI (if x7 = x6 then 1157576 else 1157578 : Int), vI (x3 + (2 * (x5 - x7))), vI (x2 + (2 * x7)), vI x1, vR 378] m1 Q T := by
        clear hs
        refine b_cVv (as := [vI x1, vI (x2 + (2 * x7)), vI (x3 + (2 * (x5 - x7))), vI (if x7 = x6 then 1157576 else 1157578 : Int)]) (st := []) dX8_poly_70 mf_X8_times q1386 lk_X8_77 ly_378 rfl (p_X8_times (f := 4) (Nat.le_refl _) _ _ _ _ _ h) (by omega) rfl rfl (Nat.le_of_ble_eq_true rfl) (by decide) rfl (fun _ => rfl) (fun r2 m2 h => ?_) (fun _ h => h)
        refine b_aload_n dX8_poly_73 rfl ?_
        refine b_getI dX8_poly_74 fk_X8_26 ly_378 ?_
        obtain ⟨g4, h⟩ := h
        refine b_if_ne 99 dX8_poly_77 g4 (by decide) (fun c2 => ?_) (fun c2 => ?_)
        · have h := ifF c2 h
          exact pl_X8_poly_99 hf hK3 (fun _ _ _ _ _ _ _ _ h => ih _ _ _ _ _ _ _ _ h) _ _ _ _ _ _ _ _ h
        · have h := ifT (Decidable.of_not_not c2) h
          refine b_iload dX8_poly_80 rfl ?_
          refine b_iload dX8_poly_82 rfl ?_
          obtain ⟨g5, h⟩ := h
          refine b_icmp_le 99 dX8_poly_84 g1 g5 (by decide) (fun c3 => ?_) (fun c3 => ?_)
          · have h := ifT c3 h
            exact pl_X8_poly_99 hf hK3 (fun _ _ _ _ _ _ _ _ h => ih _ _ _ _ _ _ _ _ h) _ _ _ _ _ _ _ _ h
          · have h := ifF c3 h
            refine b_aload_n dX8_poly_87 rfl ?_
            refine b_iload_n dX8_poly_88 rfl ?_
            refine b_ldc (1157576) dX8_poly_89 q1409 (by decide) ?_
            refine b_ldc (1157578) dX8_poly_91 q1410 (by decide) ?_
            refine b_ldc (1157576) dX8_poly_93 q1409 (by decide) ?_
            refine b_iconst dX8_poly_95 ?_
            refine b_cVv (as := [vI x1, vI 1157576, vI 1157578, vI 1157576, vI 0]) (st := []) dX8_poly_96 mf_X8_add q1413 lk_X8_65 ly_378 rfl (p_X8_add (f := 4) (Nat.le_refl _) _ _ _ _ _ _ h) (by omega) rfl rfl (Nat.le_of_ble_eq_true rfl) (by decide) rfl (fun _ => rfl) (fun r3 m3 h => ?_) (fun _ h => h)
            exact pl_X8_poly_99 hf hK3 (fun _ _ _ _ _ _ _ _ h => ih _ _ _ _ _ _ _ _ h) _ _ _ _ _ _ _ _ h
      have g3 := hs
      refine b_icmp_ne 68 dX8_poly_60 g1 g3 (by decide) (fun c4 => ?_) (fun c4 => ?_)
      ·
        refine b_ldc (1157578) dX8_poly_68 q1410 (by decide) ?_
        rw [if_neg c4] at K
        exact K
      ·
        have c4 := Decidable.of_not_not c4
        refine b_ldc (1157576) dX8_poly_63 q1409 (by decide) ?_
        refine b_goto 70 dX8_poly_65 (by decide) ?_
        rw [if_pos c4] at K
        exact K
theorem pl_X8_poly_3 {f : Nat} {Q : Int → MM → Prop} {T : MM → Prop} (hf : 5 ≤ f) : ∀ (n : Nat) (x1 : Int) (x2 : Int) (x3 : Int) (x4 : Int) (x5 : Int) (m : MM), P_X8_poly_3 Q n x1 x2 x3 x4 x5 m → B f M_X8_poly 3 [vR 378, vI x1, vI x2, vI x3, vI x4, vI x5, vU, vU] [] m Q T := by
  intro n
  induction n with
  | zero => intro x1 x2 x3 x4 x5 m h; exact h.elim
  | succ n ih =>
    intro x1 x2 x3 x4 x5 m h
    have h : (RI x5) ∧ (if 12 < x5 then Q 0 m else P_J4_max 0 ((x5 - 7) + 1) m (fun r1 m1 => ∃ nn, P_X8_poly_27 Q (fun z0 z1 z2 z3 z4 z5 => P_X8_poly_3 Q n z0 z1 z2 z3 z4 z5) nn x1 x2 x3 x4 x5 r1 r1 m1)) := h
    refine b_iload dX8_poly_3 rfl ?_
    refine b_bipush dX8_poly_5 (by decide) ?_
    obtain ⟨g1, h⟩ := h
    refine b_icmp_gt 165 dX8_poly_7 g1 (by decide) (by decide) (fun c1 => ?_) (fun c1 => ?_)
    · have h := ifT c1 h
      exact b_vret dX8_poly_165 rfl h
    · have h := ifF c1 h
      refine b_iconst dX8_poly_10 ?_
      refine b_iload dX8_poly_11 rfl ?_
      refine b_bipush dX8_poly_13 (by decide) ?_
      refine b_isub dX8_poly_15 ?_
      refine b_iconst dX8_poly_16 ?_
      refine b_iadd dX8_poly_17 ?_
      refine b_cSi (as := [vI 0, vI ((x5 - 7) + 1)]) (st := []) dX8_poly_18 mf_J4_max lk_X8_69 (p_J4_max (f := 1) (Nat.le_refl _) _ _ _ h) (by omega) rfl rfl (Nat.le_of_ble_eq_true rfl) (by decide) rfl (fun _ => rfl) (fun r1 m1 h => ?_) (fun _ h => h)
      refine b_istore (ls' := [vR 378, vI x1, vI x2, vI x3, vI x4, vI x5, vI r1, vU]) dX8_poly_21 (Nat.le_of_ble_eq_true rfl) rfl ?_
      refine b_iload dX8_poly_23 rfl ?_
      refine b_istore (ls' := [vR 378, vI x1, vI x2, vI x3, vI x4, vI x5, vI r1, vI r1]) dX8_poly_25 (Nat.le_of_ble_eq_true rfl) rfl ?_
      obtain ⟨nn, h⟩ := h
      exact pl_X8_poly_27 hf (fun _ _ _ _ _ _ h => ih _ _ _ _ _ _ h) nn _ _ _ _ _ _ _ _ h
theorem p_X8_poly {f : Nat} {Q : Int → MM → Prop} {T : MM → Prop} (hf : 5 ≤ f) (x1 : Int) (x2 : Int) (x3 : Int) (x4 : Int) (m : MM) (h : P_X8_poly x1 x2 x3 x4 m Q) : CC f M_X8_poly [vR 378, vI x1, vI x2, vI x3, vI x4] m Q T := by
  refine CC.of (plainFor_of_name (by decide)) (Nat.le_of_ble_eq_true rfl) (ls := [vR 378, vI x1, vI x2, vI x3, vI x4, vU, vU, vU]) rfl ?_
  have h : ∃ nn, P_X8_poly_3 Q nn x1 x2 x3 x4 0 m := h
  refine b_iconst dX8_poly_0 ?_
  refine b_istore (ls' := [vR 378, vI x1, vI x2, vI x3, vI x4, vI 0, vU, vU]) dX8_poly_1 (Nat.le_of_ble_eq_true rfl) rfl ?_
  obtain ⟨nn, h⟩ := h
  exact pl_X8_poly_3 hf nn _ _ _ _ _ _ h
theorem dX8_product_0 : decode cX8_product 0 = .ok (.iload_n 2, 1) := by decide +kernel
theorem dX8_product_1 : decode cX8_product 1 = .ok (.ifCond .ne 14, 3) := by decide +kernel
theorem dX8_product_4 : decode cX8_product 4 = .ok (.aload_n 0, 1) := by decide +kernel
theorem dX8_product_5 : decode cX8_product 5 = .ok (.iload_n 1, 1) := by decide +kernel
theorem dX8_product_6 : decode cX8_product 6 = .ok (.iload_n 3, 1) := by decide +kernel
theorem dX8_product_7 : decode cX8_product 7 = .ok (.iload 4, 2) := by decide +kernel
theorem dX8_product_9 : decode cX8_product 9 = .ok (.iload 5, 2) := by decide +kernel
theorem dX8_product_11 : decode cX8_product 11 = .ok (.invokevirtual 77, 3) := by decide +kernel
theorem dX8_product_14 : decode cX8_product 14 = .ok (.return_, 1) := by decide +kernel
theorem dX8_product_15 : decode cX8_product 15 = .ok (.iload_n 2, 1) := by decide +kernel
theorem dX8_product_16 : decode cX8_product 16 = .ok (.iconst 1, 1) := by decide +kernel
theorem dX8_product_17 : decode cX8_product 17 = .ok (.if_icmp .ne 14, 3) := by decide +kernel
theorem dX8_product_20 : decode cX8_product 20 = .ok (.aload_n 0, 1) := by decide +kernel
theorem dX8_product_21 : decode cX8_product 21 = .ok (.iload_n 1, 1) := by decide +kernel
theorem dX8_product_22 : decode cX8_product 22 = .ok (.iload_n 3, 1) := by decide +kernel
theorem dX8_product_23 : decode cX8_product 23 = .ok (.iload 4, 2) := by decide +kernel
theorem dX8_product_25 : decode cX8_product 25 = .ok (.iload 5, 2) := by decide +kernel
theorem dX8_product_27 : decode cX8_product 27 = .ok (.invokevirtual 89, 3) := by decide +kernel
theorem dX8_product_30 : decode cX8_product 30 = .ok (.return_, 1) := by decide +kernel
theorem dX8_product_31 : decode cX8_product 31 = .ok (.bipush 14, 2) := by decide +kernel
theorem dX8_product_33 : decode cX8_product 33 = .ok (.istore 6, 2) := by decide +kernel
theorem dX8_product_35 : decode cX8_product 35 = .ok (.iconst 0, 1) := by decide +kernel
theorem dX8_product_36 : decode cX8_product 36 = .ok (.istore 7, 2) := by decide +kernel
theorem dX8_product_38 : decode cX8_product 38 = .ok (.iload 7, 2) := by decide +kernel
theorem dX8_product_40 : decode cX8_product 40 = .ok (.bipush 12, 2) := by decide +kernel
theorem dX8_product_42 : decode cX8_product 42 = .ok (.if_icmp .gt 167, 3) := by decide +kernel
theorem dX8_product_45 : decode cX8_product 45 = .ok (.iconst 0, 1) := by decide +kernel
theorem dX8_product_46 : decode cX8_product 46 = .ok (.iload 7, 2) := by decide +kernel
theorem dX8_product_48 : decode cX8_product 48 = .ok (.bipush 7, 2) := by decide +kernel
theorem dX8_product_50 : decode cX8_product 50 = .ok (.isub, 1) := by decide +kernel
theorem dX8_product_51 : decode cX8_product 51 = .ok (.iconst 1, 1) := by decide +kernel
theorem dX8_product_52 : decode cX8_product 52 = .ok (.iadd, 1) := by decide +kernel
theorem dX8_product_53 : decode cX8_product 53 = .ok (.invokestatic 69, 3) := by decide +kernel
theorem dX8_product_56 : decode cX8_product 56 = .ok (.istore 8, 2) := by decide +kernel
theorem dX8_product_58 : decode cX8_product 58 = .ok (.iload 8, 2) := by decide +kernel
theorem dX8_product_60 : decode cX8_product 60 = .ok (.istore 9, 2) := by decide +kernel
theorem dX8_product_62 : decode cX8_product 62 = .ok (.iload 9, 2) := by decide +kernel
theorem dX8_product_64 : decode cX8_product 64 = .ok (.iload 7, 2) := by decide +kernel
theorem dX8_product_66 : decode cX8_product 66 = .ok (.bipush 6, 2) := by decide +kernel
theorem dX8_product_68 : decode cX8_product 68 = .ok (.invokestatic 72, 3) := by decide +kernel
theorem dX8_product_71 : decode cX8_product 71 = .ok (.if_icmp .gt 82, 3) := by decide +kernel
theorem dX8_product_74 : decode cX8_product 74 = .ok (.aload_n 0, 1) := by decide +kernel
theorem dX8_product_75 : decode cX8_product 75 = .ok (.iload_n 1, 1) := by decide +kernel
theorem dX8_product_76 : decode cX8_product 76 = .ok (.iload_n 3, 1) := by decide +kernel
theorem dX8_product_77 : decode cX8_product 77 = .ok (.iload 6, 2) := by decide +kernel
theorem dX8_product_79 : decode cX8_product 79 = .ok (.iload 9, 2) := by decide +kernel
theorem dX8_product_81 : decode cX8_product 81 = .ok (.imul, 1) := by decide +kernel
theorem dX8_product_82 : decode cX8_product 82 = .ok (.iadd, 1) := by decide +kernel
theorem dX8_product_83 : decode cX8_product 83 = .ok (.iload 4, 2) := by decide +kernel
theorem dX8_product_85 : decode cX8_product 85 = .ok (.iload 6, 2) := by decide +kernel
theorem dX8_product_87 : decode cX8_product 87 = .ok (.iload 7, 2) := by decide +kernel
theorem dX8_product_89 : decode cX8_product 89 = .ok (.iload 9, 2) := by decide +kernel
theorem dX8_product_91 : decode cX8_product 91 = .ok (.isub, 1) := by decide +kernel
theorem dX8_product_92 : decode cX8_product 92 = .ok (.imul, 1) := by decide +kernel
theorem dX8_product_93 : decode cX8_product 93 = .ok (.iadd, 1) := by decide +kernel
theorem dX8_product_94 : decode cX8_product 94 = .ok (.iload 9, 2) := by decide +kernel
theorem dX8_product_96 : decode cX8_product 96 = .ok (.iload 8, 2) := by decide +kernel
theorem dX8_product_98 : decode cX8_product 98 = .ok (.if_icmp .ne 8, 3) := by decide +kernel
theorem dX8_product_101 : decode cX8_product 101 = .ok (.ldc 92, 2) := by decide +kernel
theorem dX8_product_103 : decode cX8_product 103 = .ok (.goto 5, 3) := by decide +kernel
theorem dX8_product_106 : decode cX8_product 106 = .ok (.ldc 93, 2) := by decide +kernel
theorem dX8_product_108 : decode cX8_product 108 = .ok (.invokevirtual 89, 3) := by decide +kernel
theorem dX8_product_111 : decode cX8_product 111 = .ok (.aload_n 0, 1) := by decide +kernel
theorem dX8_product_112 : decode cX8_product 112 = .ok (.getfield 26, 3) := by decide +kernel
theorem dX8_product_115 : decode cX8_product 115 = .ok (.ifCond .ne 24, 3) := by decide +kernel
theorem dX8_product_118 : decode cX8_product 118 = .ok (.iload 9, 2) := by decide +kernel
theorem dX8_product_120 : decode cX8_product 120 = .ok (.iload 8, 2) := by decide +kernel
theorem dX8_product_122 : decode cX8_product 122 = .ok (.if_icmp .le 17, 3) := by decide +kernel
theorem dX8_product_125 : decode cX8_product 125 = .ok (.aload_n 0, 1) := by decide +kernel
theorem dX8_product_126 : decode cX8_product 126 = .ok (.iload_n 1, 1) := by decide +kernel
theorem dX8_product_127 : decode cX8_product 127 = .ok (.ldc 92, 2) := by decide +kernel
theorem dX8_product_129 : decode cX8_product 129 = .ok (.ldc 93, 2) := by decide +kernel
theorem dX8_product_131 : decode cX8_product 131 = .ok (.ldc 92, 2) := by decide +kernel
theorem dX8_product_133 : decode cX8_product 133 = .ok (.bipush 7, 2) := by decide +kernel
theorem dX8_product_135 : decode cX8_product 135 = .ok (.iconst 0, 1) := by decide +kernel
theorem dX8_product_136 : decode cX8_product 136 = .ok (.invokevirtual 94, 3) := by decide +kernel
theorem dX8_product_139 : decode cX8_product 139 = .ok (.aload_n 0, 1) := by decide +kernel
theorem dX8_product_140 : decode cX8_product 140 = .ok (.getfield 26, 3) := by decide +kernel
theorem dX8_product_143 : decode cX8_product 143 = .ok (.ifCond .eq 4, 3) := by decide +kernel
theorem dX8_product_146 : decode cX8_product 146 = .ok (.return_, 1) := by decide +kernel
theorem dX8_product_147 : decode cX8_product 147 = .ok (.iinc 9 1, 3) := by decide +kernel
theorem dX8_product_150 : decode cX8_product 150 = .ok (.goto (-88), 3) := by decide +kernel
theorem dX8_product_153 : decode cX8_product 153 = .ok (.iload 7, 2) := by decide +kernel
theorem dX8_product_155 : decode cX8_product 155 = .ok (.bipush 7, 2) := by decide +kernel
theorem dX8_product_157 : decode cX8_product 157 = .ok (.if_icmp .ge 22, 3) := by decide +kernel
theorem dX8_product_160 : decode cX8_product 160 = .ok (.aload_n 0, 1) := by decide +kernel
theorem dX8_product_161 : decode cX8_product 161 = .ok (.ldc 92, 2) := by decide +kernel
theorem dX8_product_163 : decode cX8_product 163 = .ok (.iload 5, 2) := by decide +kernel
theorem dX8_product_165 : decode cX8_product 165 = .ok (.iload 6, 2) := by decide +kernel
theorem dX8_product_167 : decode cX8_product 167 = .ok (.iload 7, 2) := by decide +kernel
theorem dX8_product_169 : decode cX8_product 169 = .ok (.imul, 1) := by decide +kernel
theorem dX8_product_170 : decode cX8_product 170 = .ok (.iadd, 1) := by decide +kernel
theorem dX8_product_171 : decode cX8_product 171 = .ok (.bipush 7, 2) := by decide +kernel
theorem dX8_product_173 : decode cX8_product 173 = .ok (.invokevirtual 81, 3) := by decide +kernel
theorem dX8_product_176 : decode cX8_product 176 = .ok (.goto 19, 3) := by decide +kernel
theorem dX8_product_179 : decode cX8_product 179 = .ok (.aload_n 0, 1) := by decide +kernel
theorem dX8_product_180 : decode cX8_product 180 = .ok (.ldc 92, 2) := by decide +kernel
theorem dX8_product_182 : decode cX8_product 182 = .ok (.bipush 7, 2) := by decide +kernel
theorem dX8_product_184 : decode cX8_product 184 = .ok (.invokevirtual 98, 3) := by decide +kernel
theorem dX8_product_187 : decode cX8_product 187 = .ok (.ifCond .ne 8, 3) := by decide +kernel
theorem dX8_product_190 : decode cX8_product 190 = .ok (.aload_n 0, 1) := by decide +kernel
theorem dX8_product_191 : decode cX8_product 191 = .ok (.iconst 4, 1) := by decide +kernel
theorem dX8_product_192 : decode cX8_product 192 = .ok (.putfield 26, 3) := by decide +kernel
theorem dX8_product_195 : decode cX8_product 195 = .ok (.aload_n 0, 1) := by decide +kernel
theorem dX8_product_196 : decode cX8_product 196 = .ok (.getfield 26, 3) := by decide +kernel
theorem dX8_product_199 : decode cX8_product 199 = .ok (.ifCond .eq 4, 3) := by decide +kernel
theorem dX8_product_202 : decode cX8_product 202 = .ok (.return_, 1) := by decide +kernel
theorem dX8_product_203 : decode cX8_product 203 = .ok (.iinc 7 1, 3) := by decide +kernel
theorem dX8_product_206 : decode cX8_product 206 = .ok (.goto (-168), 3) := by decide +kernel
theorem dX8_product_209 : decode cX8_product 209 = .ok (.return_, 1) := by decide +kernel
/-! AlgebraHouse$Numbers.product(IIIII)V -/
def P_X8_product_139 (Q : Int → MM → Prop) (K38 : Int → Int → Int → Int → Int → Int → MM → Prop) (K62 : Int → Int → Int → Int → Int → Int → Int → Int → MM → Prop) (x1 : Int) (x3 : Int) (x4 : Int) (x5 : Int) (x6 : Int) (x7 : Int) (x8 : Int) (x9 : Int) (m : MM) : Prop := (RI (m 378 2)) ∧ (if (m 378 2) = 0 then K62 x1 x3 x4 x5 x6 x7 x8 (x9 + 1) m else Q 0 m)
def P_X8_product_195 (Q : Int → MM → Prop) (K38 : Int → Int → Int → Int → Int → Int → MM → Prop) (x1 : Int) (x3 : Int) (x4 : Int) (x5 : Int) (x6 : Int) (x7 : Int) (m : MM) : Prop := (RI (m 378 2)) ∧ (if (m 378 2) = 0 then K38 x1 x3 x4 x5 x6 (x7 + 1) m else Q 0 m)
def P_X8_product_153 (Q : Int → MM → Prop) (K38 : Int → Int → Int → Int → Int → Int → MM → Prop) (x1 : Int) (x3 : Int) (x4 : Int) (x5 : Int) (x6 : Int) (x7 : Int) (m : MM) : Prop := (RI x7) ∧ (if 7 ≤ x7 then P_X8_isClear 1157478 7 m (fun r1 m1 => (RI r1) ∧ (if r1 = 0 then ∀ m2 : MM, m2 = up m1 378 2 4 → P_X8_product_195 Q K38 x1 x3 x4 x5 x6 x7 m2 else P_X8_product_195 Q K38 x1 x3 x4 x5 x6 x7 m1)) else P_X8_copy 1157478 (x5 + (x6 * x7)) 7 m (fun r2 m3 => P_X8_product_195 Q K38 x1 x3 x4 x5 x6 x7 m3))
def P_X8_product_62 (Q : Int → MM → Prop) (K38 : Int → Int → Int → Int → Int → Int → MM → Prop) : Nat → Int → Int → Int → Int → Int → Int → Int → Int → MM → Prop
  | 0, _, _, _, _, _, _, _, _, _ => False
  | n + 1, x1, x3, x4, x5, x6, x7, x8, x9, m => P_J4_min x7 6 m (fun r1 m1 => (RI x9) ∧ (RI r1) ∧ (if r1 < x9 then P_X8_product_153 Q K38 x1 x3 x4 x5 x6 x7 m1 else ((RI x8)) ∧ P_X8_poly x1 (x3 + (x6 * x9)) (x4 + (x6 * (x7 - x9))) (if x9 = x8 then 1157478 else 1157380 : Int) m1 (fun r2 m2 => (RI (m2 378 2)) ∧ (if (m2 378 2) = 0 then (RI x8) ∧ (if x9 ≤ x8 then P_X8_product_139 Q K38 (fun z0 z1 z2 z3 z4 z5 z6 z7 z8 => P_X8_product_62 Q K38 n z0 z1 z2 z3 z4 z5 z6 z7 z8) x1 x3 x4 x5 x6 x7 x8 x9 m2 else P_X8_addAll x1 1157478 1157380 1157478 7 0 m2 (fun r3 m3 => P_X8_product_139 Q K38 (fun z0 z1 z2 z3 z4 z5 z6 z7 z8 => P_X8_product_62 Q K38 n z0 z1 z2 z3 z4 z5 z6 z7 z8) x1 x3 x4 x5 x6 x7 x8 x9 m3)) else P_X8_product_139 Q K38 (fun z0 z1 z2 z3 z4 z5 z6 z7 z8 => P_X8_product_62 Q K38 n z0 z1 z2 z3 z4 z5 z6 z7 z8) x1 x3 x4 x5 x6 x7 x8 x9 m2))))
def P_X8_product_38 (Q : Int → MM → Prop) : Nat → Int → Int → Int → Int → Int → Int → MM → Prop
  | 0, _, _, _, _, _, _, _ => False
  | n + 1, x1, x3, x4, x5, x6, x7, m => (RI x7) ∧ (if 12 < x7 then Q 0 m else P_J4_max 0 ((x7 - 7) + 1) m (fun r1 m1 => ∃ nn, P_X8_product_62 Q (fun z0 z1 z2 z3 z4 z5 z6 => P_X8_product_38 Q n z0 z1 z2 z3 z4 z5 z6) nn x1 x3 x4 x5 x6 x7 r1 r1 m1))
def P_X8_product (x1 : Int) (x2 : Int) (x3 : Int) (x4 : Int) (x5 : Int) (m : MM) (Q : Int → MM → Prop) : Prop := (RI x2) ∧ (if x2 = 0 then P_X8_times x1 x3 x4 x5 m (fun r2 m2 => Q 0 m2) else (if x2 = 1 then P_X8_poly x1 x3 x4 x5 m (fun r1 m1 => Q 0 m1) else ∃ nn, P_X8_product_38 Q nn x1 x3 x4 x5 14 0 m))
theorem pl_X8_product_139 {f : Nat} {Q : Int → MM → Prop} {T : MM → Prop} (hf : 6 ≤ f) {K38 : Int → Int → Int → Int → Int → Int → MM → Prop} {K62 : Int → Int → Int → Int → Int → Int → Int → Int → MM → Prop} (hK38 : ∀ (x1 : Int) (x3 : Int) (x4 : Int) (x5 : Int) (x6 : Int) (x7 : Int) (m : MM), K38 x1 x3 x4 x5 x6 x7 m → B f M_X8_product 38 [vR 378, vI x1, vU, vI x3, vI x4, vI x5, vI x6, vI x7, vU, vU] [] m Q T) (hK62 : ∀ (x1 : Int) (x3 : Int) (x4 : Int) (x5 : Int) (x6 : Int) (x7 : Int) (x8 : Int) (x9 : Int) (m : MM), K62 x1 x3 x4 x5 x6 x7 x8 x9 m → B f M_X8_product 62 [vR 378, vI x1, vU, vI x3, vI x4, vI x5, vI x6, vI x7, vI x8, vI x9] [] m Q T) : ∀ (x1 : Int) (x3 : Int) (x4 : Int) (x5 : Int) (x6 : Int) (x7 : Int) (x8 : Int) (x9 : Int) (m : MM), P_X8_product_139 Q K38 K62 x1 x3 x4 x5 x6 x7 x8 x9 m → B f M_X8_product 139 [vR 378, vI x1, vU, vI x3, vI x4, vI x5, vI x6, vI x7, vI x8, vI x9] [] m Q T := by
  intro x1 x3 x4 x5 x6 x7 x8 x9 m h
  have h : (RI (m 378 2)) ∧ (if (m 378 2) = 0 then K62 x1 x3 x4 x5 x6 x7 x8 (x9 + 1) m else Q 0 m) := h
  refine b_aload_n dX8_product_139 rfl ?_
  refine b_getI dX8_product_140 fk_X8_26 ly_378 ?_
  obtain ⟨g1, h⟩ := h
  refine b_if_eq 147 dX8_product_143 g1 (by decide) (fun c1 => ?_) (fun c1 => ?_)
  · have h := ifT c1 h
    refine b_iinc (ls' := [vR 378, vI x1, vU, vI x3, vI x4, vI x5, vI x6, vI x7, vI x8, vI (x9 + 1)]) dX8_product_147 rfl rfl ?_
    refine b_goto 62 dX8_product_150 (by decide) ?_
    exact hK62 _ _ _ _ _ _ _ _ _ h
  · have h := ifF c1 h
    exact b_vret dX8_product_146 rfl h
theorem pl_X8_product_195 {f : Nat} {Q : Int → MM → Prop} {T : MM → Prop} (hf : 6 ≤ f) {K38 : Int → Int → Int → Int → Int → Int → MM → Prop} (hK38 : ∀ (x1 : Int) (x3 : Int) (x4 : Int) (x5 : Int) (x6 : Int) (x7 : Int) (m : MM), K38 x1 x3 x4 x5 x6 x7 m → B f M_X8_product 38 [vR 378, vI x1, vU, vI x3, vI x4, vI x5, vI x6, vI x7, vU, vU] [] m Q T) : ∀ (x1 : Int) (x3 : Int) (x4 : Int) (x5 : Int) (x6 : Int) (x7 : Int) (m : MM), P_X8_product_195 Q K38 x1 x3 x4 x5 x6 x7 m → B f M_X8_product 195 [vR 378, vI x1, vU, vI x3, vI x4, vI x5, vI x6, vI x7, vU, vU] [] m Q T := by
  intro x1 x3 x4 x5 x6 x7 m h
  have h : (RI (m 378 2)) ∧ (if (m 378 2) = 0 then K38 x1 x3 x4 x5 x6 (x7 + 1) m else Q 0 m) := h
  refine b_aload_n dX8_product_195 rfl ?_
  refine b_getI dX8_product_196 fk_X8_26 ly_378 ?_
  obtain ⟨g1, h⟩ := h
  refine b_if_eq 203 dX8_product_199 g1 (by decide) (fun c1 => ?_) (fun c1 => ?_)
  · have h := ifT c1 h
    refine b_iinc (ls' := [vR 378, vI x1, vU, vI x3, vI x4, vI x5, vI x6, vI (x7 + 1), vU, vU]) dX8_product_203 rfl rfl ?_
    refine b_goto 38 dX8_product_206 (by decide) ?_
    exact hK38 _ _ _ _ _ _ _ h
  · have h := ifF c1 h
    exact b_vret dX8_product_202 rfl h
theorem pl_X8_product_153 {f : Nat} {Q : Int → MM → Prop} {T : MM → Prop} (hf : 6 ≤ f) {K38 : Int → Int → Int → Int → Int → Int → MM → Prop} (hK38 : ∀ (x1 : Int) (x3 : Int) (x4 : Int) (x5 : Int) (x6 : Int) (x7 : Int) (m : MM), K38 x1 x3 x4 x5 x6 x7 m → B f M_X8_product 38 [vR 378, vI x1, vU, vI x3, vI x4, vI x5, vI x6, vI x7, vU, vU] [] m Q T) : ∀ (x1 : Int) (x3 : Int) (x4 : Int) (x5 : Int) (x6 : Int) (x7 : Int) (m : MM), P_X8_product_153 Q K38 x1 x3 x4 x5 x6 x7 m → B f M_X8_product 153 [vR 378, vI x1, vU, vI x3, vI x4, vI x5, vI x6, vI x7, vU, vU] [] m Q T := by
  intro x1 x3 x4 x5 x6 x7 m h
  have h : (RI x7) ∧ (if 7 ≤ x7 then P_X8_isClear 1157478 7 m (fun r1 m1 => (RI r1) ∧ (if r1 = 0 then ∀ m2 : MM, m2 = up m1 378 2 4 → P_X8_product_195 Q K38 x1 x3 x4 x5 x6 x7 m2 else P_X8_product_195 Q K38 x1 x3 x4 x5 x6 x7 m1)) else P_X8_copy 1157478 (x5 + (x6 * x7)) 7 m (fun r2 m3 => P_X8_product_195 Q K38 x1 x3 x4 x5 x6 x7 m3)) := h
  refine b_iload dX8_product_153 rfl ?_
  refine b_bipush dX8_product_155 (by decide) ?_
  obtain ⟨g1, h⟩ := h
  refine b_icmp_ge 179 dX8_product_157 g1 (by decide) (by decide) (fun c1 => ?_) (fun c1 => ?_)
  · have h := ifT c1 h
    refine b_aload_n dX8_product_179 rfl ?_
    refine b_ldc (1157478) dX8_product_180 q1422 (by decide) ?_
    refine b_bipush dX8_product_182 (by decide) ?_
    refine b_cVi (as := [vI 1157478, vI 7]) (st := []) dX8_product_184 mf_X8_isClear q1339 lk_X8_98 ly_378 rfl (p_X8_isClear (f := 1) (Nat.le_refl _) _ _ _ h) (by omega) rfl rfl (Nat.le_of_ble_eq_true rfl) (by decide) rfl (fun _ => rfl) (fun r1 m1 h => ?_) (fun _ h => h)
    obtain ⟨g2, h⟩ := h
    refine b_if_ne 195 dX8_product_187 g2 (by decide) (fun c2 => ?_) (fun c2 => ?_)
    · have h := ifF c2 h
      exact pl_X8_product_195 hf hK38 _ _ _ _ _ _ _ h
    · have h := ifT (Decidable.of_not_not c2) h
      refine b_aload_n dX8_product_190 rfl ?_
      refine b_iconst dX8_product_191 ?_
      refine b_putI dX8_product_192 fk_X8_26 ly_378 (fun m2 em2 => ?_)
      have h := h m2 em2
      exact pl_X8_product_195 hf hK38 _ _ _ _ _ _ _ h
  · have h := ifF c1 h
    refine b_aload_n dX8_product_160 rfl ?_
    refine b_ldc (1157478) dX8_product_161 q1422 (by decide) ?_
    refine b_iload dX8_product_163 rfl ?_
    refine b_iload dX8_product_165 rfl ?_
    refine b_iload dX8_product_167 rfl ?_
    refine b_imul dX8_product_169 ?_
    refine b_iadd dX8_product_170 ?_
    refine b_bipush dX8_product_171 (by decide) ?_
    refine b_cVv (as := [vI 1157478, vI (x5 + (x6 * x7)), vI 7]) (st := []) dX8_product_173 mf_X8_copy q1320 lk_X8_81 ly_378 rfl (p_X8_copy (f := 2) (Nat.le_refl _) _ _ _ _ h) (by omega) rfl rfl (Nat.le_of_ble_eq_true rfl) (by decide) rfl (fun _ => rfl) (fun r2 m3 h => ?_) (fun _ h => h)
    refine b_goto 195 dX8_product_176 (by decide) ?_
    exact pl_X8_product_195 hf hK38 _ _ _ _ _ _ _ h
theorem pl_X8_product_62 {f : Nat} {Q : Int → MM → Prop} {T : MM → Prop} (hf : 6 ≤ f) {K38 : Int → Int → Int → Int → Int → Int → MM → Prop} (hK38 : ∀ (x1 : Int) (x3 : Int) (x4 : Int) (x5 : Int) (x6 : Int) (x7 : Int) (m : MM), K38 x1 x3 x4 x5 x6 x7 m → B f M_X8_product 38 [vR 378, vI x1, vU, vI x3, vI x4, vI x5, vI x6, vI x7, vU, vU] [] m Q T) : ∀ (n : Nat) (x1 : Int) (x3 : Int) (x4 : Int) (x5 : Int) (x6 : Int) (x7 : Int) (x8 : Int) (x9 : Int) (m : MM), P_X8_product_62 Q K38 n x1 x3 x4 x5 x6 x7 x8 x9 m → B f M_X8_product 62 [vR 378, vI x1, vU, vI x3, vI x4, vI x5, vI x6, vI x7, vI x8, vI x9] [] m Q T := by
  intro n
  induction n with
  | zero => intro x1 x3 x4 x5 x6 x7 x8 x9 m h; exact h.elim
  | succ n ih =>
    intro x1 x3 x4 x5 x6 x7 x8 x9 m h
    have h : P_J4_min x7 6 m (fun r1 m1 => (RI x9) ∧ (RI r1) ∧ (if r1 < x9 then P_X8_product_153 Q K38 x1 x3 x4 x5 x6 x7 m1 else ((RI x8)) ∧ P_X8_poly x1 (x3 + (x6 * x9)) (x4 + (x6 * (x7 - x9))) (if x9 = x8 then 1157478 else 1157380 : Int) m1 (fun r2 m2 => (RI (m2 378 2)) ∧ (if (m2 378 2) = 0 then (RI x8) ∧ (if x9 ≤ x8 then P_X8_product_139 Q K38 (fun z0 z1 z2 z3 z4 z5 z6 z7 z8 => P_X8_product_62 Q K38 n z0 z1 z2 z3 z4 z5 z6 z7 z8) x1 x3 x4 x5 x6 x7 x8 x9 m2 else P_X8_addAll x1 1157478 1157380 1157478 7 0 m2 (fun r3 m3 => P_X8_product_139 Q K38 (fun z0 z1 z2 z3 z4 z5 z6 z7 z8 => P_X8_product_62 Q K38 n z0 z1 z2 z3 z4 z5 z6 z7 z8) x1 x3 x4 x5 x6 x7 x8 x9 m3)) else P_X8_product_139 Q K38 (fun z0 z1 z2 z3 z4 z5 z6 z7 z8 => P_X8_product_62 Q K38 n z0 z1 z2 z3 z4 z5 z6 z7 z8) x1 x3 x4 x5 x6 x7 x8 x9 m2)))) := h
    refine b_iload dX8_product_62 rfl ?_
    refine b_iload dX8_product_64 rfl ?_
    refine b_bipush dX8_product_66 (by decide) ?_
    refine b_cSi (as := [vI x7, vI 6]) (st := [vI x9]) dX8_product_68 mf_J4_min lk_X8_72 (p_J4_min (f := 1) (Nat.le_refl _) _ _ _ h) (by omega) rfl rfl (Nat.le_of_ble_eq_true rfl) (by decide) rfl (fun _ => rfl) (fun r1 m1 h => ?_) (fun _ h => h)
    obtain ⟨g1, h⟩ := h
    obtain ⟨g2, h⟩ := h
    refine b_icmp_gt 153 dX8_product_71 g1 g2 (by decide) (fun c1 => ?_) (fun c1 => ?_)
    · have h := ifT c1 h
      refine b_fgt [true, true, false, true, true, true, true, true, false, false] (ls' := [vR 378, vI x1, vU, vI x3, vI x4, vI x5, vI x6, vI x7, vU, vU]) rfl rfl ?_
      exact pl_X8_product_153 hf hK38 _ _ _ _ _ _ _ h
    · have h := ifF c1 h
      refine b_aload_n dX8_product_74 rfl ?_
      refine b_iload_n dX8_product_75 rfl ?_
      refine b_iload_n dX8_product_76 rfl ?_
      refine b_iload dX8_product_77 rfl ?_
      refine b_iload dX8_product_79 rfl ?_
      refine b_imul dX8_product_81 ?_
      refine b_iadd dX8_product_82 ?_
      refine b_iload dX8_product_83 rfl ?_
      refine b_iload dX8_product_85 rfl ?_
      refine b_iload dX8_product_87 rfl ?_
      refine b_iload dX8_product_89 rfl ?_
      refine b_isub dX8_product_91 ?_
      refine b_imul dX8_product_92 ?_
      refine b_iadd dX8_product_93 ?_
      refine b_iload dX8_product_94 rfl ?_
      refine b_iload dX8_product_96 rfl ?_
      obtain ⟨hs, h⟩ := h
      have K : B f M_X8_product 108 [vR 378, vI x1, vU, vI x3, vI x4, vI x5, vI x6, vI x7, vI x8, vI x9] [vI (if x9 = x8 then 1157478 else 1157380 : Int), vI (x4 + (x6 * (x7 - x9))), vI (x3 + (x6 * x9)), vI x1, vR 378] m1 Q T := by
        clear hs
        refine b_cVv (as := [vI x1, vI (x3 + (x6 * x9)), vI (x4 + (x6 * (x7 - x9))), vI (if x9 = x8 then 1157478 else 1157380 : Int)]) (st := []) dX8_product_108 mf_X8_poly qs73 lk_X8_89 ly_378 rfl (p_X8_poly (f := 5) (Nat.le_refl _) _ _ _ _ _ h) (by omega) rfl rfl (Nat.le_of_ble_eq_true rfl) (by decide) rfl (fun _ => rfl) (fun r2 m2 h => ?_) (fun _ h => h)
        refine b_aload_n dX8_product_111 rfl ?_
        refine b_getI dX8_product_112 fk_X8_26 ly_378 ?_
        obtain ⟨g4, h⟩ := h
        refine b_if_ne 139 dX8_product_115 g4 (by decide) (fun c2 => ?_) (fun c2 => ?_)
        · have h := ifF c2 h
          exact pl_X8_product_139 hf hK38 (fun _ _ _ _ _ _ _ _ _ h => ih _ _ _ _ _ _ _ _ _ h) _ _ _ _ _ _ _ _ _ h
        · have h := ifT (Decidable.of_not_not c2) h
          refine b_iload dX8_product_118 rfl ?_
          refine b_iload dX8_product_120 rfl ?_
          obtain ⟨g5, h⟩ := h
          refine b_icmp_le 139 dX8_product_122 g1 g5 (by decide) (fun c3 => ?_) (fun c3 => ?_)
          · have h := ifT c3 h
            exact pl_X8_product_139 hf hK38 (fun _ _ _ _ _ _ _ _ _ h => ih _ _ _ _ _ _ _ _ _ h) _ _ _ _ _ _ _ _ _ h
          · have h := ifF c3 h
            refine b_aload_n dX8_product_125 rfl ?_
            refine b_iload_n dX8_product_126 rfl ?_
            refine b_ldc (1157478) dX8_product_127 q1422 (by decide) ?_
            refine b_ldc (1157380) dX8_product_129 q1423 (by decide) ?_
            refine b_ldc (1157478) dX8_product_131 q1422 (by decide) ?_
            refine b_bipush dX8_product_133 (by decide) ?_
            refine b_iconst dX8_product_135 ?_
            refine b_cVv (as := [vI x1, vI 1157478, vI 1157380, vI 1157478, vI 7, vI 0]) (st := []) dX8_product_136 mf_X8_addAll q1426 lk_X8_94 ly_378 rfl (p_X8_addAll (f := 5) (Nat.le_refl _) _ _ _ _ _ _ _ h) (by omega) rfl rfl (Nat.le_of_ble_eq_true rfl) (by decide) rfl (fun _ => rfl) (fun r3 m3 h => ?_) (fun _ h => h)
            exact pl_X8_product_139 hf hK38 (fun _ _ _ _ _ _ _ _ _ h => ih _ _ _ _ _ _ _ _ _ h) _ _ _ _ _ _ _ _ _ h
      have g3 := hs
      refine b_icmp_ne 106 dX8_product_98 g1 g3 (by decide) (fun c4 => ?_) (fun c4 => ?_)
      ·
        refine b_ldc (1157380) dX8_product_106 q1423 (by decide) ?_
        rw [if_neg c4] at K
        exact K
      ·
        have c4 := Decidable.of_not_not c4
        refine b_ldc (1157478) dX8_product_101 q1422 (by decide) ?_
        refine b_goto 108 dX8_product_103 (by decide) ?_
        rw [if_pos c4] at K
        exact K
theorem pl_X8_product_38 {f : Nat} {Q : Int → MM → Prop} {T : MM → Prop} (hf : 6 ≤ f) : ∀ (n : Nat) (x1 : Int) (x3 : Int) (x4 : Int) (x5 : Int) (x6 : Int) (x7 : Int) (m : MM), P_X8_product_38 Q n x1 x3 x4 x5 x6 x7 m → B f M_X8_product 38 [vR 378, vI x1, vU, vI x3, vI x4, vI x5, vI x6, vI x7, vU, vU] [] m Q T := by
  intro n
  induction n with
  | zero => intro x1 x3 x4 x5 x6 x7 m h; exact h.elim
  | succ n ih =>
    intro x1 x3 x4 x5 x6 x7 m h
    have h : (RI x7) ∧ (if 12 < x7 then Q 0 m else P_J4_max 0 ((x7 - 7) + 1) m (fun r1 m1 => ∃ nn, P_X8_product_62 Q (fun z0 z1 z2 z3 z4 z5 z6 => P_X8_product_38 Q n z0 z1 z2 z3 z4 z5 z6) nn x1 x3 x4 x5 x6 x7 r1 r1 m1)) := h
    refine b_iload dX8_product_38 rfl ?_
    refine b_bipush dX8_product_40 (by decide) ?_
    obtain ⟨g1, h⟩ := h
    refine b_icmp_gt 209 dX8_product_42 g1 (by decide) (by decide) (fun c1 => ?_) (fun c1 => ?_)
    · have h := ifT c1 h
      exact b_vret dX8_product_209 rfl h
    · have h := ifF c1 h
      refine b_iconst dX8_product_45 ?_
      refine b_iload dX8_product_46 rfl ?_
      refine b_bipush dX8_product_48 (by decide) ?_
      refine b_isub dX8_product_50 ?_
      refine b_iconst dX8_product_51 ?_
      refine b_iadd dX8_product_52 ?_
      refine b_cSi (as := [vI 0, vI ((x7 - 7) + 1)]) (st := []) dX8_product_53 mf_J4_max lk_X8_69 (p_J4_max (f := 1) (Nat.le_refl _) _ _ _ h) (by omega) rfl rfl (Nat.le_of_ble_eq_true rfl) (by decide) rfl (fun _ => rfl) (fun r1 m1 h => ?_) (fun _ h => h)
      refine b_istore (ls' := [vR 378, vI x1, vU, vI x3, vI x4, vI x5, vI x6, vI x7, vI r1, vU]) dX8_product_56 (Nat.le_of_ble_eq_true rfl) rfl ?_
      refine b_iload dX8_product_58 rfl ?_
      refine b_istore (ls' := [vR 378, vI x1, vU, vI x3, vI x4, vI x5, vI x6, vI x7, vI r1, vI r1]) dX8_product_60 (Nat.le_of_ble_eq_true rfl) rfl ?_
      obtain ⟨nn, h⟩ := h
      exact pl_X8_product_62 hf (fun _ _ _ _ _ _ _ h => ih _ _ _ _ _ _ _ h) nn _ _ _ _ _ _ _ _ _ h
theorem p_X8_product {f : Nat} {Q : Int → MM → Prop} {T : MM → Prop} (hf : 6 ≤ f) (x1 : Int) (x2 : Int) (x3 : Int) (x4 : Int) (x5 : Int) (m : MM) (h : P_X8_product x1 x2 x3 x4 x5 m Q) : CC f M_X8_product [vR 378, vI x1, vI x2, vI x3, vI x4, vI x5] m Q T := by
  refine CC.of (plainFor_of_name (by decide)) (Nat.le_of_ble_eq_true rfl) (ls := [vR 378, vI x1, vI x2, vI x3, vI x4, vI x5, vU, vU, vU, vU]) rfl ?_
  have h : (RI x2) ∧ (if x2 = 0 then P_X8_times x1 x3 x4 x5 m (fun r2 m2 => Q 0 m2) else (if x2 = 1 then P_X8_poly x1 x3 x4 x5 m (fun r1 m1 => Q 0 m1) else ∃ nn, P_X8_product_38 Q nn x1 x3 x4 x5 14 0 m)) := h
  refine b_iload_n dX8_product_0 rfl ?_
  obtain ⟨g1, h⟩ := h
  refine b_if_ne 15 dX8_product_1 g1 (by decide) (fun c1 => ?_) (fun c1 => ?_)
  · have h := ifF c1 h
    refine b_iload_n dX8_product_15 rfl ?_
    refine b_iconst dX8_product_16 ?_
    refine b_icmp_ne 31 dX8_product_17 g1 (by decide) (by decide) (fun c2 => ?_) (fun c2 => ?_)
    · have h := ifF c2 h
      refine b_bipush dX8_product_31 (by decide) ?_
      refine b_istore (ls' := [vR 378, vI x1, vI x2, vI x3, vI x4, vI x5, vI 14, vU, vU, vU]) dX8_product_33 (Nat.le_of_ble_eq_true rfl) rfl ?_
      refine b_iconst dX8_product_35 ?_
      refine b_istore (ls' := [vR 378, vI x1, vI x2, vI x3, vI x4, vI x5, vI 14, vI 0, vU, vU]) dX8_product_36 (Nat.le_of_ble_eq_true rfl) rfl ?_
      refine b_fgt [true, true, false, true, true, true, true, true, false, false] (ls' := [vR 378, vI x1, vU, vI x3, vI x4, vI x5, vI 14, vI 0, vU, vU]) rfl rfl ?_
      obtain ⟨nn, h⟩ := h
      exact pl_X8_product_38 hf nn _ _ _ _ _ _ _ h
    · have h := ifT (Decidable.of_not_not c2) h
      refine b_aload_n dX8_product_20 rfl ?_
      refine b_iload_n dX8_product_21 rfl ?_
      refine b_iload_n dX8_product_22 rfl ?_
      refine b_iload dX8_product_23 rfl ?_
      refine b_iload dX8_product_25 rfl ?_
      refine b_cVv (as := [vI x1, vI x3, vI x4, vI x5]) (st := []) dX8_product_27 mf_X8_poly qs73 lk_X8_89 ly_378 rfl (p_X8_poly (f := 5) (Nat.le_refl _) _ _ _ _ _ h) (by omega) rfl rfl (Nat.le_of_ble_eq_true rfl) (by decide) rfl (fun _ => rfl) (fun r1 m1 h => ?_) (fun _ h => h)
      exact b_vret dX8_product_30 rfl h
  · have h := ifT (Decidable.of_not_not c1) h
    refine b_aload_n dX8_product_4 rfl ?_
    refine b_iload_n dX8_product_5 rfl ?_
    refine b_iload_n dX8_product_6 rfl ?_
    refine b_iload dX8_product_7 rfl ?_
    refine b_iload dX8_product_9 rfl ?_
    refine b_cVv (as := [vI x1, vI x3, vI x4, vI x5]) (st := []) dX8_product_11 mf_X8_times q1386 lk_X8_77 ly_378 rfl (p_X8_times (f := 4) (Nat.le_refl _) _ _ _ _ _ h) (by omega) rfl rfl (Nat.le_of_ble_eq_true rfl) (by decide) rfl (fun _ => rfl) (fun r2 m2 h => ?_) (fun _ h => h)
    exact b_vret dX8_product_14 rfl h
theorem dX8_multiply_0 : decode cX8_multiply 0 = .ok (.iload_n 1, 1) := by decide +kernel
theorem dX8_multiply_1 : decode cX8_multiply 1 = .ok (.invokestatic 102, 3) := by decide +kernel
theorem dX8_multiply_4 : decode cX8_multiply 4 = .ok (.istore 5, 2) := by decide +kernel
theorem dX8_multiply_6 : decode cX8_multiply 6 = .ok (.iload_n 1, 1) := by decide +kernel
theorem dX8_multiply_7 : decode cX8_multiply 7 = .ok (.invokestatic 105, 3) := by decide +kernel
theorem dX8_multiply_10 : decode cX8_multiply 10 = .ok (.istore 6, 2) := by decide +kernel
theorem dX8_multiply_12 : decode cX8_multiply 12 = .ok (.iload_n 1, 1) := by decide +kernel
theorem dX8_multiply_13 : decode cX8_multiply 13 = .ok (.invokestatic 108, 3) := by decide +kernel
theorem dX8_multiply_16 : decode cX8_multiply 16 = .ok (.istore 7, 2) := by decide +kernel
theorem dX8_multiply_18 : decode cX8_multiply 18 = .ok (.iload_n 1, 1) := by decide +kernel
theorem dX8_multiply_19 : decode cX8_multiply 19 = .ok (.invokestatic 111, 3) := by decide +kernel
theorem dX8_multiply_22 : decode cX8_multiply 22 = .ok (.istore 8, 2) := by decide +kernel
theorem dX8_multiply_24 : decode cX8_multiply 24 = .ok (.iload 5, 2) := by decide +kernel
theorem dX8_multiply_26 : decode cX8_multiply 26 = .ok (.ifCond .ne 16, 3) := by decide +kernel
theorem dX8_multiply_29 : decode cX8_multiply 29 = .ok (.aload_n 0, 1) := by decide +kernel
theorem dX8_multiply_30 : decode cX8_multiply 30 = .ok (.iload 7, 2) := by decide +kernel
theorem dX8_multiply_32 : decode cX8_multiply 32 = .ok (.iload 6, 2) := by decide +kernel
theorem dX8_multiply_34 : decode cX8_multiply 34 = .ok (.iload_n 2, 1) := by decide +kernel
theorem dX8_multiply_35 : decode cX8_multiply 35 = .ok (.iload_n 3, 1) := by decide +kernel
theorem dX8_multiply_36 : decode cX8_multiply 36 = .ok (.iload 4, 2) := by decide +kernel
theorem dX8_multiply_38 : decode cX8_multiply 38 = .ok (.invokevirtual 114, 3) := by decide +kernel
theorem dX8_multiply_41 : decode cX8_multiply 41 = .ok (.return_, 1) := by decide +kernel
theorem dX8_multiply_42 : decode cX8_multiply 42 = .ok (.iconst 0, 1) := by decide +kernel
theorem dX8_multiply_43 : decode cX8_multiply 43 = .ok (.istore 9, 2) := by decide +kernel
theorem dX8_multiply_45 : decode cX8_multiply 45 = .ok (.iload 9, 2) := by decide +kernel
theorem dX8_multiply_47 : decode cX8_multiply 47 = .ok (.iload 5, 2) := by decide +kernel
theorem dX8_multiply_49 : decode cX8_multiply 49 = .ok (.if_icmp .ge 143, 3) := by decide +kernel
theorem dX8_multiply_52 : decode cX8_multiply 52 = .ok (.iconst 0, 1) := by decide +kernel
theorem dX8_multiply_53 : decode cX8_multiply 53 = .ok (.istore 10, 2) := by decide +kernel
theorem dX8_multiply_55 : decode cX8_multiply 55 = .ok (.iload 10, 2) := by decide +kernel
theorem dX8_multiply_57 : decode cX8_multiply 57 = .ok (.iload 5, 2) := by decide +kernel
theorem dX8_multiply_59 : decode cX8_multiply 59 = .ok (.if_icmp .ge 127, 3) := by decide +kernel
theorem dX8_multiply_62 : decode cX8_multiply 62 = .ok (.iload 4, 2) := by decide +kernel
theorem dX8_multiply_64 : decode cX8_multiply 64 = .ok (.iconst 2, 1) := by decide +kernel
theorem dX8_multiply_65 : decode cX8_multiply 65 = .ok (.iload 8, 2) := by decide +kernel
theorem dX8_multiply_67 : decode cX8_multiply 67 = .ok (.imul, 1) := by decide +kernel
theorem dX8_multiply_68 : decode cX8_multiply 68 = .ok (.iload 5, 2) := by decide +kernel
theorem dX8_multiply_70 : decode cX8_multiply 70 = .ok (.iload 9, 2) := by decide +kernel
theorem dX8_multiply_72 : decode cX8_multiply 72 = .ok (.imul, 1) := by decide +kernel
theorem dX8_multiply_73 : decode cX8_multiply 73 = .ok (.iload 10, 2) := by decide +kernel
theorem dX8_multiply_75 : decode cX8_multiply 75 = .ok (.iadd, 1) := by decide +kernel
theorem dX8_multiply_76 : decode cX8_multiply 76 = .ok (.imul, 1) := by decide +kernel
theorem dX8_multiply_77 : decode cX8_multiply 77 = .ok (.iadd, 1) := by decide +kernel
theorem dX8_multiply_78 : decode cX8_multiply 78 = .ok (.istore 11, 2) := by decide +kernel
theorem dX8_multiply_80 : decode cX8_multiply 80 = .ok (.iconst 0, 1) := by decide +kernel
theorem dX8_multiply_81 : decode cX8_multiply 81 = .ok (.istore 12, 2) := by decide +kernel
theorem dX8_multiply_83 : decode cX8_multiply 83 = .ok (.iload 12, 2) := by decide +kernel
theorem dX8_multiply_85 : decode cX8_multiply 85 = .ok (.iload 5, 2) := by decide +kernel
theorem dX8_multiply_87 : decode cX8_multiply 87 = .ok (.if_icmp .ge 93, 3) := by decide +kernel
theorem dX8_multiply_90 : decode cX8_multiply 90 = .ok (.aload_n 0, 1) := by decide +kernel
theorem dX8_multiply_91 : decode cX8_multiply 91 = .ok (.getfield 26, 3) := by decide +kernel
theorem dX8_multiply_94 : decode cX8_multiply 94 = .ok (.ifCond .ne 86, 3) := by decide +kernel
theorem dX8_multiply_97 : decode cX8_multiply 97 = .ok (.aload_n 0, 1) := by decide +kernel
theorem dX8_multiply_98 : decode cX8_multiply 98 = .ok (.iload 7, 2) := by decide +kernel
theorem dX8_multiply_100 : decode cX8_multiply 100 = .ok (.iload 6, 2) := by decide +kernel
theorem dX8_multiply_102 : decode cX8_multiply 102 = .ok (.iload_n 2, 1) := by decide +kernel
theorem dX8_multiply_103 : decode cX8_multiply 103 = .ok (.iconst 2, 1) := by decide +kernel
theorem dX8_multiply_104 : decode cX8_multiply 104 = .ok (.iload 8, 2) := by decide +kernel
theorem dX8_multiply_106 : decode cX8_multiply 106 = .ok (.imul, 1) := by decide +kernel
theorem dX8_multiply_107 : decode cX8_multiply 107 = .ok (.iload 5, 2) := by decide +kernel
theorem dX8_multiply_109 : decode cX8_multiply 109 = .ok (.iload 9, 2) := by decide +kernel
theorem dX8_multiply_111 : decode cX8_multiply 111 = .ok (.imul, 1) := by decide +kernel
theorem dX8_multiply_112 : decode cX8_multiply 112 = .ok (.iload 12, 2) := by decide +kernel
theorem dX8_multiply_114 : decode cX8_multiply 114 = .ok (.iadd, 1) := by decide +kernel
theorem dX8_multiply_115 : decode cX8_multiply 115 = .ok (.imul, 1) := by decide +kernel
theorem dX8_multiply_116 : decode cX8_multiply 116 = .ok (.iadd, 1) := by decide +kernel
theorem dX8_multiply_117 : decode cX8_multiply 117 = .ok (.iload_n 3, 1) := by decide +kernel
theorem dX8_multiply_118 : decode cX8_multiply 118 = .ok (.iconst 2, 1) := by decide +kernel
theorem dX8_multiply_119 : decode cX8_multiply 119 = .ok (.iload 8, 2) := by decide +kernel
theorem dX8_multiply_121 : decode cX8_multiply 121 = .ok (.imul, 1) := by decide +kernel
theorem dX8_multiply_122 : decode cX8_multiply 122 = .ok (.iload 5, 2) := by decide +kernel
theorem dX8_multiply_124 : decode cX8_multiply 124 = .ok (.iload 12, 2) := by decide +kernel
theorem dX8_multiply_126 : decode cX8_multiply 126 = .ok (.imul, 1) := by decide +kernel
theorem dX8_multiply_127 : decode cX8_multiply 127 = .ok (.iload 10, 2) := by decide +kernel
theorem dX8_multiply_129 : decode cX8_multiply 129 = .ok (.iadd, 1) := by decide +kernel
theorem dX8_multiply_130 : decode cX8_multiply 130 = .ok (.imul, 1) := by decide +kernel
theorem dX8_multiply_131 : decode cX8_multiply 131 = .ok (.iadd, 1) := by decide +kernel
theorem dX8_multiply_132 : decode cX8_multiply 132 = .ok (.iload 12, 2) := by decide +kernel
theorem dX8_multiply_134 : decode cX8_multiply 134 = .ok (.ifCond .ne 8, 3) := by decide +kernel
theorem dX8_multiply_137 : decode cX8_multiply 137 = .ok (.iload 11, 2) := by decide +kernel
theorem dX8_multiply_139 : decode cX8_multiply 139 = .ok (.goto 5, 3) := by decide +kernel
theorem dX8_multiply_142 : decode cX8_multiply 142 = .ok (.ldc 118, 2) := by decide +kernel
theorem dX8_multiply_144 : decode cX8_multiply 144 = .ok (.invokevirtual 114, 3) := by decide +kernel
theorem dX8_multiply_147 : decode cX8_multiply 147 = .ok (.aload_n 0, 1) := by decide +kernel
theorem dX8_multiply_148 : decode cX8_multiply 148 = .ok (.getfield 26, 3) := by decide +kernel
theorem dX8_multiply_151 : decode cX8_multiply 151 = .ok (.ifCond .ne 23, 3) := by decide +kernel
theorem dX8_multiply_154 : decode cX8_multiply 154 = .ok (.iload 12, 2) := by decide +kernel
theorem dX8_multiply_156 : decode cX8_multiply 156 = .ok (.ifCond .le 18, 3) := by decide +kernel
theorem dX8_multiply_159 : decode cX8_multiply 159 = .ok (.aload_n 0, 1) := by decide +kernel
theorem dX8_multiply_160 : decode cX8_multiply 160 = .ok (.iload 7, 2) := by decide +kernel
theorem dX8_multiply_162 : decode cX8_multiply 162 = .ok (.iload 11, 2) := by decide +kernel
theorem dX8_multiply_164 : decode cX8_multiply 164 = .ok (.ldc 118, 2) := by decide +kernel
theorem dX8_multiply_166 : decode cX8_multiply 166 = .ok (.iload 11, 2) := by decide +kernel
theorem dX8_multiply_168 : decode cX8_multiply 168 = .ok (.iload 8, 2) := by decide +kernel
theorem dX8_multiply_170 : decode cX8_multiply 170 = .ok (.iconst 0, 1) := by decide +kernel
theorem dX8_multiply_171 : decode cX8_multiply 171 = .ok (.invokevirtual 94, 3) := by decide +kernel
theorem dX8_multiply_174 : decode cX8_multiply 174 = .ok (.iinc 12 1, 3) := by decide +kernel
theorem dX8_multiply_177 : decode cX8_multiply 177 = .ok (.goto (-94), 3) := by decide +kernel
theorem dX8_multiply_180 : decode cX8_multiply 180 = .ok (.iinc 10 1, 3) := by decide +kernel
theorem dX8_multiply_183 : decode cX8_multiply 183 = .ok (.goto (-128), 3) := by decide +kernel
theorem dX8_multiply_186 : decode cX8_multiply 186 = .ok (.iinc 9 1, 3) := by decide +kernel
theorem dX8_multiply_189 : decode cX8_multiply 189 = .ok (.goto (-144), 3) := by decide +kernel
theorem dX8_multiply_192 : decode cX8_multiply 192 = .ok (.return_, 1) := by decide +kernel
/-! AlgebraHouse$Numbers.multiply(IIII)V -/
def P_X8_multiply_83 (Q : Int → MM → Prop) (K45 : Int → Int → Int → Int → Int → Int → Int → Int → MM → Prop) (K55 : Int → Int → Int → Int → Int → Int → Int → Int → Int → MM → Prop) : Nat → Int → Int → Int → Int → Int → Int → Int → Int → Int → Int → Int → MM → Prop
  | 0, _, _, _, _, _, _, _, _, _, _, _, _ => False
  | n + 1, x2, x3, x4, x5, x6, x7, x8, x9, x10, x11, x12, m => (RI x12) ∧ (RI x5) ∧ (if x5 ≤ x12 then K55 x2 x3 x4 x5 x6 x7 x8 x9 (x10 + 1) m else (RI (m 378 2)) ∧ (if (m 378 2) = 0 then P_X8_product x7 x6 (x2 + ((2 * x8) * ((x5 * x9) + x12))) (x3 + ((2 * x8) * ((x5 * x12) + x10))) (if x12 = 0 then x11 else 1157184 : Int) m (fun r1 m1 => (RI (m1 378 2)) ∧ (if (m1 378 2) = 0 then (if x12 ≤ 0 then P_X8_multiply_83 Q K45 K55 n x2 x3 x4 x5 x6 x7 x8 x9 x10 x11 (x12 + 1) m1 else P_X8_addAll x7 x11 1157184 x11 x8 0 m1 (fun r2 m2 => P_X8_multiply_83 Q K45 K55 n x2 x3 x4 x5 x6 x7 x8 x9 x10 x11 (x12 + 1) m2)) else P_X8_multiply_83 Q K45 K55 n x2 x3 x4 x5 x6 x7 x8 x9 x10 x11 (x12 + 1) m1)) else K55 x2 x3 x4 x5 x6 x7 x8 x9 (x10 + 1) m))
def P_X8_multiply_55 (Q : Int → MM → Prop) (K45 : Int → Int → Int → Int → Int → Int → Int → Int → MM → Prop) : Nat → Int → Int → Int → Int → Int → Int → Int → Int → Int → MM → Prop
  | 0, _, _, _, _, _, _, _, _, _, _ => False
  | n + 1, x2, x3, x4, x5, x6, x7, x8, x9, x10, m => (RI x10) ∧ (RI x5) ∧ (if x5 ≤ x10 then K45 x2 x3 x4 x5 x6 x7 x8 (x9 + 1) m else ∃ nn, P_X8_multiply_83 Q K45 (fun z0 z1 z2 z3 z4 z5 z6 z7 z8 z9 => P_X8_multiply_55 Q K45 n z0 z1 z2 z3 z4 z5 z6 z7 z8 z9) nn x2 x3 x4 x5 x6 x7 x8 x9 x10 (x4 + ((2 * x8) * ((x5 * x9) + x10))) 0 m)
def P_X8_multiply_45 (Q : Int → MM → Prop) : Nat → Int → Int → Int → Int → Int → Int → Int → Int → MM → Prop
  | 0, _, _, _, _, _, _, _, _, _ => False
  | n + 1, x2, x3, x4, x5, x6, x7, x8, x9, m => (RI x9) ∧ (RI x5) ∧ (if x5 ≤ x9 then Q 0 m else ∃ nn, P_X8_multiply_55 Q (fun z0 z1 z2 z3 z4 z5 z6 z7 z8 => P_X8_multiply_45 Q n z0 z1 z2 z3 z4 z5 z6 z7 z8) nn x2 x3 x4 x5 x6 x7 x8 x9 0 m)
def P_X8_multiply (x1 : Int) (x2 : Int) (x3 : Int) (x4 : Int) (m : MM) (Q : Int → MM → Prop) : Prop := P_X11_size x1 m (fun r1 m1 => P_X11_depth x1 m1 (fun r2 m2 => P_X11_base x1 m2 (fun r3 m3 => P_X11_coefficients x1 m3 (fun r4 m4 => (RI r1) ∧ (if r1 = 0 then P_X8_product r3 r2 x2 x3 x4 m4 (fun r5 m5 => Q 0 m5) else ∃ nn, P_X8_multiply_45 Q nn x2 x3 x4 r1 r2 r3 r4 0 m4)))))
theorem pl_X8_multiply_83 {f : Nat} {Q : Int → MM → Prop} {T : MM → Prop} (hf : 7 ≤ f) {K45 : Int → Int → Int → Int → Int → Int → Int → Int → MM → Prop} {K55 : Int → Int → Int → Int → Int → Int → Int → Int → Int → MM → Prop} (hK45 : ∀ (x2 : Int) (x3 : Int) (x4 : Int) (x5 : Int) (x6 : Int) (x7 : Int) (x8 : Int) (x9 : Int) (m : MM), K45 x2 x3 x4 x5 x6 x7 x8 x9 m → B f M_X8_multiply 45 [vR 378, vU, vI x2, vI x3, vI x4, vI x5, vI x6, vI x7, vI x8, vI x9, vU, vU, vU] [] m Q T) (hK55 : ∀ (x2 : Int) (x3 : Int) (x4 : Int) (x5 : Int) (x6 : Int) (x7 : Int) (x8 : Int) (x9 : Int) (x10 : Int) (m : MM), K55 x2 x3 x4 x5 x6 x7 x8 x9 x10 m → B f M_X8_multiply 55 [vR 378, vU, vI x2, vI x3, vI x4, vI x5, vI x6, vI x7, vI x8, vI x9, vI x10, vU, vU] [] m Q T) : ∀ (n : Nat) (x2 : Int) (x3 : Int) (x4 : Int) (x5 : Int) (x6 : Int) (x7 : Int) (x8 : Int) (x9 : Int) (x10 : Int) (x11 : Int) (x12 : Int) (m : MM), P_X8_multiply_83 Q K45 K55 n x2 x3 x4 x5 x6 x7 x8 x9 x10 x11 x12 m → B f M_X8_multiply 83 [vR 378, vU, vI x2, vI x3, vI x4, vI x5, vI x6, vI x7, vI x8, vI x9, vI x10, vI x11, vI x12] [] m Q T := by
  intro n
  induction n with
  | zero => intro x2 x3 x4 x5 x6 x7 x8 x9 x10 x11 x12 m h; exact h.elim
  | succ n ih =>
    intro x2 x3 x4 x5 x6 x7 x8 x9 x10 x11 x12 m h
    have h : (RI x12) ∧ (RI x5) ∧ (if x5 ≤ x12 then K55 x2 x3 x4 x5 x6 x7 x8 x9 (x10 + 1) m else (RI (m 378 2)) ∧ (if (m 378 2) = 0 then P_X8_product x7 x6 (x2 + ((2 * x8) * ((x5 * x9) + x12))) (x3 + ((2 * x8) * ((x5 * x12) + x10))) (if x12 = 0 then x11 else 1157184 : Int) m (fun r1 m1 => (RI (m1 378 2)) ∧ (if (m1 378 2) = 0 then (if x12 ≤ 0 then P_X8_multiply_83 Q K45 K55 n x2 x3 x4 x5 x6 x7 x8 x9 x10 x11 (x12 + 1) m1 else P_X8_addAll x7 x11 1157184 x11 x8 0 m1 (fun r2 m2 => P_X8_multiply_83 Q K45 K55 n x2 x3 x4 x5 x6 x7 x8 x9 x10 x11 (x12 + 1) m2)) else P_X8_multiply_83 Q K45 K55 n x2 x3 x4 x5 x6 x7 x8 x9 x10 x11 (x12 + 1) m1)) else K55 x2 x3 x4 x5 x6 x7 x8 x9 (x10 + 1) m)) := h
    refine b_iload dX8_multiply_83 rfl ?_
    refine b_iload dX8_multiply_85 rfl ?_
    obtain ⟨g1, h⟩ := h
    obtain ⟨g2, h⟩ := h
    refine b_icmp_ge 180 dX8_multiply_87 g1 g2 (by decide) (fun c1 => ?_) (fun c1 => ?_)
    · have h := ifT c1 h
      refine b_iinc (ls' := [vR 378, vU, vI x2, vI x3, vI x4, vI x5, vI x6, vI x7, vI x8, vI x9, vI (x10 + 1), vI x11, vI x12]) dX8_multiply_180 rfl rfl ?_
      refine b_goto 55 dX8_multiply_183 (by decide) ?_
      refine b_fgt [true, false, true, true, true, true, true, true, true, true, true, false, false] (ls' := [vR 378, vU, vI x2, vI x3, vI x4, vI x5, vI x6, vI x7, vI x8, vI x9, vI (x10 + 1), vU, vU]) rfl rfl ?_
      exact hK55 _ _ _ _ _ _ _ _ _ _ h
    · have h := ifF c1 h
      refine b_aload_n dX8_multiply_90 rfl ?_
      refine b_getI dX8_multiply_91 fk_X8_26 ly_378 ?_
      obtain ⟨g3, h⟩ := h
      refine b_if_ne 180 dX8_multiply_94 g3 (by decide) (fun c2 => ?_) (fun c2 => ?_)
      · have h := ifF c2 h
        refine b_iinc (ls' := [vR 378, vU, vI x2, vI x3, vI x4, vI x5, vI x6, vI x7, vI x8, vI x9, vI (x10 + 1), vI x11, vI x12]) dX8_multiply_180 rfl rfl ?_
        refine b_goto 55 dX8_multiply_183 (by decide) ?_
        refine b_fgt [true, false, true, true, true, true, true, true, true, true, true, false, false] (ls' := [vR 378, vU, vI x2, vI x3, vI x4, vI x5, vI x6, vI x7, vI x8, vI x9, vI (x10 + 1), vU, vU]) rfl rfl ?_
        exact hK55 _ _ _ _ _ _ _ _ _ _ h
      · have h := ifT (Decidable.of_not_not c2) h
        refine b_aload_n dX8_multiply_97 rfl ?_
        refine b_iload dX8_multiply_98 rfl ?_
        refine b_iload dX8_multiply_100 rfl ?_
        refine b_iload_n dX8_multiply_102 rfl ?_
        refine b_iconst dX8_multiply_103 ?_
        refine b_iload dX8_multiply_104 rfl ?_
        refine b_imul dX8_multiply_106 ?_
        refine b_iload dX8_multiply_107 rfl ?_
        refine b_iload dX8_multiply_109 rfl ?_
        refine b_imul dX8_multiply_111 ?_
        refine b_iload dX8_multiply_112 rfl ?_
        refine b_iadd dX8_multiply_114 ?_
        refine b_imul dX8_multiply_115 ?_
        refine b_iadd dX8_multiply_116 ?_
        refine b_iload_n dX8_multiply_117 rfl ?_
        refine b_iconst dX8_multiply_118 ?_
        refine b_iload dX8_multiply_119 rfl ?_
        refine b_imul dX8_multiply_121 ?_
        refine b_iload dX8_multiply_122 rfl ?_
        refine b_iload dX8_multiply_124 rfl ?_
        refine b_imul dX8_multiply_126 ?_
        refine b_iload dX8_multiply_127 rfl ?_
        refine b_iadd dX8_multiply_129 ?_
        refine b_imul dX8_multiply_130 ?_
        refine b_iadd dX8_multiply_131 ?_
        refine b_iload dX8_multiply_132 rfl ?_
        have K : B f M_X8_multiply 144 [vR 378, vU, vI x2, vI x3, vI x4, vI x5, vI x6, vI x7, vI x8, vI x9, vI x10, vI x11, vI x12] [vI (if x12 = 0 then x11 else 1157184 : Int), vI (x3 + ((2 * x8) * ((x5 * x12) + x10))), vI (x2 + ((2 * x8) * ((x5 * x9) + x12))), vI x6, vI x7, vR 378] m Q T := by
          refine b_cVv (as := [vI x7, vI x6, vI (x2 + ((2 * x8) * ((x5 * x9) + x12))), vI (x3 + ((2 * x8) * ((x5 * x12) + x10))), vI (if x12 = 0 then x11 else 1157184 : Int)]) (st := []) dX8_multiply_144 mf_X8_product q1382 lk_X8_114 ly_378 rfl (p_X8_product (f := 6) (Nat.le_refl _) _ _ _ _ _ _ h) (by omega) rfl rfl (Nat.le_of_ble_eq_true rfl) (by decide) rfl (fun _ => rfl) (fun r1 m1 h => ?_) (fun _ h => h)
          refine b_aload_n dX8_multiply_147 rfl ?_
          refine b_getI dX8_multiply_148 fk_X8_26 ly_378 ?_
          obtain ⟨g4, h⟩ := h
          refine b_if_ne 174 dX8_multiply_151 g4 (by decide) (fun c3 => ?_) (fun c3 => ?_)
          · have h := ifF c3 h
            refine b_iinc (ls' := [vR 378, vU, vI x2, vI x3, vI x4, vI x5, vI x6, vI x7, vI x8, vI x9, vI x10, vI x11, vI (x12 + 1)]) dX8_multiply_174 rfl rfl ?_
            refine b_goto 83 dX8_multiply_177 (by decide) ?_
            exact ih _ _ _ _ _ _ _ _ _ _ _ _ h
          · have h := ifT (Decidable.of_not_not c3) h
            refine b_iload dX8_multiply_154 rfl ?_
            refine b_if_le 174 dX8_multiply_156 g1 (by decide) (fun c4 => ?_) (fun c4 => ?_)
            · have h := ifT c4 h
              refine b_iinc (ls' := [vR 378, vU, vI x2, vI x3, vI x4, vI x5, vI x6, vI x7, vI x8, vI x9, vI x10, vI x11, vI (x12 + 1)]) dX8_multiply_174 rfl rfl ?_
              refine b_goto 83 dX8_multiply_177 (by decide) ?_
              exact ih _ _ _ _ _ _ _ _ _ _ _ _ h
            · have h := ifF c4 h
              refine b_aload_n dX8_multiply_159 rfl ?_
              refine b_iload dX8_multiply_160 rfl ?_
              refine b_iload dX8_multiply_162 rfl ?_
              refine b_ldc (1157184) dX8_multiply_164 q1428 (by decide) ?_
              refine b_iload dX8_multiply_166 rfl ?_
              refine b_iload dX8_multiply_168 rfl ?_
              refine b_iconst dX8_multiply_170 ?_
              refine b_cVv (as := [vI x7, vI x11, vI 1157184, vI x11, vI x8, vI 0]) (st := []) dX8_multiply_171 mf_X8_addAll q1426 lk_X8_94 ly_378 rfl (p_X8_addAll (f := 5) (Nat.le_refl _) _ _ _ _ _ _ _ h) (by omega) rfl rfl (Nat.le_of_ble_eq_true rfl) (by decide) rfl (fun _ => rfl) (fun r2 m2 h => ?_) (fun _ h => h)
              refine b_iinc (ls' := [vR 378, vU, vI x2, vI x3, vI x4, vI x5, vI x6, vI x7, vI x8, vI x9, vI x10, vI x11, vI (x12 + 1)]) dX8_multiply_174 rfl rfl ?_
              refine b_goto 83 dX8_multiply_177 (by decide) ?_
              exact ih _ _ _ _ _ _ _ _ _ _ _ _ h
        refine b_if_ne 142 dX8_multiply_134 g1 (by decide) (fun c5 => ?_) (fun c5 => ?_)
        ·
          refine b_ldc (1157184) dX8_multiply_142 q1428 (by decide) ?_
          rw [if_neg c5] at K
          exact K
        ·
          have c5 := Decidable.of_not_not c5
          refine b_iload dX8_multiply_137 rfl ?_
          refine b_goto 144 dX8_multiply_139 (by decide) ?_
          rw [if_pos c5] at K
          exact K
theorem pl_X8_multiply_55 {f : Nat} {Q : Int → MM → Prop} {T : MM → Prop} (hf : 7 ≤ f) {K45 : Int → Int → Int → Int → Int → Int → Int → Int → MM → Prop} (hK45 : ∀ (x2 : Int) (x3 : Int) (x4 : Int) (x5 : Int) (x6 : Int) (x7 : Int) (x8 : Int) (x9 : Int) (m : MM), K45 x2 x3 x4 x5 x6 x7 x8 x9 m → B f M_X8_multiply 45 [vR 378, vU, vI x2, vI x3, vI x4, vI x5, vI x6, vI x7, vI x8, vI x9, vU, vU, vU] [] m Q T) : ∀ (n : Nat) (x2 : Int) (x3 : Int) (x4 : Int) (x5 : Int) (x6 : Int) (x7 : Int) (x8 : Int) (x9 : Int) (x10 : Int) (m : MM), P_X8_multiply_55 Q K45 n x2 x3 x4 x5 x6 x7 x8 x9 x10 m → B f M_X8_multiply 55 [vR 378, vU, vI x2, vI x3, vI x4, vI x5, vI x6, vI x7, vI x8, vI x9, vI x10, vU, vU] [] m Q T := by
  intro n
  induction n with
  | zero => intro x2 x3 x4 x5 x6 x7 x8 x9 x10 m h; exact h.elim
  | succ n ih =>
    intro x2 x3 x4 x5 x6 x7 x8 x9 x10 m h
    have h : (RI x10) ∧ (RI x5) ∧ (if x5 ≤ x10 then K45 x2 x3 x4 x5 x6 x7 x8 (x9 + 1) m else ∃ nn, P_X8_multiply_83 Q K45 (fun z0 z1 z2 z3 z4 z5 z6 z7 z8 z9 => P_X8_multiply_55 Q K45 n z0 z1 z2 z3 z4 z5 z6 z7 z8 z9) nn x2 x3 x4 x5 x6 x7 x8 x9 x10 (x4 + ((2 * x8) * ((x5 * x9) + x10))) 0 m) := h
    refine b_iload dX8_multiply_55 rfl ?_
    refine b_iload dX8_multiply_57 rfl ?_
    obtain ⟨g1, h⟩ := h
    obtain ⟨g2, h⟩ := h
    refine b_icmp_ge 186 dX8_multiply_59 g1 g2 (by decide) (fun c1 => ?_) (fun c1 => ?_)
    · have h := ifT c1 h
      refine b_iinc (ls' := [vR 378, vU, vI x2, vI x3, vI x4, vI x5, vI x6, vI x7, vI x8, vI (x9 + 1), vI x10, vU, vU]) dX8_multiply_186 rfl rfl ?_
      refine b_goto 45 dX8_multiply_189 (by decide) ?_
      refine b_fgt [true, false, true, true, true, true, true, true, true, true, false, false, false] (ls' := [vR 378, vU, vI x2, vI x3, vI x4, vI x5, vI x6, vI x7, vI x8, vI (x9 + 1), vU, vU, vU]) rfl rfl ?_
      exact hK45 _ _ _ _ _ _ _ _ _ h
    · have h := ifF c1 h
      refine b_iload dX8_multiply_62 rfl ?_
      refine b_iconst dX8_multiply_64 ?_
      refine b_iload dX8_multiply_65 rfl ?_
      refine b_imul dX8_multiply_67 ?_
      refine b_iload dX8_multiply_68 rfl ?_
      refine b_iload dX8_multiply_70 rfl ?_
      refine b_imul dX8_multiply_72 ?_
      refine b_iload dX8_multiply_73 rfl ?_
      refine b_iadd dX8_multiply_75 ?_
      refine b_imul dX8_multiply_76 ?_
      refine b_iadd dX8_multiply_77 ?_
      refine b_istore (ls' := [vR 378, vU, vI x2, vI x3, vI x4, vI x5, vI x6, vI x7, vI x8, vI x9, vI x10, vI (x4 + ((2 * x8) * ((x5 * x9) + x10))), vU]) dX8_multiply_78 (Nat.le_of_ble_eq_true rfl) rfl ?_
      refine b_iconst dX8_multiply_80 ?_
      refine b_istore (ls' := [vR 378, vU, vI x2, vI x3, vI x4, vI x5, vI x6, vI x7, vI x8, vI x9, vI x10, vI (x4 + ((2 * x8) * ((x5 * x9) + x10))), vI 0]) dX8_multiply_81 (Nat.le_of_ble_eq_true rfl) rfl ?_
      obtain ⟨nn, h⟩ := h
      exact pl_X8_multiply_83 hf hK45 (fun _ _ _ _ _ _ _ _ _ _ h => ih _ _ _ _ _ _ _ _ _ _ h) nn _ _ _ _ _ _ _ _ _ _ _ _ h
theorem pl_X8_multiply_45 {f : Nat} {Q : Int → MM → Prop} {T : MM → Prop} (hf : 7 ≤ f) : ∀ (n : Nat) (x2 : Int) (x3 : Int) (x4 : Int) (x5 : Int) (x6 : Int) (x7 : Int) (x8 : Int) (x9 : Int) (m : MM), P_X8_multiply_45 Q n x2 x3 x4 x5 x6 x7 x8 x9 m → B f M_X8_multiply 45 [vR 378, vU, vI x2, vI x3, vI x4, vI x5, vI x6, vI x7, vI x8, vI x9, vU, vU, vU] [] m Q T := by
  intro n
  induction n with
  | zero => intro x2 x3 x4 x5 x6 x7 x8 x9 m h; exact h.elim
  | succ n ih =>
    intro x2 x3 x4 x5 x6 x7 x8 x9 m h
    have h : (RI x9) ∧ (RI x5) ∧ (if x5 ≤ x9 then Q 0 m else ∃ nn, P_X8_multiply_55 Q (fun z0 z1 z2 z3 z4 z5 z6 z7 z8 => P_X8_multiply_45 Q n z0 z1 z2 z3 z4 z5 z6 z7 z8) nn x2 x3 x4 x5 x6 x7 x8 x9 0 m) := h
    refine b_iload dX8_multiply_45 rfl ?_
    refine b_iload dX8_multiply_47 rfl ?_
    obtain ⟨g1, h⟩ := h
    obtain ⟨g2, h⟩ := h
    refine b_icmp_ge 192 dX8_multiply_49 g1 g2 (by decide) (fun c1 => ?_) (fun c1 => ?_)
    · have h := ifT c1 h
      exact b_vret dX8_multiply_192 rfl h
    · have h := ifF c1 h
      refine b_iconst dX8_multiply_52 ?_
      refine b_istore (ls' := [vR 378, vU, vI x2, vI x3, vI x4, vI x5, vI x6, vI x7, vI x8, vI x9, vI 0, vU, vU]) dX8_multiply_53 (Nat.le_of_ble_eq_true rfl) rfl ?_
      obtain ⟨nn, h⟩ := h
      exact pl_X8_multiply_55 hf (fun _ _ _ _ _ _ _ _ _ h => ih _ _ _ _ _ _ _ _ _ h) nn _ _ _ _ _ _ _ _ _ _ h
theorem p_X8_multiply {f : Nat} {Q : Int → MM → Prop} {T : MM → Prop} (hf : 7 ≤ f) (x1 : Int) (x2 : Int) (x3 : Int) (x4 : Int) (m : MM) (h : P_X8_multiply x1 x2 x3 x4 m Q) : CC f M_X8_multiply [vR 378, vI x1, vI x2, vI x3, vI x4] m Q T := by
  refine CC.of (plainFor_of_name (by decide)) (Nat.le_of_ble_eq_true rfl) (ls := [vR 378, vI x1, vI x2, vI x3, vI x4, vU, vU, vU, vU, vU, vU, vU, vU]) rfl ?_
  have h : P_X11_size x1 m (fun r1 m1 => P_X11_depth x1 m1 (fun r2 m2 => P_X11_base x1 m2 (fun r3 m3 => P_X11_coefficients x1 m3 (fun r4 m4 => (RI r1) ∧ (if r1 = 0 then P_X8_product r3 r2 x2 x3 x4 m4 (fun r5 m5 => Q 0 m5) else ∃ nn, P_X8_multiply_45 Q nn x2 x3 x4 r1 r2 r3 r4 0 m4))))) := h
  refine b_iload_n dX8_multiply_0 rfl ?_
  refine b_cSi (as := [vI x1]) (st := []) dX8_multiply_1 mf_X11_size lk_X8_102 (p_X11_size (f := 1) (Nat.le_refl _) _ _ h) (by omega) rfl rfl (Nat.le_of_ble_eq_true rfl) (by decide) rfl (fun _ => rfl) (fun r1 m1 h => ?_) (fun _ h => h)
  refine b_istore (ls' := [vR 378, vI x1, vI x2, vI x3, vI x4, vI r1, vU, vU, vU, vU, vU, vU, vU]) dX8_multiply_4 (Nat.le_of_ble_eq_true rfl) rfl ?_
  refine b_iload_n dX8_multiply_6 rfl ?_
  refine b_cSi (as := [vI x1]) (st := []) dX8_multiply_7 mf_X11_depth lk_X8_105 (p_X11_depth (f := 1) (Nat.le_refl _) _ _ h) (by omega) rfl rfl (Nat.le_of_ble_eq_true rfl) (by decide) rfl (fun _ => rfl) (fun r2 m2 h => ?_) (fun _ h => h)
  refine b_istore (ls' := [vR 378, vI x1, vI x2, vI x3, vI x4, vI r1, vI r2, vU, vU, vU, vU, vU, vU]) dX8_multiply_10 (Nat.le_of_ble_eq_true rfl) rfl ?_
  refine b_iload_n dX8_multiply_12 rfl ?_
  refine b_cSi (as := [vI x1]) (st := []) dX8_multiply_13 mf_X11_base lk_X8_108 (p_X11_base (f := 1) (Nat.le_refl _) _ _ h) (by omega) rfl rfl (Nat.le_of_ble_eq_true rfl) (by decide) rfl (fun _ => rfl) (fun r3 m3 h => ?_) (fun _ h => h)
  refine b_istore (ls' := [vR 378, vI x1, vI x2, vI x3, vI x4, vI r1, vI r2, vI r3, vU, vU, vU, vU, vU]) dX8_multiply_16 (Nat.le_of_ble_eq_true rfl) rfl ?_
  refine b_iload_n dX8_multiply_18 rfl ?_
  refine b_cSi (as := [vI x1]) (st := []) dX8_multiply_19 mf_X11_coefficients lk_X8_111 (p_X11_coefficients (f := 2) (Nat.le_refl _) _ _ h) (by omega) rfl rfl (Nat.le_of_ble_eq_true rfl) (by decide) rfl (fun _ => rfl) (fun r4 m4 h => ?_) (fun _ h => h)
  refine b_istore (ls' := [vR 378, vI x1, vI x2, vI x3, vI x4, vI r1, vI r2, vI r3, vI r4, vU, vU, vU, vU]) dX8_multiply_22 (Nat.le_of_ble_eq_true rfl) rfl ?_
  refine b_iload dX8_multiply_24 rfl ?_
  obtain ⟨g1, h⟩ := h
  refine b_if_ne 42 dX8_multiply_26 g1 (by decide) (fun c1 => ?_) (fun c1 => ?_)
  · have h := ifF c1 h
    refine b_iconst dX8_multiply_42 ?_
    refine b_istore (ls' := [vR 378, vI x1, vI x2, vI x3, vI x4, vI r1, vI r2, vI r3, vI r4, vI 0, vU, vU, vU]) dX8_multiply_43 (Nat.le_of_ble_eq_true rfl) rfl ?_
    refine b_fgt [true, false, true, true, true, true, true, true, true, true, false, false, false] (ls' := [vR 378, vU, vI x2, vI x3, vI x4, vI r1, vI r2, vI r3, vI r4, vI 0, vU, vU, vU]) rfl rfl ?_
    obtain ⟨nn, h⟩ := h
    exact pl_X8_multiply_45 hf nn _ _ _ _ _ _ _ _ _ h
  · have h := ifT (Decidable.of_not_not c1) h
    refine b_aload_n dX8_multiply_29 rfl ?_
    refine b_iload dX8_multiply_30 rfl ?_
    refine b_iload dX8_multiply_32 rfl ?_
    refine b_iload_n dX8_multiply_34 rfl ?_
    refine b_iload_n dX8_multiply_35 rfl ?_
    refine b_iload dX8_multiply_36 rfl ?_
    refine b_cVv (as := [vI r3, vI r2, vI x2, vI x3, vI x4]) (st := []) dX8_multiply_38 mf_X8_product q1382 lk_X8_114 ly_378 rfl (p_X8_product (f := 6) (Nat.le_refl _) _ _ _ _ _ _ h) (by omega) rfl rfl (Nat.le_of_ble_eq_true rfl) (by decide) rfl (fun _ => rfl) (fun r5 m5 h => ?_) (fun _ h => h)
    exact b_vret dX8_multiply_41 rfl h
theorem dX8_turn_0 : decode cX8_turn 0 = .ok (.iload_n 1, 1) := by decide +kernel
theorem dX8_turn_1 : decode cX8_turn 1 = .ok (.iload_n 2, 1) := by decide +kernel
theorem dX8_turn_2 : decode cX8_turn 2 = .ok (.if_icmp .ne 4, 3) := by decide +kernel
theorem dX8_turn_5 : decode cX8_turn 5 = .ok (.return_, 1) := by decide +kernel
theorem dX8_turn_6 : decode cX8_turn 6 = .ok (.iload_n 1, 1) := by decide +kernel
theorem dX8_turn_7 : decode cX8_turn 7 = .ok (.invokestatic 111, 3) := by decide +kernel
theorem dX8_turn_10 : decode cX8_turn 10 = .ok (.istore 4, 2) := by decide +kernel
theorem dX8_turn_12 : decode cX8_turn 12 = .ok (.iload_n 1, 1) := by decide +kernel
theorem dX8_turn_13 : decode cX8_turn 13 = .ok (.invokestatic 119, 3) := by decide +kernel
theorem dX8_turn_16 : decode cX8_turn 16 = .ok (.istore 5, 2) := by decide +kernel
theorem dX8_turn_18 : decode cX8_turn 18 = .ok (.iload_n 2, 1) := by decide +kernel
theorem dX8_turn_19 : decode cX8_turn 19 = .ok (.invokestatic 111, 3) := by decide +kernel
theorem dX8_turn_22 : decode cX8_turn 22 = .ok (.istore 6, 2) := by decide +kernel
theorem dX8_turn_24 : decode cX8_turn 24 = .ok (.aload_n 0, 1) := by decide +kernel
theorem dX8_turn_25 : decode cX8_turn 25 = .ok (.iload_n 3, 1) := by decide +kernel
theorem dX8_turn_26 : decode cX8_turn 26 = .ok (.ldc 154, 2) := by decide +kernel
theorem dX8_turn_28 : decode cX8_turn 28 = .ok (.iload 4, 2) := by decide +kernel
theorem dX8_turn_30 : decode cX8_turn 30 = .ok (.iload 5, 2) := by decide +kernel
theorem dX8_turn_32 : decode cX8_turn 32 = .ok (.imul, 1) := by decide +kernel
theorem dX8_turn_33 : decode cX8_turn 33 = .ok (.invokevirtual 81, 3) := by decide +kernel
theorem dX8_turn_36 : decode cX8_turn 36 = .ok (.aload_n 0, 1) := by decide +kernel
theorem dX8_turn_37 : decode cX8_turn 37 = .ok (.iload_n 2, 1) := by decide +kernel
theorem dX8_turn_38 : decode cX8_turn 38 = .ok (.invokestatic 108, 3) := by decide +kernel
theorem dX8_turn_41 : decode cX8_turn 41 = .ok (.invokevirtual 49, 3) := by decide +kernel
theorem dX8_turn_44 : decode cX8_turn 44 = .ok (.istore 7, 2) := by decide +kernel
theorem dX8_turn_46 : decode cX8_turn 46 = .ok (.iload_n 1, 1) := by decide +kernel
theorem dX8_turn_47 : decode cX8_turn 47 = .ok (.invokestatic 108, 3) := by decide +kernel
theorem dX8_turn_50 : decode cX8_turn 50 = .ok (.iload_n 2, 1) := by decide +kernel
theorem dX8_turn_51 : decode cX8_turn 51 = .ok (.invokestatic 108, 3) := by decide +kernel
theorem dX8_turn_54 : decode cX8_turn 54 = .ok (.if_icmp .eq 57, 3) := by decide +kernel
theorem dX8_turn_57 : decode cX8_turn 57 = .ok (.iload 7, 2) := by decide +kernel
theorem dX8_turn_59 : decode cX8_turn 59 = .ok (.iconst 1, 1) := by decide +kernel
theorem dX8_turn_60 : decode cX8_turn 60 = .ok (.if_icmp .le 51, 3) := by decide +kernel
theorem dX8_turn_63 : decode cX8_turn 63 = .ok (.iconst 0, 1) := by decide +kernel
theorem dX8_turn_64 : decode cX8_turn 64 = .ok (.istore 8, 2) := by decide +kernel
theorem dX8_turn_66 : decode cX8_turn 66 = .ok (.iload 8, 2) := by decide +kernel
theorem dX8_turn_68 : decode cX8_turn 68 = .ok (.iload 4, 2) := by decide +kernel
theorem dX8_turn_70 : decode cX8_turn 70 = .ok (.iload 5, 2) := by decide +kernel
theorem dX8_turn_72 : decode cX8_turn 72 = .ok (.imul, 1) := by decide +kernel
theorem dX8_turn_73 : decode cX8_turn 73 = .ok (.if_icmp .ge 38, 3) := by decide +kernel
theorem dX8_turn_76 : decode cX8_turn 76 = .ok (.aload_n 0, 1) := by decide +kernel
theorem dX8_turn_77 : decode cX8_turn 77 = .ok (.getfield 12, 3) := by decide +kernel
theorem dX8_turn_80 : decode cX8_turn 80 = .ok (.ldc 154, 2) := by decide +kernel
theorem dX8_turn_82 : decode cX8_turn 82 = .ok (.iconst 2, 1) := by decide +kernel
theorem dX8_turn_83 : decode cX8_turn 83 = .ok (.iload 8, 2) := by decide +kernel
theorem dX8_turn_85 : decode cX8_turn 85 = .ok (.imul, 1) := by decide +kernel
theorem dX8_turn_86 : decode cX8_turn 86 = .ok (.iadd, 1) := by decide +kernel
theorem dX8_turn_87 : decode cX8_turn 87 = .ok (.aload_n 0, 1) := by decide +kernel
theorem dX8_turn_88 : decode cX8_turn 88 = .ok (.getfield 12, 3) := by decide +kernel
theorem dX8_turn_91 : decode cX8_turn 91 = .ok (.ldc 154, 2) := by decide +kernel
theorem dX8_turn_93 : decode cX8_turn 93 = .ok (.iconst 2, 1) := by decide +kernel
theorem dX8_turn_94 : decode cX8_turn 94 = .ok (.iload 8, 2) := by decide +kernel
theorem dX8_turn_96 : decode cX8_turn 96 = .ok (.imul, 1) := by decide +kernel
theorem dX8_turn_97 : decode cX8_turn 97 = .ok (.iadd, 1) := by decide +kernel
theorem dX8_turn_98 : decode cX8_turn 98 = .ok (.iaload, 1) := by decide +kernel
theorem dX8_turn_99 : decode cX8_turn 99 = .ok (.iload 7, 2) := by decide +kernel
theorem dX8_turn_101 : decode cX8_turn 101 = .ok (.invokestatic 63, 3) := by decide +kernel
theorem dX8_turn_104 : decode cX8_turn 104 = .ok (.iastore, 1) := by decide +kernel
theorem dX8_turn_105 : decode cX8_turn 105 = .ok (.iinc 8 1, 3) := by decide +kernel
theorem dX8_turn_108 : decode cX8_turn 108 = .ok (.goto (-42), 3) := by decide +kernel
theorem dX8_turn_111 : decode cX8_turn 111 = .ok (.iload_n 2, 1) := by decide +kernel
theorem dX8_turn_112 : decode cX8_turn 112 = .ok (.invokestatic 102, 3) := by decide +kernel
theorem dX8_turn_115 : decode cX8_turn 115 = .ok (.istore 8, 2) := by decide +kernel
theorem dX8_turn_117 : decode cX8_turn 117 = .ok (.aload_n 0, 1) := by decide +kernel
theorem dX8_turn_118 : decode cX8_turn 118 = .ok (.iload_n 3, 1) := by decide +kernel
theorem dX8_turn_119 : decode cX8_turn 119 = .ok (.iload 6, 2) := by decide +kernel
theorem dX8_turn_121 : decode cX8_turn 121 = .ok (.iload_n 2, 1) := by decide +kernel
theorem dX8_turn_122 : decode cX8_turn 122 = .ok (.invokestatic 119, 3) := by decide +kernel
theorem dX8_turn_125 : decode cX8_turn 125 = .ok (.imul, 1) := by decide +kernel
theorem dX8_turn_126 : decode cX8_turn 126 = .ok (.invokevirtual 122, 3) := by decide +kernel
theorem dX8_turn_129 : decode cX8_turn 129 = .ok (.iload_n 1, 1) := by decide +kernel
theorem dX8_turn_130 : decode cX8_turn 130 = .ok (.invokestatic 102, 3) := by decide +kernel
theorem dX8_turn_133 : decode cX8_turn 133 = .ok (.iload 8, 2) := by decide +kernel
theorem dX8_turn_135 : decode cX8_turn 135 = .ok (.if_icmp .ne 7, 3) := by decide +kernel
theorem dX8_turn_138 : decode cX8_turn 138 = .ok (.iconst 1, 1) := by decide +kernel
theorem dX8_turn_139 : decode cX8_turn 139 = .ok (.goto 4, 3) := by decide +kernel
theorem dX8_turn_142 : decode cX8_turn 142 = .ok (.iconst 0, 1) := by decide +kernel
theorem dX8_turn_143 : decode cX8_turn 143 = .ok (.istore 9, 2) := by decide +kernel
theorem dX8_turn_145 : decode cX8_turn 145 = .ok (.iconst 0, 1) := by decide +kernel
theorem dX8_turn_146 : decode cX8_turn 146 = .ok (.istore 10, 2) := by decide +kernel
theorem dX8_turn_148 : decode cX8_turn 148 = .ok (.iload 10, 2) := by decide +kernel
theorem dX8_turn_150 : decode cX8_turn 150 = .ok (.iload 9, 2) := by decide +kernel
theorem dX8_turn_152 : decode cX8_turn 152 = .ok (.ifCond .eq 8, 3) := by decide +kernel
theorem dX8_turn_155 : decode cX8_turn 155 = .ok (.iload 5, 2) := by decide +kernel
theorem dX8_turn_157 : decode cX8_turn 157 = .ok (.goto 5, 3) := by decide +kernel
theorem dX8_turn_160 : decode cX8_turn 160 = .ok (.iload 8, 2) := by decide +kernel
theorem dX8_turn_162 : decode cX8_turn 162 = .ok (.if_icmp .ge 59, 3) := by decide +kernel
theorem dX8_turn_165 : decode cX8_turn 165 = .ok (.aload_n 0, 1) := by decide +kernel
theorem dX8_turn_166 : decode cX8_turn 166 = .ok (.ldc 154, 2) := by decide +kernel
theorem dX8_turn_168 : decode cX8_turn 168 = .ok (.iload 9, 2) := by decide +kernel
theorem dX8_turn_170 : decode cX8_turn 170 = .ok (.ifCond .eq 13, 3) := by decide +kernel
theorem dX8_turn_173 : decode cX8_turn 173 = .ok (.iconst 2, 1) := by decide +kernel
theorem dX8_turn_174 : decode cX8_turn 174 = .ok (.iload 4, 2) := by decide +kernel
theorem dX8_turn_176 : decode cX8_turn 176 = .ok (.imul, 1) := by decide +kernel
theorem dX8_turn_177 : decode cX8_turn 177 = .ok (.iload 10, 2) := by decide +kernel
theorem dX8_turn_179 : decode cX8_turn 179 = .ok (.imul, 1) := by decide +kernel
theorem dX8_turn_180 : decode cX8_turn 180 = .ok (.goto 4, 3) := by decide +kernel
theorem dX8_turn_183 : decode cX8_turn 183 = .ok (.iconst 0, 1) := by decide +kernel
theorem dX8_turn_184 : decode cX8_turn 184 = .ok (.iadd, 1) := by decide +kernel
theorem dX8_turn_185 : decode cX8_turn 185 = .ok (.iload_n 3, 1) := by decide +kernel
theorem dX8_turn_186 : decode cX8_turn 186 = .ok (.iconst 2, 1) := by decide +kernel
theorem dX8_turn_187 : decode cX8_turn 187 = .ok (.iload 6, 2) := by decide +kernel
theorem dX8_turn_189 : decode cX8_turn 189 = .ok (.imul, 1) := by decide +kernel
theorem dX8_turn_190 : decode cX8_turn 190 = .ok (.iload 9, 2) := by decide +kernel
theorem dX8_turn_192 : decode cX8_turn 192 = .ok (.ifCond .eq 8, 3) := by decide +kernel
theorem dX8_turn_195 : decode cX8_turn 195 = .ok (.iload 10, 2) := by decide +kernel
theorem dX8_turn_197 : decode cX8_turn 197 = .ok (.goto 11, 3) := by decide +kernel
theorem dX8_turn_200 : decode cX8_turn 200 = .ok (.iload 8, 2) := by decide +kernel
theorem dX8_turn_202 : decode cX8_turn 202 = .ok (.iload 10, 2) := by decide +kernel
theorem dX8_turn_204 : decode cX8_turn 204 = .ok (.imul, 1) := by decide +kernel
theorem dX8_turn_205 : decode cX8_turn 205 = .ok (.iload 10, 2) := by decide +kernel
theorem dX8_turn_207 : decode cX8_turn 207 = .ok (.iadd, 1) := by decide +kernel
theorem dX8_turn_208 : decode cX8_turn 208 = .ok (.imul, 1) := by decide +kernel
theorem dX8_turn_209 : decode cX8_turn 209 = .ok (.iadd, 1) := by decide +kernel
theorem dX8_turn_210 : decode cX8_turn 210 = .ok (.iload 4, 2) := by decide +kernel
theorem dX8_turn_212 : decode cX8_turn 212 = .ok (.invokevirtual 81, 3) := by decide +kernel
theorem dX8_turn_215 : decode cX8_turn 215 = .ok (.iinc 10 1, 3) := by decide +kernel
theorem dX8_turn_218 : decode cX8_turn 218 = .ok (.goto (-70), 3) := by decide +kernel
theorem dX8_turn_221 : decode cX8_turn 221 = .ok (.return_, 1) := by decide +kernel
/-! AlgebraHouse$Numbers.turn(III)V -/
def P_X8_turn_148 (Q : Int → MM → Prop) : Nat → Int → Int → Int → Int → Int → Int → Int → MM → Prop
  | 0, _, _, _, _, _, _, _, _ => False
  | n + 1, x3, x4, x5, x6, x8, x9, x10, m => ((RI x9)) ∧ (RI x10) ∧ (RI (if x9 = 0 then x8 else x5 : Int)) ∧ (if (if x9 = 0 then x8 else x5 : Int) ≤ x10 then Q 0 m else ((RI x9)) ∧ ((RI x9)) ∧ P_X8_copy (1155420 + (if x9 = 0 then 0 else ((2 * x4) * x10) : Int)) (x3 + ((2 * x6) * (if x9 = 0 then ((x8 * x10) + x10) else x10 : Int))) x4 m (fun r1 m1 => P_X8_turn_148 Q n x3 x4 x5 x6 x8 x9 (x10 + 1) m1))
def P_X8_turn_111 (Q : Int → MM → Prop) (x1 : Int) (x2 : Int) (x3 : Int) (x4 : Int) (x5 : Int) (x6 : Int) (m : MM) : Prop := P_X11_size x2 m (fun r1 m1 => P_X11_entries x2 m1 (fun r2 m2 => P_X8_clear x3 (x6 * r2) m2 (fun r3 m3 => P_X11_size x1 m3 (fun r4 m4 => (RI r4) ∧ (RI r1) ∧ (if r4 = r1 then ∃ nn, P_X8_turn_148 Q nn x3 x4 x5 x6 r1 1 0 m4 else ∃ nn, P_X8_turn_148 Q nn x3 x4 x5 x6 r1 0 0 m4)))))
def P_X8_turn_66 (Q : Int → MM → Prop) : Nat → Int → Int → Int → Int → Int → Int → Int → Int → MM → Prop
  | 0, _, _, _, _, _, _, _, _, _ => False
  | n + 1, x1, x2, x3, x4, x5, x6, x7, x8, m => (RI x8) ∧ (RI (x4 * x5)) ∧ (if (x4 * x5) ≤ x8 then P_X8_turn_111 Q x1 x2 x3 x4 x5 x6 m else (0 ≤ (1155420 + (2 * x8)) ∧ (1155420 + (2 * x8)) < 1159540) ∧ P_J4_floorMod (m 379 (1155420 + (2 * x8))) x7 m (fun r1 m1 => ∀ m2 : MM, m2 = up m1 379 (1155420 + (2 * x8)) r1 → P_X8_turn_66 Q n x1 x2 x3 x4 x5 x6 x7 (x8 + 1) m2))
def P_X8_turn (x1 : Int) (x2 : Int) (x3 : Int) (m : MM) (Q : Int → MM → Prop) : Prop := (RI x1) ∧ (RI x2) ∧ (if x1 = x2 then Q 0 m else P_X11_coefficients x1 m (fun r1 m1 => P_X11_entries x1 m1 (fun r2 m2 => P_X11_coefficients x2 m2 (fun r3 m3 => P_X8_copy x3 1155420 (r1 * r2) m3 (fun r4 m4 => P_X11_base x2 m4 (fun r5 m5 => P_X8_modulus r5 m5 (fun r6 m6 => P_X11_base x1 m6 (fun r7 m7 => P_X11_base x2 m7 (fun r8 m8 => (RI r7) ∧ (RI r8) ∧ (if r7 = r8 then P_X8_turn_111 Q x1 x2 x3 r1 r2 r3 m8 else (RI r6) ∧ (if r6 ≤ 1 then P_X8_turn_111 Q x1 x2 x3 r1 r2 r3 m8 else ∃ nn, P_X8_turn_66 Q nn x1 x2 x3 r1 r2 r3 r6 0 m8)))))))))))
theorem pl_X8_turn_148 {f : Nat} {Q : Int → MM → Prop} {T : MM → Prop} (hf : 3 ≤ f) : ∀ (n : Nat) (x3 : Int) (x4 : Int) (x5 : Int) (x6 : Int) (x8 : Int) (x9 : Int) (x10 : Int) (m : MM), P_X8_turn_148 Q n x3 x4 x5 x6 x8 x9 x10 m → B f M_X8_turn 148 [vR 378, vU, vU, vI x3, vI x4, vI x5, vI x6, vU, vI x8, vI x9, vI x10] [] m Q T := by
  intro n
  induction n with
  | zero => intro x3 x4 x5 x6 x8 x9 x10 m h; exact h.elim
  | succ n ih =>
    intro x3 x4 x5 x6 x8 x9 x10 m h
    have h : ((RI x9)) ∧ (RI x10) ∧ (RI (if x9 = 0 then x8 else x5 : Int)) ∧ (if (if x9 = 0 then x8 else x5 : Int) ≤ x10 then Q 0 m else ((RI x9)) ∧ ((RI x9)) ∧ P_X8_copy (1155420 + (if x9 = 0 then 0 else ((2 * x4) * x10) : Int)) (x3 + ((2 * x6) * (if x9 = 0 then ((x8 * x10) + x10) else x10 : Int))) x4 m (fun r1 m1 => P_X8_turn_148 Q n x3 x4 x5 x6 x8 x9 (x10 + 1) m1)) := h
    refine b_iload dX8_turn_148 rfl ?_
    refine b_iload dX8_turn_150 rfl ?_
    obtain ⟨hs, h⟩ := h
    have K : B f M_X8_turn 162 [vR 378, vU, vU, vI x3, vI x4, vI x5, vI x6, vU, vI x8, vI x9, vI x10] [vI (if x9 = 0 then x8 else x5 : Int), vI x10] m Q T := by
      clear hs
      obtain ⟨g2, h⟩ := h
      obtain ⟨g3, h⟩ := h
      refine b_icmp_ge 221 dX8_turn_162 g2 g3 (by decide) (fun c1 => ?_) (fun c1 => ?_)
      · have h := ifT c1 h
        exact b_vret dX8_turn_221 rfl h
      · have h := ifF c1 h
        refine b_aload_n dX8_turn_165 rfl ?_
        refine b_ldc (1155420) dX8_turn_166 q1317 (by decide) ?_
        refine b_iload dX8_turn_168 rfl ?_
        obtain ⟨hs, h⟩ := h
        have K : B f M_X8_turn 184 [vR 378, vU, vU, vI x3, vI x4, vI x5, vI x6, vU, vI x8, vI x9, vI x10] [vI (if x9 = 0 then 0 else ((2 * x4) * x10) : Int), vI 1155420, vR 378] m Q T := by
          clear hs
          refine b_iadd dX8_turn_184 ?_
          refine b_iload_n dX8_turn_185 rfl ?_
          refine b_iconst dX8_turn_186 ?_
          refine b_iload dX8_turn_187 rfl ?_
          refine b_imul dX8_turn_189 ?_
          refine b_iload dX8_turn_190 rfl ?_
          obtain ⟨hs, h⟩ := h
          have K : B f M_X8_turn 208 [vR 378, vU, vU, vI x3, vI x4, vI x5, vI x6, vU, vI x8, vI x9, vI x10] [vI (if x9 = 0 then ((x8 * x10) + x10) else x10 : Int), vI (2 * x6), vI x3, vI (1155420 + (if x9 = 0 then 0 else ((2 * x4) * x10) : Int)), vR 378] m Q T := by
            clear hs
            refine b_imul dX8_turn_208 ?_
            refine b_iadd dX8_turn_209 ?_
            refine b_iload dX8_turn_210 rfl ?_
            refine b_cVv (as := [vI (1155420 + (if x9 = 0 then 0 else ((2 * x4) * x10) : Int)), vI (x3 + ((2 * x6) * (if x9 = 0 then ((x8 * x10) + x10) else x10 : Int))), vI x4]) (st := []) dX8_turn_212 mf_X8_copy q1320 lk_X8_81 ly_378 rfl (p_X8_copy (f := 2) (Nat.le_refl _) _ _ _ _ h) (by omega) rfl rfl (Nat.le_of_ble_eq_true rfl) (by decide) rfl (fun _ => rfl) (fun r1 m1 h => ?_) (fun _ h => h)
            refine b_iinc (ls' := [vR 378, vU, vU, vI x3, vI x4, vI x5, vI x6, vU, vI x8, vI x9, vI (x10 + 1)]) dX8_turn_215 rfl rfl ?_
            refine b_goto 148 dX8_turn_218 (by decide) ?_
            exact ih _ _ _ _ _ _ _ _ h
          have g5 := hs
          refine b_if_eq 200 dX8_turn_192 g5 (by decide) (fun c2 => ?_) (fun c2 => ?_)
          ·
            refine b_iload dX8_turn_200 rfl ?_
            refine b_iload dX8_turn_202 rfl ?_
            refine b_imul dX8_turn_204 ?_
            refine b_iload dX8_turn_205 rfl ?_
            refine b_iadd dX8_turn_207 ?_
            rw [if_pos c2] at K
            exact K
          ·
            refine b_iload dX8_turn_195 rfl ?_
            refine b_goto 208 dX8_turn_197 (by decide) ?_
            rw [if_neg c2] at K
            exact K
        have g4 := hs
        refine b_if_eq 183 dX8_turn_170 g4 (by decide) (fun c3 => ?_) (fun c3 => ?_)
        ·
          refine b_iconst dX8_turn_183 ?_
          rw [if_pos c3] at K
          exact K
        ·
          refine b_iconst dX8_turn_173 ?_
          refine b_iload dX8_turn_174 rfl ?_
          refine b_imul dX8_turn_176 ?_
          refine b_iload dX8_turn_177 rfl ?_
          refine b_imul dX8_turn_179 ?_
          refine b_goto 184 dX8_turn_180 (by decide) ?_
          rw [if_neg c3] at K
          exact K
    have g1 := hs
    refine b_if_eq 160 dX8_turn_152 g1 (by decide) (fun c4 => ?_) (fun c4 => ?_)
    ·
      refine b_iload dX8_turn_160 rfl ?_
      rw [if_pos c4] at K
      exact K
    ·
      refine b_iload dX8_turn_155 rfl ?_
      refine b_goto 162 dX8_turn_157 (by decide) ?_
      rw [if_neg c4] at K
      exact K
theorem pl_X8_turn_111 {f : Nat} {Q : Int → MM → Prop} {T : MM → Prop} (hf : 3 ≤ f) : ∀ (x1 : Int) (x2 : Int) (x3 : Int) (x4 : Int) (x5 : Int) (x6 : Int) (m : MM), P_X8_turn_111 Q x1 x2 x3 x4 x5 x6 m → B f M_X8_turn 111 [vR 378, vI x1, vI x2, vI x3, vI x4, vI x5, vI x6, vU, vU, vU, vU] [] m Q T := by
  intro x1 x2 x3 x4 x5 x6 m h
  have h : P_X11_size x2 m (fun r1 m1 => P_X11_entries x2 m1 (fun r2 m2 => P_X8_clear x3 (x6 * r2) m2 (fun r3 m3 => P_X11_size x1 m3 (fun r4 m4 => (RI r4) ∧ (RI r1) ∧ (if r4 = r1 then ∃ nn, P_X8_turn_148 Q nn x3 x4 x5 x6 r1 1 0 m4 else ∃ nn, P_X8_turn_148 Q nn x3 x4 x5 x6 r1 0 0 m4))))) := h
  refine b_iload_n dX8_turn_111 rfl ?_
  refine b_cSi (as := [vI x2]) (st := []) dX8_turn_112 mf_X11_size lk_X8_102 (p_X11_size (f := 1) (Nat.le_refl _) _ _ h) (by omega) rfl rfl (Nat.le_of_ble_eq_true rfl) (by decide) rfl (fun _ => rfl) (fun r1 m1 h => ?_) (fun _ h => h)
  refine b_istore (ls' := [vR 378, vI x1, vI x2, vI x3, vI x4, vI x5, vI x6, vU, vI r1, vU, vU]) dX8_turn_115 (Nat.le_of_ble_eq_true rfl) rfl ?_
  refine b_aload_n dX8_turn_117 rfl ?_
  refine b_iload_n dX8_turn_118 rfl ?_
  refine b_iload dX8_turn_119 rfl ?_
  refine b_iload_n dX8_turn_121 rfl ?_
  refine b_cSi (as := [vI x2]) (st := [vI x6, vI x3, vR 378]) dX8_turn_122 mf_X11_entries lk_X8_119 (p_X11_entries (f := 2) (Nat.le_refl _) _ _ h) (by omega) rfl rfl (Nat.le_of_ble_eq_true rfl) (by decide) rfl (fun _ => rfl) (fun r2 m2 h => ?_) (fun _ h => h)
  refine b_imul dX8_turn_125 ?_
  refine b_cVv (as := [vI x3, vI (x6 * r2)]) (st := []) dX8_turn_126 mf_X8_clear q1305 lk_X8_122 ly_378 rfl (p_X8_clear (f := 1) (Nat.le_refl _) _ _ _ h) (by omega) rfl rfl (Nat.le_of_ble_eq_true rfl) (by decide) rfl (fun _ => rfl) (fun r3 m3 h => ?_) (fun _ h => h)
  refine b_iload_n dX8_turn_129 rfl ?_
  refine b_cSi (as := [vI x1]) (st := []) dX8_turn_130 mf_X11_size lk_X8_102 (p_X11_size (f := 1) (Nat.le_refl _) _ _ h) (by omega) rfl rfl (Nat.le_of_ble_eq_true rfl) (by decide) rfl (fun _ => rfl) (fun r4 m4 h => ?_) (fun _ h => h)
  refine b_iload dX8_turn_133 rfl ?_
  obtain ⟨g1, h⟩ := h
  obtain ⟨g2, h⟩ := h
  refine b_icmp_ne 142 dX8_turn_135 g1 g2 (by decide) (fun c1 => ?_) (fun c1 => ?_)
  · have h := ifF c1 h
    refine b_iconst dX8_turn_142 ?_
    refine b_istore (ls' := [vR 378, vI x1, vI x2, vI x3, vI x4, vI x5, vI x6, vU, vI r1, vI 0, vU]) dX8_turn_143 (Nat.le_of_ble_eq_true rfl) rfl ?_
    refine b_iconst dX8_turn_145 ?_
    refine b_istore (ls' := [vR 378, vI x1, vI x2, vI x3, vI x4, vI x5, vI x6, vU, vI r1, vI 0, vI 0]) dX8_turn_146 (Nat.le_of_ble_eq_true rfl) rfl ?_
    refine b_fgt [true, false, false, true, true, true, true, false, true, true, true] (ls' := [vR 378, vU, vU, vI x3, vI x4, vI x5, vI x6, vU, vI r1, vI 0, vI 0]) rfl rfl ?_
    obtain ⟨nn, h⟩ := h
    exact pl_X8_turn_148 hf nn _ _ _ _ _ _ _ _ h
  · have h := ifT (Decidable.of_not_not c1) h
    refine b_iconst dX8_turn_138 ?_
    refine b_goto 143 dX8_turn_139 (by decide) ?_
    refine b_istore (ls' := [vR 378, vI x1, vI x2, vI x3, vI x4, vI x5, vI x6, vU, vI r1, vI 1, vU]) dX8_turn_143 (Nat.le_of_ble_eq_true rfl) rfl ?_
    refine b_iconst dX8_turn_145 ?_
    refine b_istore (ls' := [vR 378, vI x1, vI x2, vI x3, vI x4, vI x5, vI x6, vU, vI r1, vI 1, vI 0]) dX8_turn_146 (Nat.le_of_ble_eq_true rfl) rfl ?_
    refine b_fgt [true, false, false, true, true, true, true, false, true, true, true] (ls' := [vR 378, vU, vU, vI x3, vI x4, vI x5, vI x6, vU, vI r1, vI 1, vI 0]) rfl rfl ?_
    obtain ⟨nn, h⟩ := h
    exact pl_X8_turn_148 hf nn _ _ _ _ _ _ _ _ h
theorem pl_X8_turn_66 {f : Nat} {Q : Int → MM → Prop} {T : MM → Prop} (hf : 3 ≤ f) : ∀ (n : Nat) (x1 : Int) (x2 : Int) (x3 : Int) (x4 : Int) (x5 : Int) (x6 : Int) (x7 : Int) (x8 : Int) (m : MM), P_X8_turn_66 Q n x1 x2 x3 x4 x5 x6 x7 x8 m → B f M_X8_turn 66 [vR 378, vI x1, vI x2, vI x3, vI x4, vI x5, vI x6, vI x7, vI x8, vU, vU] [] m Q T := by
  intro n
  induction n with
  | zero => intro x1 x2 x3 x4 x5 x6 x7 x8 m h; exact h.elim
  | succ n ih =>
    intro x1 x2 x3 x4 x5 x6 x7 x8 m h
    have h : (RI x8) ∧ (RI (x4 * x5)) ∧ (if (x4 * x5) ≤ x8 then P_X8_turn_111 Q x1 x2 x3 x4 x5 x6 m else (0 ≤ (1155420 + (2 * x8)) ∧ (1155420 + (2 * x8)) < 1159540) ∧ P_J4_floorMod (m 379 (1155420 + (2 * x8))) x7 m (fun r1 m1 => ∀ m2 : MM, m2 = up m1 379 (1155420 + (2 * x8)) r1 → P_X8_turn_66 Q n x1 x2 x3 x4 x5 x6 x7 (x8 + 1) m2)) := h
    refine b_iload dX8_turn_66 rfl ?_
    refine b_iload dX8_turn_68 rfl ?_
    refine b_iload dX8_turn_70 rfl ?_
    refine b_imul dX8_turn_72 ?_
    obtain ⟨g1, h⟩ := h
    obtain ⟨g2, h⟩ := h
    refine b_icmp_ge 111 dX8_turn_73 g1 g2 (by decide) (fun c1 => ?_) (fun c1 => ?_)
    · have h := ifT c1 h
      refine b_fgt [true, true, true, true, true, true, true, false, false, false, false] (ls' := [vR 378, vI x1, vI x2, vI x3, vI x4, vI x5, vI x6, vU, vU, vU, vU]) rfl rfl ?_
      exact pl_X8_turn_111 hf _ _ _ _ _ _ _ h
    · have h := ifF c1 h
      refine b_aload_n dX8_turn_76 rfl ?_
      refine b_getR dX8_turn_77 fk_X8_12 ly_378 gg_378_0 ?_
      refine b_ldc (1155420) dX8_turn_80 q1317 (by decide) ?_
      refine b_iconst dX8_turn_82 ?_
      refine b_iload dX8_turn_83 rfl ?_
      refine b_imul dX8_turn_85 ?_
      refine b_iadd dX8_turn_86 ?_
      refine b_aload_n dX8_turn_87 rfl ?_
      refine b_getR dX8_turn_88 fk_X8_12 ly_378 gg_378_0 ?_
      refine b_ldc (1155420) dX8_turn_91 q1317 (by decide) ?_
      refine b_iconst dX8_turn_93 ?_
      refine b_iload dX8_turn_94 rfl ?_
      refine b_imul dX8_turn_96 ?_
      refine b_iadd dX8_turn_97 ?_
      obtain ⟨g3, h⟩ := h
      refine b_iald dX8_turn_98 ly_379 g3 ?_
      refine b_iload dX8_turn_99 rfl ?_
      refine b_cSi (as := [vI (m 379 (1155420 + (2 * x8))), vI x7]) (st := [vI (1155420 + (2 * x8)), vR 379]) dX8_turn_101 mf_J4_floorMod lk_X8_63 (p_J4_floorMod (f := 1) (Nat.le_refl _) _ _ _ h) (by omega) rfl rfl (Nat.le_of_ble_eq_true rfl) (by decide) rfl (fun _ => rfl) (fun r1 m1 h => ?_) (fun _ h => h)
      refine b_iast dX8_turn_104 ly_379 g3 (fun m2 em2 => ?_)
      have h := h m2 em2
      refine b_iinc (ls' := [vR 378, vI x1, vI x2, vI x3, vI x4, vI x5, vI x6, vI x7, vI (x8 + 1), vU, vU]) dX8_turn_105 rfl rfl ?_
      refine b_goto 66 dX8_turn_108 (by decide) ?_
      exact ih _ _ _ _ _ _ _ _ _ h
theorem p_X8_turn {f : Nat} {Q : Int → MM → Prop} {T : MM → Prop} (hf : 3 ≤ f) (x1 : Int) (x2 : Int) (x3 : Int) (m : MM) (h : P_X8_turn x1 x2 x3 m Q) : CC f M_X8_turn [vR 378, vI x1, vI x2, vI x3] m Q T := by
  refine CC.of (plainFor_of_name (by decide)) (Nat.le_of_ble_eq_true rfl) (ls := [vR 378, vI x1, vI x2, vI x3, vU, vU, vU, vU, vU, vU, vU]) rfl ?_
  have h : (RI x1) ∧ (RI x2) ∧ (if x1 = x2 then Q 0 m else P_X11_coefficients x1 m (fun r1 m1 => P_X11_entries x1 m1 (fun r2 m2 => P_X11_coefficients x2 m2 (fun r3 m3 => P_X8_copy x3 1155420 (r1 * r2) m3 (fun r4 m4 => P_X11_base x2 m4 (fun r5 m5 => P_X8_modulus r5 m5 (fun r6 m6 => P_X11_base x1 m6 (fun r7 m7 => P_X11_base x2 m7 (fun r8 m8 => (RI r7) ∧ (RI r8) ∧ (if r7 = r8 then P_X8_turn_111 Q x1 x2 x3 r1 r2 r3 m8 else (RI r6) ∧ (if r6 ≤ 1 then P_X8_turn_111 Q x1 x2 x3 r1 r2 r3 m8 else ∃ nn, P_X8_turn_66 Q nn x1 x2 x3 r1 r2 r3 r6 0 m8))))))))))) := h
  refine b_iload_n dX8_turn_0 rfl ?_
  refine b_iload_n dX8_turn_1 rfl ?_
  obtain ⟨g1, h⟩ := h
  obtain ⟨g2, h⟩ := h
  refine b_icmp_ne 6 dX8_turn_2 g1 g2 (by decide) (fun c1 => ?_) (fun c1 => ?_)
  · have h := ifF c1 h
    refine b_iload_n dX8_turn_6 rfl ?_
    refine b_cSi (as := [vI x1]) (st := []) dX8_turn_7 mf_X11_coefficients lk_X8_111 (p_X11_coefficients (f := 2) (Nat.le_refl _) _ _ h) (by omega) rfl rfl (Nat.le_of_ble_eq_true rfl) (by decide) rfl (fun _ => rfl) (fun r1 m1 h => ?_) (fun _ h => h)
    refine b_istore (ls' := [vR 378, vI x1, vI x2, vI x3, vI r1, vU, vU, vU, vU, vU, vU]) dX8_turn_10 (Nat.le_of_ble_eq_true rfl) rfl ?_
    refine b_iload_n dX8_turn_12 rfl ?_
    refine b_cSi (as := [vI x1]) (st := []) dX8_turn_13 mf_X11_entries lk_X8_119 (p_X11_entries (f := 2) (Nat.le_refl _) _ _ h) (by omega) rfl rfl (Nat.le_of_ble_eq_true rfl) (by decide) rfl (fun _ => rfl) (fun r2 m2 h => ?_) (fun _ h => h)
    refine b_istore (ls' := [vR 378, vI x1, vI x2, vI x3, vI r1, vI r2, vU, vU, vU, vU, vU]) dX8_turn_16 (Nat.le_of_ble_eq_true rfl) rfl ?_
    refine b_iload_n dX8_turn_18 rfl ?_
    refine b_cSi (as := [vI x2]) (st := []) dX8_turn_19 mf_X11_coefficients lk_X8_111 (p_X11_coefficients (f := 2) (Nat.le_refl _) _ _ h) (by omega) rfl rfl (Nat.le_of_ble_eq_true rfl) (by decide) rfl (fun _ => rfl) (fun r3 m3 h => ?_) (fun _ h => h)
    refine b_istore (ls' := [vR 378, vI x1, vI x2, vI x3, vI r1, vI r2, vI r3, vU, vU, vU, vU]) dX8_turn_22 (Nat.le_of_ble_eq_true rfl) rfl ?_
    refine b_aload_n dX8_turn_24 rfl ?_
    refine b_iload_n dX8_turn_25 rfl ?_
    refine b_ldc (1155420) dX8_turn_26 q1317 (by decide) ?_
    refine b_iload dX8_turn_28 rfl ?_
    refine b_iload dX8_turn_30 rfl ?_
    refine b_imul dX8_turn_32 ?_
    refine b_cVv (as := [vI x3, vI 1155420, vI (r1 * r2)]) (st := []) dX8_turn_33 mf_X8_copy q1320 lk_X8_81 ly_378 rfl (p_X8_copy (f := 2) (Nat.le_refl _) _ _ _ _ h) (by omega) rfl rfl (Nat.le_of_ble_eq_true rfl) (by decide) rfl (fun _ => rfl) (fun r4 m4 h => ?_) (fun _ h => h)
    refine b_aload_n dX8_turn_36 rfl ?_
    refine b_iload_n dX8_turn_37 rfl ?_
    refine b_cSi (as := [vI x2]) (st := [vR 378]) dX8_turn_38 mf_X11_base lk_X8_108 (p_X11_base (f := 1) (Nat.le_refl _) _ _ h) (by omega) rfl rfl (Nat.le_of_ble_eq_true rfl) (by decide) rfl (fun _ => rfl) (fun r5 m5 h => ?_) (fun _ h => h)
    refine b_cVi (as := [vI r5]) (st := []) dX8_turn_41 mf_X8_modulus qs66 lk_X8_49 ly_378 rfl (p_X8_modulus (f := 1) (Nat.le_refl _) _ _ h) (by omega) rfl rfl (Nat.le_of_ble_eq_true rfl) (by decide) rfl (fun _ => rfl) (fun r6 m6 h => ?_) (fun _ h => h)
    refine b_istore (ls' := [vR 378, vI x1, vI x2, vI x3, vI r1, vI r2, vI r3, vI r6, vU, vU, vU]) dX8_turn_44 (Nat.le_of_ble_eq_true rfl) rfl ?_
    refine b_iload_n dX8_turn_46 rfl ?_
    refine b_cSi (as := [vI x1]) (st := []) dX8_turn_47 mf_X11_base lk_X8_108 (p_X11_base (f := 1) (Nat.le_refl _) _ _ h) (by omega) rfl rfl (Nat.le_of_ble_eq_true rfl) (by decide) rfl (fun _ => rfl) (fun r7 m7 h => ?_) (fun _ h => h)
    refine b_iload_n dX8_turn_50 rfl ?_
    refine b_cSi (as := [vI x2]) (st := [vI r7]) dX8_turn_51 mf_X11_base lk_X8_108 (p_X11_base (f := 1) (Nat.le_refl _) _ _ h) (by omega) rfl rfl (Nat.le_of_ble_eq_true rfl) (by decide) rfl (fun _ => rfl) (fun r8 m8 h => ?_) (fun _ h => h)
    obtain ⟨g3, h⟩ := h
    obtain ⟨g4, h⟩ := h
    refine b_icmp_eq 111 dX8_turn_54 g3 g4 (by decide) (fun c2 => ?_) (fun c2 => ?_)
    · have h := ifT c2 h
      refine b_fgt [true, true, true, true, true, true, true, false, false, false, false] (ls' := [vR 378, vI x1, vI x2, vI x3, vI r1, vI r2, vI r3, vU, vU, vU, vU]) rfl rfl ?_
      exact pl_X8_turn_111 hf _ _ _ _ _ _ _ h
    · have h := ifF c2 h
      refine b_iload dX8_turn_57 rfl ?_
      refine b_iconst dX8_turn_59 ?_
      obtain ⟨g5, h⟩ := h
      refine b_icmp_le 111 dX8_turn_60 g5 (by decide) (by decide) (fun c3 => ?_) (fun c3 => ?_)
      · have h := ifT c3 h
        refine b_fgt [true, true, true, true, true, true, true, false, false, false, false] (ls' := [vR 378, vI x1, vI x2, vI x3, vI r1, vI r2, vI r3, vU, vU, vU, vU]) rfl rfl ?_
        exact pl_X8_turn_111 hf _ _ _ _ _ _ _ h
      · have h := ifF c3 h
        refine b_iconst dX8_turn_63 ?_
        refine b_istore (ls' := [vR 378, vI x1, vI x2, vI x3, vI r1, vI r2, vI r3, vI r6, vI 0, vU, vU]) dX8_turn_64 (Nat.le_of_ble_eq_true rfl) rfl ?_
        obtain ⟨nn, h⟩ := h
        exact pl_X8_turn_66 hf nn _ _ _ _ _ _ _ _ _ h
  · have h := ifT (Decidable.of_not_not c1) h
    exact b_vret dX8_turn_5 rfl h
theorem dX8_minor_0 : decode cX8_minor 0 = .ok (.iload_n 1, 1) := by decide +kernel
theorem dX8_minor_1 : decode cX8_minor 1 = .ok (.invokestatic 111, 3) := by decide +kernel
theorem dX8_minor_4 : decode cX8_minor 4 = .ok (.istore 6, 2) := by decide +kernel
theorem dX8_minor_6 : decode cX8_minor 6 = .ok (.iload_n 1, 1) := by decide +kernel
theorem dX8_minor_7 : decode cX8_minor 7 = .ok (.invokestatic 108, 3) := by decide +kernel
theorem dX8_minor_10 : decode cX8_minor 10 = .ok (.istore 7, 2) := by decide +kernel
theorem dX8_minor_12 : decode cX8_minor 12 = .ok (.iload_n 1, 1) := by decide +kernel
theorem dX8_minor_13 : decode cX8_minor 13 = .ok (.invokestatic 102, 3) := by decide +kernel
theorem dX8_minor_16 : decode cX8_minor 16 = .ok (.istore 8, 2) := by decide +kernel
theorem dX8_minor_18 : decode cX8_minor 18 = .ok (.iload_n 3, 1) := by decide +kernel
theorem dX8_minor_19 : decode cX8_minor 19 = .ok (.invokestatic 126, 3) := by decide +kernel
theorem dX8_minor_22 : decode cX8_minor 22 = .ok (.istore 9, 2) := by decide +kernel
theorem dX8_minor_24 : decode cX8_minor 24 = .ok (.iload_n 3, 1) := by decide +kernel
theorem dX8_minor_25 : decode cX8_minor 25 = .ok (.iload_n 3, 1) := by decide +kernel
theorem dX8_minor_26 : decode cX8_minor 26 = .ok (.iconst 1, 1) := by decide +kernel
theorem dX8_minor_27 : decode cX8_minor 27 = .ok (.isub, 1) := by decide +kernel
theorem dX8_minor_28 : decode cX8_minor 28 = .ok (.iand, 1) := by decide +kernel
theorem dX8_minor_29 : decode cX8_minor 29 = .ok (.ifCond .ne 30, 3) := by decide +kernel
theorem dX8_minor_32 : decode cX8_minor 32 = .ok (.aload_n 0, 1) := by decide +kernel
theorem dX8_minor_33 : decode cX8_minor 33 = .ok (.iload_n 2, 1) := by decide +kernel
theorem dX8_minor_34 : decode cX8_minor 34 = .ok (.iconst 2, 1) := by decide +kernel
theorem dX8_minor_35 : decode cX8_minor 35 = .ok (.iload 6, 2) := by decide +kernel
theorem dX8_minor_37 : decode cX8_minor 37 = .ok (.imul, 1) := by decide +kernel
theorem dX8_minor_38 : decode cX8_minor 38 = .ok (.iload 8, 2) := by decide +kernel
theorem dX8_minor_40 : decode cX8_minor 40 = .ok (.iload 9, 2) := by decide +kernel
theorem dX8_minor_42 : decode cX8_minor 42 = .ok (.imul, 1) := by decide +kernel
theorem dX8_minor_43 : decode cX8_minor 43 = .ok (.iload 4, 2) := by decide +kernel
theorem dX8_minor_45 : decode cX8_minor 45 = .ok (.invokestatic 126, 3) := by decide +kernel
theorem dX8_minor_48 : decode cX8_minor 48 = .ok (.iadd, 1) := by decide +kernel
theorem dX8_minor_49 : decode cX8_minor 49 = .ok (.imul, 1) := by decide +kernel
theorem dX8_minor_50 : decode cX8_minor 50 = .ok (.iadd, 1) := by decide +kernel
theorem dX8_minor_51 : decode cX8_minor 51 = .ok (.iload 5, 2) := by decide +kernel
theorem dX8_minor_53 : decode cX8_minor 53 = .ok (.iload 6, 2) := by decide +kernel
theorem dX8_minor_55 : decode cX8_minor 55 = .ok (.invokevirtual 81, 3) := by decide +kernel
theorem dX8_minor_58 : decode cX8_minor 58 = .ok (.return_, 1) := by decide +kernel
theorem dX8_minor_59 : decode cX8_minor 59 = .ok (.aload_n 0, 1) := by decide +kernel
theorem dX8_minor_60 : decode cX8_minor 60 = .ok (.iload 5, 2) := by decide +kernel
theorem dX8_minor_62 : decode cX8_minor 62 = .ok (.iload 6, 2) := by decide +kernel
theorem dX8_minor_64 : decode cX8_minor 64 = .ok (.invokevirtual 122, 3) := by decide +kernel
theorem dX8_minor_67 : decode cX8_minor 67 = .ok (.iconst 0, 1) := by decide +kernel
theorem dX8_minor_68 : decode cX8_minor 68 = .ok (.istore 10, 2) := by decide +kernel
theorem dX8_minor_70 : decode cX8_minor 70 = .ok (.iconst 0, 1) := by decide +kernel
theorem dX8_minor_71 : decode cX8_minor 71 = .ok (.istore 11, 2) := by decide +kernel
theorem dX8_minor_73 : decode cX8_minor 73 = .ok (.iload 11, 2) := by decide +kernel
theorem dX8_minor_75 : decode cX8_minor 75 = .ok (.iload 8, 2) := by decide +kernel
theorem dX8_minor_77 : decode cX8_minor 77 = .ok (.if_icmp .ge 149, 3) := by decide +kernel
theorem dX8_minor_80 : decode cX8_minor 80 = .ok (.aload_n 0, 1) := by decide +kernel
theorem dX8_minor_81 : decode cX8_minor 81 = .ok (.getfield 26, 3) := by decide +kernel
theorem dX8_minor_84 : decode cX8_minor 84 = .ok (.ifCond .ne 142, 3) := by decide +kernel
theorem dX8_minor_87 : decode cX8_minor 87 = .ok (.iload 4, 2) := by decide +kernel
theorem dX8_minor_89 : decode cX8_minor 89 = .ok (.iload 11, 2) := by decide +kernel
theorem dX8_minor_91 : decode cX8_minor 91 = .ok (.ishr, 1) := by decide +kernel
theorem dX8_minor_92 : decode cX8_minor 92 = .ok (.iconst 1, 1) := by decide +kernel
theorem dX8_minor_93 : decode cX8_minor 93 = .ok (.iand, 1) := by decide +kernel
theorem dX8_minor_94 : decode cX8_minor 94 = .ok (.ifCond .ne 6, 3) := by decide +kernel
theorem dX8_minor_97 : decode cX8_minor 97 = .ok (.goto 123, 3) := by decide +kernel
theorem dX8_minor_100 : decode cX8_minor 100 = .ok (.iload 4, 2) := by decide +kernel
theorem dX8_minor_102 : decode cX8_minor 102 = .ok (.iconst 1, 1) := by decide +kernel
theorem dX8_minor_103 : decode cX8_minor 103 = .ok (.iload 11, 2) := by decide +kernel
theorem dX8_minor_105 : decode cX8_minor 105 = .ok (.ishl, 1) := by decide +kernel
theorem dX8_minor_106 : decode cX8_minor 106 = .ok (.iconst (-1), 1) := by decide +kernel
theorem dX8_minor_107 : decode cX8_minor 107 = .ok (.ixor, 1) := by decide +kernel
theorem dX8_minor_108 : decode cX8_minor 108 = .ok (.iand, 1) := by decide +kernel
theorem dX8_minor_109 : decode cX8_minor 109 = .ok (.istore 12, 2) := by decide +kernel
theorem dX8_minor_111 : decode cX8_minor 111 = .ok (.iload_n 3, 1) := by decide +kernel
theorem dX8_minor_112 : decode cX8_minor 112 = .ok (.iload_n 3, 1) := by decide +kernel
theorem dX8_minor_113 : decode cX8_minor 113 = .ok (.iconst 1, 1) := by decide +kernel
theorem dX8_minor_114 : decode cX8_minor 114 = .ok (.isub, 1) := by decide +kernel
theorem dX8_minor_115 : decode cX8_minor 115 = .ok (.iand, 1) := by decide +kernel
theorem dX8_minor_116 : decode cX8_minor 116 = .ok (.istore 13, 2) := by decide +kernel
theorem dX8_minor_118 : decode cX8_minor 118 = .ok (.iload 13, 2) := by decide +kernel
theorem dX8_minor_120 : decode cX8_minor 120 = .ok (.iload 13, 2) := by decide +kernel
theorem dX8_minor_122 : decode cX8_minor 122 = .ok (.iconst 1, 1) := by decide +kernel
theorem dX8_minor_123 : decode cX8_minor 123 = .ok (.isub, 1) := by decide +kernel
theorem dX8_minor_124 : decode cX8_minor 124 = .ok (.iand, 1) := by decide +kernel
theorem dX8_minor_125 : decode cX8_minor 125 = .ok (.ifCond .ne 8, 3) := by decide +kernel
theorem dX8_minor_128 : decode cX8_minor 128 = .ok (.ldc 131, 2) := by decide +kernel
theorem dX8_minor_130 : decode cX8_minor 130 = .ok (.goto 5, 3) := by decide +kernel
theorem dX8_minor_133 : decode cX8_minor 133 = .ok (.ldc 132, 2) := by decide +kernel
theorem dX8_minor_135 : decode cX8_minor 135 = .ok (.istore 14, 2) := by decide +kernel
theorem dX8_minor_137 : decode cX8_minor 137 = .ok (.aload_n 0, 1) := by decide +kernel
theorem dX8_minor_138 : decode cX8_minor 138 = .ok (.iload_n 1, 1) := by decide +kernel
theorem dX8_minor_139 : decode cX8_minor 139 = .ok (.iload_n 2, 1) := by decide +kernel
theorem dX8_minor_140 : decode cX8_minor 140 = .ok (.iload 13, 2) := by decide +kernel
theorem dX8_minor_142 : decode cX8_minor 142 = .ok (.iload 12, 2) := by decide +kernel
theorem dX8_minor_144 : decode cX8_minor 144 = .ok (.iload 14, 2) := by decide +kernel
theorem dX8_minor_146 : decode cX8_minor 146 = .ok (.invokevirtual 133, 3) := by decide +kernel
theorem dX8_minor_149 : decode cX8_minor 149 = .ok (.aload_n 0, 1) := by decide +kernel
theorem dX8_minor_150 : decode cX8_minor 150 = .ok (.getfield 26, 3) := by decide +kernel
theorem dX8_minor_153 : decode cX8_minor 153 = .ok (.ifCond .ne 32, 3) := by decide +kernel
theorem dX8_minor_156 : decode cX8_minor 156 = .ok (.aload_n 0, 1) := by decide +kernel
theorem dX8_minor_157 : decode cX8_minor 157 = .ok (.iload 7, 2) := by decide +kernel
theorem dX8_minor_159 : decode cX8_minor 159 = .ok (.iload_n 1, 1) := by decide +kernel
theorem dX8_minor_160 : decode cX8_minor 160 = .ok (.invokestatic 105, 3) := by decide +kernel
theorem dX8_minor_163 : decode cX8_minor 163 = .ok (.iload_n 2, 1) := by decide +kernel
theorem dX8_minor_164 : decode cX8_minor 164 = .ok (.iconst 2, 1) := by decide +kernel
theorem dX8_minor_165 : decode cX8_minor 165 = .ok (.iload 6, 2) := by decide +kernel
theorem dX8_minor_167 : decode cX8_minor 167 = .ok (.imul, 1) := by decide +kernel
theorem dX8_minor_168 : decode cX8_minor 168 = .ok (.iload 8, 2) := by decide +kernel
theorem dX8_minor_170 : decode cX8_minor 170 = .ok (.iload 9, 2) := by decide +kernel
theorem dX8_minor_172 : decode cX8_minor 172 = .ok (.imul, 1) := by decide +kernel
theorem dX8_minor_173 : decode cX8_minor 173 = .ok (.iload 11, 2) := by decide +kernel
theorem dX8_minor_175 : decode cX8_minor 175 = .ok (.iadd, 1) := by decide +kernel
theorem dX8_minor_176 : decode cX8_minor 176 = .ok (.imul, 1) := by decide +kernel
theorem dX8_minor_177 : decode cX8_minor 177 = .ok (.iadd, 1) := by decide +kernel
theorem dX8_minor_178 : decode cX8_minor 178 = .ok (.iload 14, 2) := by decide +kernel
theorem dX8_minor_180 : decode cX8_minor 180 = .ok (.ldc 136, 2) := by decide +kernel
theorem dX8_minor_182 : decode cX8_minor 182 = .ok (.invokevirtual 114, 3) := by decide +kernel
theorem dX8_minor_185 : decode cX8_minor 185 = .ok (.aload_n 0, 1) := by decide +kernel
theorem dX8_minor_186 : decode cX8_minor 186 = .ok (.getfield 26, 3) := by decide +kernel
theorem dX8_minor_189 : decode cX8_minor 189 = .ok (.ifCond .ne 19, 3) := by decide +kernel
theorem dX8_minor_192 : decode cX8_minor 192 = .ok (.aload_n 0, 1) := by decide +kernel
theorem dX8_minor_193 : decode cX8_minor 193 = .ok (.iload 7, 2) := by decide +kernel
theorem dX8_minor_195 : decode cX8_minor 195 = .ok (.iload 5, 2) := by decide +kernel
theorem dX8_minor_197 : decode cX8_minor 197 = .ok (.ldc 136, 2) := by decide +kernel
theorem dX8_minor_199 : decode cX8_minor 199 = .ok (.iload 5, 2) := by decide +kernel
theorem dX8_minor_201 : decode cX8_minor 201 = .ok (.iload 6, 2) := by decide +kernel
theorem dX8_minor_203 : decode cX8_minor 203 = .ok (.iload 10, 2) := by decide +kernel
theorem dX8_minor_205 : decode cX8_minor 205 = .ok (.invokevirtual 94, 3) := by decide +kernel
theorem dX8_minor_208 : decode cX8_minor 208 = .ok (.iload 10, 2) := by decide +kernel
theorem dX8_minor_210 : decode cX8_minor 210 = .ok (.ifCond .ne 7, 3) := by decide +kernel
theorem dX8_minor_213 : decode cX8_minor 213 = .ok (.iconst 1, 1) := by decide +kernel
theorem dX8_minor_214 : decode cX8_minor 214 = .ok (.goto 4, 3) := by decide +kernel
theorem dX8_minor_217 : decode cX8_minor 217 = .ok (.iconst 0, 1) := by decide +kernel
theorem dX8_minor_218 : decode cX8_minor 218 = .ok (.istore 10, 2) := by decide +kernel
theorem dX8_minor_220 : decode cX8_minor 220 = .ok (.iinc 11 1, 3) := by decide +kernel
theorem dX8_minor_223 : decode cX8_minor 223 = .ok (.goto (-150), 3) := by decide +kernel
theorem dX8_minor_226 : decode cX8_minor 226 = .ok (.return_, 1) := by decide +kernel
/-! AlgebraHouse$Numbers.minor(IIIII)V -/
def P_X8_minor_208 (rec : Nat → List Int → MM → (Int → MM → Prop) → (MM → Prop) → Prop) (Q : Int → MM → Prop) (T : MM → Prop) (K73 : Int → Int → Int → Int → Int → Int → Int → Int → Int → Int → Int → MM → Prop) (x1 : Int) (x2 : Int) (x3 : Int) (x4 : Int) (x5 : Int) (x6 : Int) (x7 : Int) (x8 : Int) (x9 : Int) (x10 : Int) (x11 : Int) (m : MM) : Prop := (RI x10) ∧ (if x10 = 0 then K73 x1 x2 x3 x4 x5 x6 x7 x8 x9 1 (x11 + 1) m else K73 x1 x2 x3 x4 x5 x6 x7 x8 x9 0 (x11 + 1) m)
def P_X8_minor_185 (rec : Nat → List Int → MM → (Int → MM → Prop) → (MM → Prop) → Prop) (Q : Int → MM → Prop) (T : MM → Prop) (K73 : Int → Int → Int → Int → Int → Int → Int → Int → Int → Int → Int → MM → Prop) (x1 : Int) (x2 : Int) (x3 : Int) (x4 : Int) (x5 : Int) (x6 : Int) (x7 : Int) (x8 : Int) (x9 : Int) (x10 : Int) (x11 : Int) (m : MM) : Prop := (RI (m 378 2)) ∧ (if (m 378 2) = 0 then P_X8_addAll x7 x5 1157678 x5 x6 x10 m (fun r1 m1 => P_X8_minor_208 rec Q T K73 x1 x2 x3 x4 x5 x6 x7 x8 x9 x10 x11 m1) else P_X8_minor_208 rec Q T K73 x1 x2 x3 x4 x5 x6 x7 x8 x9 x10 x11 m)
def P_X8_minor_73 (rec : Nat → List Int → MM → (Int → MM → Prop) → (MM → Prop) → Prop) (Q : Int → MM → Prop) (T : MM → Prop) : Nat → Int → Int → Int → Int → Int → Int → Int → Int → Int → Int → Int → MM → Prop
  | 0, _, _, _, _, _, _, _, _, _, _, _, _ => False
  | n + 1, x1, x2, x3, x4, x5, x6, x7, x8, x9, x10, x11, m => (RI x11) ∧ (RI x8) ∧ (if x8 ≤ x11 then Q 0 m else (RI (m 378 2)) ∧ (if (m 378 2) = 0 then (RI (iAnd (iShr x4 x11) 1)) ∧ (if (iAnd (iShr x4 x11) 1) = 0 then P_X8_minor_73 rec Q T n x1 x2 x3 x4 x5 x6 x7 x8 x9 x10 (x11 + 1) m else ((RI (iAnd (iAnd x3 (x3 - 1)) ((iAnd x3 (x3 - 1)) - 1)))) ∧ rec 0 [x1, x2, (iAnd x3 (x3 - 1)), (iAnd x4 (iXor (iShl 1 x11) (-1))), (if (iAnd (iAnd x3 (x3 - 1)) ((iAnd x3 (x3 - 1)) - 1)) = 0 then 1157580 else 1157282 : Int)] m (fun r1 m1 => (RI (m1 378 2)) ∧ (if (m1 378 2) = 0 then P_X11_depth x1 m1 (fun r2 m2 => P_X8_product x7 r2 (x2 + ((2 * x6) * ((x8 * x9) + x11))) (if (iAnd (iAnd x3 (x3 - 1)) ((iAnd x3 (x3 - 1)) - 1)) = 0 then 1157580 else 1157282 : Int) 1157678 m2 (fun r3 m3 => P_X8_minor_185 rec Q T (fun z0 z1 z2 z3 z4 z5 z6 z7 z8 z9 z10 z11 => P_X8_minor_73 rec Q T n z0 z1 z2 z3 z4 z5 z6 z7 z8 z9 z10 z11) x1 x2 x3 x4 x5 x6 x7 x8 x9 x10 x11 m3)) else P_X8_minor_185 rec Q T (fun z0 z1 z2 z3 z4 z5 z6 z7 z8 z9 z10 z11 => P_X8_minor_73 rec Q T n z0 z1 z2 z3 z4 z5 z6 z7 z8 z9 z10 z11) x1 x2 x3 x4 x5 x6 x7 x8 x9 x10 x11 m1)) T) else Q 0 m))
def W_X8_minor (rec : Nat → List Int → MM → (Int → MM → Prop) → (MM → Prop) → Prop) (x1 : Int) (x2 : Int) (x3 : Int) (x4 : Int) (x5 : Int) (m : MM) (Q : Int → MM → Prop) (T : MM → Prop) : Prop := P_X11_coefficients x1 m (fun r1 m1 => P_X11_base x1 m1 (fun r2 m2 => P_X11_size x1 m2 (fun r3 m3 => P_J6_numberOfTrailingZeros x3 m3 (fun r4 m4 => (RI (iAnd x3 (x3 - 1))) ∧ (if (iAnd x3 (x3 - 1)) = 0 then P_J6_numberOfTrailingZeros x4 m4 (fun r6 m6 => P_X8_copy (x2 + ((2 * r1) * ((r3 * r4) + r6))) x5 r1 m6 (fun r7 m7 => Q 0 m7)) else P_X8_clear x5 r1 m4 (fun r5 m5 => ∃ nn, P_X8_minor_73 rec Q T nn x1 x2 x3 x4 x5 r1 r2 r3 r4 0 0 m5))))))
def HR_X8_minor (rec : Nat → List Int → MM → (Int → MM → Prop) → (MM → Prop) → Prop) (fr : Nat) : Prop := (∀ (x1 : Int) (x2 : Int) (x3 : Int) (x4 : Int) (x5 : Int) (m : MM) (Q : Int → MM → Prop) (T : MM → Prop), rec 0 [x1, x2, x3, x4, x5] m Q T → CC fr M_X8_minor [vR 378, vI x1, vI x2, vI x3, vI x4, vI x5] m Q T) ∧ True
theorem pl_X8_minor_208 {f : Nat} {Q : Int → MM → Prop} {T : MM → Prop} {rec : Nat → List Int → MM → (Int → MM → Prop) → (MM → Prop) → Prop} {fr : Nat} (hrec : HR_X8_minor rec fr) (hf : 7 ≤ f ∧ fr + 1 ≤ f) {K73 : Int → Int → Int → Int → Int → Int → Int → Int → Int → Int → Int → MM → Prop} (hK73 : ∀ (x1 : Int) (x2 : Int) (x3 : Int) (x4 : Int) (x5 : Int) (x6 : Int) (x7 : Int) (x8 : Int) (x9 : Int) (x10 : Int) (x11 : Int) (m : MM), K73 x1 x2 x3 x4 x5 x6 x7 x8 x9 x10 x11 m → B f M_X8_minor 73 [vR 378, vI x1, vI x2, vI x3, vI x4, vI x5, vI x6, vI x7, vI x8, vI x9, vI x10, vI x11, vU, vU, vU] [] m Q T) : ∀ (x1 : Int) (x2 : Int) (x3 : Int) (x4 : Int) (x5 : Int) (x6 : Int) (x7 : Int) (x8 : Int) (x9 : Int) (x10 : Int) (x11 : Int) (m : MM), P_X8_minor_208 rec Q T K73 x1 x2 x3 x4 x5 x6 x7 x8 x9 x10 x11 m → B f M_X8_minor 208 [vR 378, vI x1, vI x2, vI x3, vI x4, vI x5, vI x6, vI x7, vI x8, vI x9, vI x10, vI x11, vU, vU, vU] [] m Q T := by
  intro x1 x2 x3 x4 x5 x6 x7 x8 x9 x10 x11 m h
  have h : (RI x10) ∧ (if x10 = 0 then K73 x1 x2 x3 x4 x5 x6 x7 x8 x9 1 (x11 + 1) m else K73 x1 x2 x3 x4 x5 x6 x7 x8 x9 0 (x11 + 1) m) := h
  refine b_iload dX8_minor_208 rfl ?_
  obtain ⟨g1, h⟩ := h
  refine b_if_ne 217 dX8_minor_210 g1 (by decide) (fun c1 => ?_) (fun c1 => ?_)
  · have h := ifF c1 h
    refine b_iconst dX8_minor_217 ?_
    refine b_istore (ls' := [vR 378, vI x1, vI x2, vI x3, vI x4, vI x5, vI x6, vI x7, vI x8, vI x9, vI 0, vI x11, vU, vU, vU]) dX8_minor_218 (Nat.le_of_ble_eq_true rfl) rfl ?_
    refine b_iinc (ls' := [vR 378, vI x1, vI x2, vI x3, vI x4, vI x5, vI x6, vI x7, vI x8, vI x9, vI 0, vI (x11 + 1), vU, vU, vU]) dX8_minor_220 rfl rfl ?_
    refine b_goto 73 dX8_minor_223 (by decide) ?_
    exact hK73 _ _ _ _ _ _ _ _ _ _ _ _ h
  · have h := ifT (Decidable.of_not_not c1) h
    refine b_iconst dX8_minor_213 ?_
    refine b_goto 218 dX8_minor_214 (by decide) ?_
    refine b_istore (ls' := [vR 378, vI x1, vI x2, vI x3, vI x4, vI x5, vI x6, vI x7, vI x8, vI x9, vI 1, vI x11, vU, vU, vU]) dX8_minor_218 (Nat.le_of_ble_eq_true rfl) rfl ?_
    refine b_iinc (ls' := [vR 378, vI x1, vI x2, vI x3, vI x4, vI x5, vI x6, vI x7, vI x8, vI x9, vI 1, vI (x11 + 1), vU, vU, vU]) dX8_minor_220 rfl rfl ?_
    refine b_goto 73 dX8_minor_223 (by decide) ?_
    exact hK73 _ _ _ _ _ _ _ _ _ _ _ _ h
theorem pl_X8_minor_185 {f : Nat} {Q : Int → MM → Prop} {T : MM → Prop} {rec : Nat → List Int → MM → (Int → MM → Prop) → (MM → Prop) → Prop} {fr : Nat} (hrec : HR_X8_minor rec fr) (hf : 7 ≤ f ∧ fr + 1 ≤ f) {K73 : Int → Int → Int → Int → Int → Int → Int → Int → Int → Int → Int → MM → Prop} (hK73 : ∀ (x1 : Int) (x2 : Int) (x3 : Int) (x4 : Int) (x5 : Int) (x6 : Int) (x7 : Int) (x8 : Int) (x9 : Int) (x10 : Int) (x11 : Int) (m : MM), K73 x1 x2 x3 x4 x5 x6 x7 x8 x9 x10 x11 m → B f M_X8_minor 73 [vR 378, vI x1, vI x2, vI x3, vI x4, vI x5, vI x6, vI x7, vI x8, vI x9, vI x10, vI x11, vU, vU, vU] [] m Q T) : ∀ (x1 : Int) (x2 : Int) (x3 : Int) (x4 : Int) (x5 : Int) (x6 : Int) (x7 : Int) (x8 : Int) (x9 : Int) (x10 : Int) (x11 : Int) (m : MM), P_X8_minor_185 rec Q T K73 x1 x2 x3 x4 x5 x6 x7 x8 x9 x10 x11 m → B f M_X8_minor 185 [vR 378, vI x1, vI x2, vI x3, vI x4, vI x5, vI x6, vI x7, vI x8, vI x9, vI x10, vI x11, vU, vU, vU] [] m Q T := by
  intro x1 x2 x3 x4 x5 x6 x7 x8 x9 x10 x11 m h
  have h : (RI (m 378 2)) ∧ (if (m 378 2) = 0 then P_X8_addAll x7 x5 1157678 x5 x6 x10 m (fun r1 m1 => P_X8_minor_208 rec Q T K73 x1 x2 x3 x4 x5 x6 x7 x8 x9 x10 x11 m1) else P_X8_minor_208 rec Q T K73 x1 x2 x3 x4 x5 x6 x7 x8 x9 x10 x11 m) := h
  refine b_aload_n dX8_minor_185 rfl ?_
  refine b_getI dX8_minor_186 fk_X8_26 ly_378 ?_
  obtain ⟨g1, h⟩ := h
  refine b_if_ne 208 dX8_minor_189 g1 (by decide) (fun c1 => ?_) (fun c1 => ?_)
  · have h := ifF c1 h
    exact pl_X8_minor_208 hrec hf hK73 _ _ _ _ _ _ _ _ _ _ _ _ h
  · have h := ifT (Decidable.of_not_not c1) h
    refine b_aload_n dX8_minor_192 rfl ?_
    refine b_iload dX8_minor_193 rfl ?_
    refine b_iload dX8_minor_195 rfl ?_
    refine b_ldc (1157678) dX8_minor_197 q1493 (by decide) ?_
    refine b_iload dX8_minor_199 rfl ?_
    refine b_iload dX8_minor_201 rfl ?_
    refine b_iload dX8_minor_203 rfl ?_
    refine b_cVv (as := [vI x7, vI x5, vI 1157678, vI x5, vI x6, vI x10]) (st := []) dX8_minor_205 mf_X8_addAll q1426 lk_X8_94 ly_378 rfl (p_X8_addAll (f := 5) (Nat.le_refl _) _ _ _ _ _ _ _ h) (by omega) rfl rfl (Nat.le_of_ble_eq_true rfl) (by decide) rfl (fun _ => rfl) (fun r1 m1 h => ?_) (fun _ h => h)
    exact pl_X8_minor_208 hrec hf hK73 _ _ _ _ _ _ _ _ _ _ _ _ h
theorem pl_X8_minor_73 {f : Nat} {Q : Int → MM → Prop} {T : MM → Prop} {rec : Nat → List Int → MM → (Int → MM → Prop) → (MM → Prop) → Prop} {fr : Nat} (hrec : HR_X8_minor rec fr) (hf : 7 ≤ f ∧ fr + 1 ≤ f) : ∀ (n : Nat) (x1 : Int) (x2 : Int) (x3 : Int) (x4 : Int) (x5 : Int) (x6 : Int) (x7 : Int) (x8 : Int) (x9 : Int) (x10 : Int) (x11 : Int) (m : MM), P_X8_minor_73 rec Q T n x1 x2 x3 x4 x5 x6 x7 x8 x9 x10 x11 m → B f M_X8_minor 73 [vR 378, vI x1, vI x2, vI x3, vI x4, vI x5, vI x6, vI x7, vI x8, vI x9, vI x10, vI x11, vU, vU, vU] [] m Q T := by
  intro n
  induction n with
  | zero => intro x1 x2 x3 x4 x5 x6 x7 x8 x9 x10 x11 m h; exact h.elim
  | succ n ih =>
    intro x1 x2 x3 x4 x5 x6 x7 x8 x9 x10 x11 m h
    have h : (RI x11) ∧ (RI x8) ∧ (if x8 ≤ x11 then Q 0 m else (RI (m 378 2)) ∧ (if (m 378 2) = 0 then (RI (iAnd (iShr x4 x11) 1)) ∧ (if (iAnd (iShr x4 x11) 1) = 0 then P_X8_minor_73 rec Q T n x1 x2 x3 x4 x5 x6 x7 x8 x9 x10 (x11 + 1) m else ((RI (iAnd (iAnd x3 (x3 - 1)) ((iAnd x3 (x3 - 1)) - 1)))) ∧ rec 0 [x1, x2, (iAnd x3 (x3 - 1)), (iAnd x4 (iXor (iShl 1 x11) (-1))), (if (iAnd (iAnd x3 (x3 - 1)) ((iAnd x3 (x3 - 1)) - 1)) = 0 then 1157580 else 1157282 : Int)] m (fun r1 m1 => (RI (m1 378 2)) ∧ (if (m1 378 2) = 0 then P_X11_depth x1 m1 (fun r2 m2 => P_X8_product x7 r2 (x2 + ((2 * x6) * ((x8 * x9) + x11))) (if (iAnd (iAnd x3 (x3 - 1)) ((iAnd x3 (x3 - 1)) - 1)) = 0 then 1157580 else 1157282 : Int) 1157678 m2 (fun r3 m3 => P_X8_minor_185 rec Q T (fun z0 z1 z2 z3 z4 z5 z6 z7 z8 z9 z10 z11 => P_X8_minor_73 rec Q T n z0 z1 z2 z3 z4 z5 z6 z7 z8 z9 z10 z11) x1 x2 x3 x4 x5 x6 x7 x8 x9 x10 x11 m3)) else P_X8_minor_185 rec Q T (fun z0 z1 z2 z3 z4 z5 z6 z7 z8 z9 z10 z11 => P_X8_minor_73 rec Q T n z0 z1 z2 z3 z4 z5 z6 z7 z8 z9 z10 z11) x1 x2 x3 x4 x5 x6 x7 x8 x9 x10 x11 m1)) T) else Q 0 m)) := h
    refine b_iload dX8_minor_73 rfl ?_
    refine b_iload dX8_minor_75 rfl ?_
    obtain ⟨g1, h⟩ := h
    obtain ⟨g2, h⟩ := h
    refine b_icmp_ge 226 dX8_minor_77 g1 g2 (by decide) (fun c1 => ?_) (fun c1 => ?_)
    · have h := ifT c1 h
      exact b_vret dX8_minor_226 rfl h
    · have h := ifF c1 h
      refine b_aload_n dX8_minor_80 rfl ?_
      refine b_getI dX8_minor_81 fk_X8_26 ly_378 ?_
      obtain ⟨g3, h⟩ := h
      refine b_if_ne 226 dX8_minor_84 g3 (by decide) (fun c2 => ?_) (fun c2 => ?_)
      · have h := ifF c2 h
        exact b_vret dX8_minor_226 rfl h
      · have h := ifT (Decidable.of_not_not c2) h
        refine b_iload dX8_minor_87 rfl ?_
        refine b_iload dX8_minor_89 rfl ?_
        refine b_ishr dX8_minor_91 ?_
        refine b_iconst dX8_minor_92 ?_
        refine b_iand dX8_minor_93 ?_
        obtain ⟨g4, h⟩ := h
        refine b_if_ne 100 dX8_minor_94 g4 (by decide) (fun c3 => ?_) (fun c3 => ?_)
        · have h := ifF c3 h
          refine b_iload dX8_minor_100 rfl ?_
          refine b_iconst dX8_minor_102 ?_
          refine b_iload dX8_minor_103 rfl ?_
          refine b_ishl dX8_minor_105 ?_
          refine b_iconst dX8_minor_106 ?_
          refine b_ixor dX8_minor_107 ?_
          refine b_iand dX8_minor_108 ?_
          refine b_istore (ls' := [vR 378, vI x1, vI x2, vI x3, vI x4, vI x5, vI x6, vI x7, vI x8, vI x9, vI x10, vI x11, vI (iAnd x4 (iXor (iShl 1 x11) (-1))), vU, vU]) dX8_minor_109 (Nat.le_of_ble_eq_true rfl) rfl ?_
          refine b_iload_n dX8_minor_111 rfl ?_
          refine b_iload_n dX8_minor_112 rfl ?_
          refine b_iconst dX8_minor_113 ?_
          refine b_isub dX8_minor_114 ?_
          refine b_iand dX8_minor_115 ?_
          refine b_istore (ls' := [vR 378, vI x1, vI x2, vI x3, vI x4, vI x5, vI x6, vI x7, vI x8, vI x9, vI x10, vI x11, vI (iAnd x4 (iXor (iShl 1 x11) (-1))), vI (iAnd x3 (x3 - 1)), vU]) dX8_minor_116 (Nat.le_of_ble_eq_true rfl) rfl ?_
          refine b_iload dX8_minor_118 rfl ?_
          refine b_iload dX8_minor_120 rfl ?_
          refine b_iconst dX8_minor_122 ?_
          refine b_isub dX8_minor_123 ?_
          refine b_iand dX8_minor_124 ?_
          obtain ⟨hs, h⟩ := h
          have K : B f M_X8_minor 135 [vR 378, vI x1, vI x2, vI x3, vI x4, vI x5, vI x6, vI x7, vI x8, vI x9, vI x10, vI x11, vI (iAnd x4 (iXor (iShl 1 x11) (-1))), vI (iAnd x3 (x3 - 1)), vU] [vI (if (iAnd (iAnd x3 (x3 - 1)) ((iAnd x3 (x3 - 1)) - 1)) = 0 then 1157580 else 1157282 : Int)] m Q T := by
            clear hs
            refine b_istore (ls' := [vR 378, vI x1, vI x2, vI x3, vI x4, vI x5, vI x6, vI x7, vI x8, vI x9, vI x10, vI x11, vI (iAnd x4 (iXor (iShl 1 x11) (-1))), vI (iAnd x3 (x3 - 1)), vI (if (iAnd (iAnd x3 (x3 - 1)) ((iAnd x3 (x3 - 1)) - 1)) = 0 then 1157580 else 1157282 : Int)]) dX8_minor_135 (Nat.le_of_ble_eq_true rfl) rfl ?_
            refine b_aload_n dX8_minor_137 rfl ?_
            refine b_iload_n dX8_minor_138 rfl ?_
            refine b_iload_n dX8_minor_139 rfl ?_
            refine b_iload dX8_minor_140 rfl ?_
            refine b_iload dX8_minor_142 rfl ?_
            refine b_iload dX8_minor_144 rfl ?_
            refine b_cVv (as := [vI x1, vI x2, vI (iAnd x3 (x3 - 1)), vI (iAnd x4 (iXor (iShl 1 x11) (-1))), vI (if (iAnd (iAnd x3 (x3 - 1)) ((iAnd x3 (x3 - 1)) - 1)) = 0 then 1157580 else 1157282 : Int)]) (st := []) dX8_minor_146 mf_X8_minor qs79 lk_X8_133 ly_378 rfl (hrec.1 _ _ _ _ _ _ _ _ h) (by omega) rfl rfl (Nat.le_of_ble_eq_true rfl) (by decide) rfl (fun _ => rfl) (fun r1 m1 h => ?_) (fun _ h => h)
            refine b_aload_n dX8_minor_149 rfl ?_
            refine b_getI dX8_minor_150 fk_X8_26 ly_378 ?_
            obtain ⟨g6, h⟩ := h
            refine b_if_ne 185 dX8_minor_153 g6 (by decide) (fun c4 => ?_) (fun c4 => ?_)
            · have h := ifF c4 h
              refine b_fgt [true, true, true, true, true, true, true, true, true, true, true, true, false, false, false] (ls' := [vR 378, vI x1, vI x2, vI x3, vI x4, vI x5, vI x6, vI x7, vI x8, vI x9, vI x10, vI x11, vU, vU, vU]) rfl rfl ?_
              exact pl_X8_minor_185 hrec hf (fun _ _ _ _ _ _ _ _ _ _ _ _ h => ih _ _ _ _ _ _ _ _ _ _ _ _ h) _ _ _ _ _ _ _ _ _ _ _ _ h
            · have h := ifT (Decidable.of_not_not c4) h
              refine b_aload_n dX8_minor_156 rfl ?_
              refine b_iload dX8_minor_157 rfl ?_
              refine b_iload_n dX8_minor_159 rfl ?_
              refine b_cSi (as := [vI x1]) (st := [vI x7, vR 378]) dX8_minor_160 mf_X11_depth lk_X8_105 (p_X11_depth (f := 1) (Nat.le_refl _) _ _ h) (by omega) rfl rfl (Nat.le_of_ble_eq_true rfl) (by decide) rfl (fun _ => rfl) (fun r2 m2 h => ?_) (fun _ h => h)
              refine b_iload_n dX8_minor_163 rfl ?_
              refine b_iconst dX8_minor_164 ?_
              refine b_iload dX8_minor_165 rfl ?_
              refine b_imul dX8_minor_167 ?_
              refine b_iload dX8_minor_168 rfl ?_
              refine b_iload dX8_minor_170 rfl ?_
              refine b_imul dX8_minor_172 ?_
              refine b_iload dX8_minor_173 rfl ?_
              refine b_iadd dX8_minor_175 ?_
              refine b_imul dX8_minor_176 ?_
              refine b_iadd dX8_minor_177 ?_
              refine b_iload dX8_minor_178 rfl ?_
              refine b_ldc (1157678) dX8_minor_180 q1493 (by decide) ?_
              refine b_cVv (as := [vI x7, vI r2, vI (x2 + ((2 * x6) * ((x8 * x9) + x11))), vI (if (iAnd (iAnd x3 (x3 - 1)) ((iAnd x3 (x3 - 1)) - 1)) = 0 then 1157580 else 1157282 : Int), vI 1157678]) (st := []) dX8_minor_182 mf_X8_product q1382 lk_X8_114 ly_378 rfl (p_X8_product (f := 6) (Nat.le_refl _) _ _ _ _ _ _ h) (by omega) rfl rfl (Nat.le_of_ble_eq_true rfl) (by decide) rfl (fun _ => rfl) (fun r3 m3 h => ?_) (fun _ h => h)
              refine b_fgt [true, true, true, true, true, true, true, true, true, true, true, true, false, false, false] (ls' := [vR 378, vI x1, vI x2, vI x3, vI x4, vI x5, vI x6, vI x7, vI x8, vI x9, vI x10, vI x11, vU, vU, vU]) rfl rfl ?_
              exact pl_X8_minor_185 hrec hf (fun _ _ _ _ _ _ _ _ _ _ _ _ h => ih _ _ _ _ _ _ _ _ _ _ _ _ h) _ _ _ _ _ _ _ _ _ _ _ _ h
          have g5 := hs
          refine b_if_ne 133 dX8_minor_125 g5 (by decide) (fun c5 => ?_) (fun c5 => ?_)
          ·
            refine b_ldc (1157282) dX8_minor_133 q1492 (by decide) ?_
            rw [if_neg c5] at K
            exact K
          ·
            have c5 := Decidable.of_not_not c5
            refine b_ldc (1157580) dX8_minor_128 q1491 (by decide) ?_
            refine b_goto 135 dX8_minor_130 (by decide) ?_
            rw [if_pos c5] at K
            exact K
        · have h := ifT (Decidable.of_not_not c3) h
          refine b_goto 220 dX8_minor_97 (by decide) ?_
          refine b_iinc (ls' := [vR 378, vI x1, vI x2, vI x3, vI x4, vI x5, vI x6, vI x7, vI x8, vI x9, vI x10, vI (x11 + 1), vU, vU, vU]) dX8_minor_220 rfl rfl ?_
          refine b_goto 73 dX8_minor_223 (by decide) ?_
          exact ih _ _ _ _ _ _ _ _ _ _ _ _ h
theorem w_X8_minor {f : Nat} {Q : Int → MM → Prop} {T : MM → Prop} {rec : Nat → List Int → MM → (Int → MM → Prop) → (MM → Prop) → Prop} {fr : Nat} (hrec : HR_X8_minor rec fr) (hf : 7 ≤ f ∧ fr + 1 ≤ f) (x1 : Int) (x2 : Int) (x3 : Int) (x4 : Int) (x5 : Int) (m : MM) (h : W_X8_minor rec x1 x2 x3 x4 x5 m Q T) : CC f M_X8_minor [vR 378, vI x1, vI x2, vI x3, vI x4, vI x5] m Q T := by
  refine CC.of (plainFor_of_name (by decide)) (Nat.le_of_ble_eq_true rfl) (ls := [vR 378, vI x1, vI x2, vI x3, vI x4, vI x5, vU, vU, vU, vU, vU, vU, vU, vU, vU]) rfl ?_
  have h : P_X11_coefficients x1 m (fun r1 m1 => P_X11_base x1 m1 (fun r2 m2 => P_X11_size x1 m2 (fun r3 m3 => P_J6_numberOfTrailingZeros x3 m3 (fun r4 m4 => (RI (iAnd x3 (x3 - 1))) ∧ (if (iAnd x3 (x3 - 1)) = 0 then P_J6_numberOfTrailingZeros x4 m4 (fun r6 m6 => P_X8_copy (x2 + ((2 * r1) * ((r3 * r4) + r6))) x5 r1 m6 (fun r7 m7 => Q 0 m7)) else P_X8_clear x5 r1 m4 (fun r5 m5 => ∃ nn, P_X8_minor_73 rec Q T nn x1 x2 x3 x4 x5 r1 r2 r3 r4 0 0 m5)))))) := h
  refine b_iload_n dX8_minor_0 rfl ?_
  refine b_cSi (as := [vI x1]) (st := []) dX8_minor_1 mf_X11_coefficients lk_X8_111 (p_X11_coefficients (f := 2) (Nat.le_refl _) _ _ h) (by omega) rfl rfl (Nat.le_of_ble_eq_true rfl) (by decide) rfl (fun _ => rfl) (fun r1 m1 h => ?_) (fun _ h => h)
  refine b_istore (ls' := [vR 378, vI x1, vI x2, vI x3, vI x4, vI x5, vI r1, vU, vU, vU, vU, vU, vU, vU, vU]) dX8_minor_4 (Nat.le_of_ble_eq_true rfl) rfl ?_
  refine b_iload_n dX8_minor_6 rfl ?_
  refine b_cSi (as := [vI x1]) (st := []) dX8_minor_7 mf_X11_base lk_X8_108 (p_X11_base (f := 1) (Nat.le_refl _) _ _ h) (by omega) rfl rfl (Nat.le_of_ble_eq_true rfl) (by decide) rfl (fun _ => rfl) (fun r2 m2 h => ?_) (fun _ h => h)
  refine b_istore (ls' := [vR 378, vI x1, vI x2, vI x3, vI x4, vI x5, vI r1, vI r2, vU, vU, vU, vU, vU, vU, vU]) dX8_minor_10 (Nat.le_of_ble_eq_true rfl) rfl ?_
  refine b_iload_n dX8_minor_12 rfl ?_
  refine b_cSi (as := [vI x1]) (st := []) dX8_minor_13 mf_X11_size lk_X8_102 (p_X11_size (f := 1) (Nat.le_refl _) _ _ h) (by omega) rfl rfl (Nat.le_of_ble_eq_true rfl) (by decide) rfl (fun _ => rfl) (fun r3 m3 h => ?_) (fun _ h => h)
  refine b_istore (ls' := [vR 378, vI x1, vI x2, vI x3, vI x4, vI x5, vI r1, vI r2, vI r3, vU, vU, vU, vU, vU, vU]) dX8_minor_16 (Nat.le_of_ble_eq_true rfl) rfl ?_
  refine b_iload_n dX8_minor_18 rfl ?_
  refine b_cSi (as := [vI x3]) (st := []) dX8_minor_19 mf_J6_numberOfTrailingZeros lk_X8_126 (p_J6_numberOfTrailingZeros (f := 1) (Nat.le_refl _) _ _ h) (by omega) rfl rfl (Nat.le_of_ble_eq_true rfl) (by decide) rfl (fun _ => rfl) (fun r4 m4 h => ?_) (fun _ h => h)
  refine b_istore (ls' := [vR 378, vI x1, vI x2, vI x3, vI x4, vI x5, vI r1, vI r2, vI r3, vI r4, vU, vU, vU, vU, vU]) dX8_minor_22 (Nat.le_of_ble_eq_true rfl) rfl ?_
  refine b_iload_n dX8_minor_24 rfl ?_
  refine b_iload_n dX8_minor_25 rfl ?_
  refine b_iconst dX8_minor_26 ?_
  refine b_isub dX8_minor_27 ?_
  refine b_iand dX8_minor_28 ?_
  obtain ⟨g1, h⟩ := h
  refine b_if_ne 59 dX8_minor_29 g1 (by decide) (fun c1 => ?_) (fun c1 => ?_)
  · have h := ifF c1 h
    refine b_aload_n dX8_minor_59 rfl ?_
    refine b_iload dX8_minor_60 rfl ?_
    refine b_iload dX8_minor_62 rfl ?_
    refine b_cVv (as := [vI x5, vI r1]) (st := []) dX8_minor_64 mf_X8_clear q1305 lk_X8_122 ly_378 rfl (p_X8_clear (f := 1) (Nat.le_refl _) _ _ _ h) (by omega) rfl rfl (Nat.le_of_ble_eq_true rfl) (by decide) rfl (fun _ => rfl) (fun r5 m5 h => ?_) (fun _ h => h)
    refine b_iconst dX8_minor_67 ?_
    refine b_istore (ls' := [vR 378, vI x1, vI x2, vI x3, vI x4, vI x5, vI r1, vI r2, vI r3, vI r4, vI 0, vU, vU, vU, vU]) dX8_minor_68 (Nat.le_of_ble_eq_true rfl) rfl ?_
    refine b_iconst dX8_minor_70 ?_
    refine b_istore (ls' := [vR 378, vI x1, vI x2, vI x3, vI x4, vI x5, vI r1, vI r2, vI r3, vI r4, vI 0, vI 0, vU, vU, vU]) dX8_minor_71 (Nat.le_of_ble_eq_true rfl) rfl ?_
    obtain ⟨nn, h⟩ := h
    exact pl_X8_minor_73 hrec hf nn _ _ _ _ _ _ _ _ _ _ _ _ h
  · have h := ifT (Decidable.of_not_not c1) h
    refine b_aload_n dX8_minor_32 rfl ?_
    refine b_iload_n dX8_minor_33 rfl ?_
    refine b_iconst dX8_minor_34 ?_
    refine b_iload dX8_minor_35 rfl ?_
    refine b_imul dX8_minor_37 ?_
    refine b_iload dX8_minor_38 rfl ?_
    refine b_iload dX8_minor_40 rfl ?_
    refine b_imul dX8_minor_42 ?_
    refine b_iload dX8_minor_43 rfl ?_
    refine b_cSi (as := [vI x4]) (st := [vI (r3 * r4), vI (2 * r1), vI x2, vR 378]) dX8_minor_45 mf_J6_numberOfTrailingZeros lk_X8_126 (p_J6_numberOfTrailingZeros (f := 1) (Nat.le_refl _) _ _ h) (by omega) rfl rfl (Nat.le_of_ble_eq_true rfl) (by decide) rfl (fun _ => rfl) (fun r6 m6 h => ?_) (fun _ h => h)
    refine b_iadd dX8_minor_48 ?_
    refine b_imul dX8_minor_49 ?_
    refine b_iadd dX8_minor_50 ?_
    refine b_iload dX8_minor_51 rfl ?_
    refine b_iload dX8_minor_53 rfl ?_
    refine b_cVv (as := [vI (x2 + ((2 * r1) * ((r3 * r4) + r6))), vI x5, vI r1]) (st := []) dX8_minor_55 mf_X8_copy q1320 lk_X8_81 ly_378 rfl (p_X8_copy (f := 2) (Nat.le_refl _) _ _ _ _ h) (by omega) rfl rfl (Nat.le_of_ble_eq_true rfl) (by decide) rfl (fun _ => rfl) (fun r7 m7 h => ?_) (fun _ h => h)
    exact b_vret dX8_minor_58 rfl h
def R_X8_minor : Nat → Nat → List Int → MM → (Int → MM → Prop) → (MM → Prop) → Prop
  | 0, _, _, _, _, _ => False
  | d + 1, i, as, m, Q, T => match i, as with
    | 0, [x1, x2, x3, x4, x5] => W_X8_minor (R_X8_minor d) x1 x2 x3 x4 x5 m Q T
    | _, _ => False
theorem pr_X8_minor : ∀ d f : Nat, 7 + d ≤ f → HR_X8_minor (R_X8_minor d) f := by
  intro d
  induction d with
  | zero => intro f hf; exact ⟨fun _ _ _ _ _ _ _ _ h => h.elim, trivial⟩
  | succ d ih =>
    intro f hf
    have hr := ih (f - 1) (by omega)
    exact ⟨fun x1 x2 x3 x4 x5 m _ _ h => w_X8_minor hr (show 7 ≤ f ∧ f - 1 + 1 ≤ f by omega) x1 x2 x3 x4 x5 m h, trivial⟩
theorem dX8_determinant_0 : decode cX8_determinant 0 = .ok (.aload_n 0, 1) := by decide +kernel
theorem dX8_determinant_1 : decode cX8_determinant 1 = .ok (.iload_n 1, 1) := by decide +kernel
theorem dX8_determinant_2 : decode cX8_determinant 2 = .ok (.iload_n 2, 1) := by decide +kernel
theorem dX8_determinant_3 : decode cX8_determinant 3 = .ok (.iconst 1, 1) := by decide +kernel
theorem dX8_determinant_4 : decode cX8_determinant 4 = .ok (.iload_n 1, 1) := by decide +kernel
theorem dX8_determinant_5 : decode cX8_determinant 5 = .ok (.invokestatic 102, 3) := by decide +kernel
theorem dX8_determinant_8 : decode cX8_determinant 8 = .ok (.ishl, 1) := by decide +kernel
theorem dX8_determinant_9 : decode cX8_determinant 9 = .ok (.iconst 1, 1) := by decide +kernel
theorem dX8_determinant_10 : decode cX8_determinant 10 = .ok (.isub, 1) := by decide +kernel
theorem dX8_determinant_11 : decode cX8_determinant 11 = .ok (.iconst 1, 1) := by decide +kernel
theorem dX8_determinant_12 : decode cX8_determinant 12 = .ok (.iload_n 1, 1) := by decide +kernel
theorem dX8_determinant_13 : decode cX8_determinant 13 = .ok (.invokestatic 102, 3) := by decide +kernel
theorem dX8_determinant_16 : decode cX8_determinant 16 = .ok (.ishl, 1) := by decide +kernel
theorem dX8_determinant_17 : decode cX8_determinant 17 = .ok (.iconst 1, 1) := by decide +kernel
theorem dX8_determinant_18 : decode cX8_determinant 18 = .ok (.isub, 1) := by decide +kernel
theorem dX8_determinant_19 : decode cX8_determinant 19 = .ok (.iload_n 3, 1) := by decide +kernel
theorem dX8_determinant_20 : decode cX8_determinant 20 = .ok (.invokevirtual 133, 3) := by decide +kernel
theorem dX8_determinant_23 : decode cX8_determinant 23 = .ok (.return_, 1) := by decide +kernel
/-! AlgebraHouse$Numbers.determinant(III)V -/
def P_X8_determinant (x1 : Int) (x2 : Int) (x3 : Int) (m : MM) (Q : Int → MM → Prop) : Prop := P_X11_size x1 m (fun r1 m1 => P_X11_size x1 m1 (fun r2 m2 => R_X8_minor 5 0 [x1, x2, ((iShl 1 r1) - 1), ((iShl 1 r2) - 1), x3] m2 (fun r3 m3 => Q 0 m3) (fun _ => False)))
theorem p_X8_determinant {f : Nat} {Q : Int → MM → Prop} {T : MM → Prop} (hf : 13 ≤ f) (x1 : Int) (x2 : Int) (x3 : Int) (m : MM) (h : P_X8_determinant x1 x2 x3 m Q) : CC f M_X8_determinant [vR 378, vI x1, vI x2, vI x3] m Q T := by
  refine CC.of (plainFor_of_name (by decide)) (Nat.le_of_ble_eq_true rfl) (ls := [vR 378, vI x1, vI x2, vI x3]) rfl ?_
  have h : P_X11_size x1 m (fun r1 m1 => P_X11_size x1 m1 (fun r2 m2 => R_X8_minor 5 0 [x1, x2, ((iShl 1 r1) - 1), ((iShl 1 r2) - 1), x3] m2 (fun r3 m3 => Q 0 m3) (fun _ => False))) := h
  refine b_aload_n dX8_determinant_0 rfl ?_
  refine b_iload_n dX8_determinant_1 rfl ?_
  refine b_iload_n dX8_determinant_2 rfl ?_
  refine b_iconst dX8_determinant_3 ?_
  refine b_iload_n dX8_determinant_4 rfl ?_
  refine b_cSi (as := [vI x1]) (st := [vI 1, vI x2, vI x1, vR 378]) dX8_determinant_5 mf_X11_size lk_X8_102 (p_X11_size (f := 1) (Nat.le_refl _) _ _ h) (by omega) rfl rfl (Nat.le_of_ble_eq_true rfl) (by decide) rfl (fun _ => rfl) (fun r1 m1 h => ?_) (fun _ h => h)
  refine b_ishl dX8_determinant_8 ?_
  refine b_iconst dX8_determinant_9 ?_
  refine b_isub dX8_determinant_10 ?_
  refine b_iconst dX8_determinant_11 ?_
  refine b_iload_n dX8_determinant_12 rfl ?_
  refine b_cSi (as := [vI x1]) (st := [vI 1, vI ((iShl 1 r1) - 1), vI x2, vI x1, vR 378]) dX8_determinant_13 mf_X11_size lk_X8_102 (p_X11_size (f := 1) (Nat.le_refl _) _ _ h) (by omega) rfl rfl (Nat.le_of_ble_eq_true rfl) (by decide) rfl (fun _ => rfl) (fun r2 m2 h => ?_) (fun _ h => h)
  refine b_ishl dX8_determinant_16 ?_
  refine b_iconst dX8_determinant_17 ?_
  refine b_isub dX8_determinant_18 ?_
  refine b_iload_n dX8_determinant_19 rfl ?_
  refine b_cVv (as := [vI x1, vI x2, vI ((iShl 1 r1) - 1), vI ((iShl 1 r2) - 1), vI x3]) (st := []) dX8_determinant_20 mf_X8_minor qs79 lk_X8_133 ly_378 rfl ((pr_X8_minor 5 12 (Nat.le_refl _)).1 _ _ _ _ _ _ _ _ h) (by omega) rfl rfl (Nat.le_of_ble_eq_true rfl) (by decide) rfl (fun _ => rfl) (fun r3 m3 h => ?_) (fun _ h => h.elim)
  exact b_vret dX8_determinant_23 rfl h
theorem dX8_less_0 : decode cX8_less 0 = .ok (.aload_n 0, 1) := by decide +kernel
theorem dX8_less_1 : decode cX8_less 1 = .ok (.iload_n 1, 1) := by decide +kernel
theorem dX8_less_2 : decode cX8_less 2 = .ok (.invokevirtual 49, 3) := by decide +kernel
theorem dX8_less_5 : decode cX8_less 5 = .ok (.istore 4, 2) := by decide +kernel
theorem dX8_less_7 : decode cX8_less 7 = .ok (.iconst 0, 1) := by decide +kernel
theorem dX8_less_8 : decode cX8_less 8 = .ok (.istore 5, 2) := by decide +kernel
theorem dX8_less_10 : decode cX8_less 10 = .ok (.iload 5, 2) := by decide +kernel
theorem dX8_less_12 : decode cX8_less 12 = .ok (.iload_n 3, 1) := by decide +kernel
theorem dX8_less_13 : decode cX8_less 13 = .ok (.if_icmp .ge 69, 3) := by decide +kernel
theorem dX8_less_16 : decode cX8_less 16 = .ok (.aload_n 0, 1) := by decide +kernel
theorem dX8_less_17 : decode cX8_less 17 = .ok (.getfield 12, 3) := by decide +kernel
theorem dX8_less_20 : decode cX8_less 20 = .ok (.iload_n 2, 1) := by decide +kernel
theorem dX8_less_21 : decode cX8_less 21 = .ok (.iconst 2, 1) := by decide +kernel
theorem dX8_less_22 : decode cX8_less 22 = .ok (.iload 5, 2) := by decide +kernel
theorem dX8_less_24 : decode cX8_less 24 = .ok (.imul, 1) := by decide +kernel
theorem dX8_less_25 : decode cX8_less 25 = .ok (.iadd, 1) := by decide +kernel
theorem dX8_less_26 : decode cX8_less 26 = .ok (.iload 4, 2) := by decide +kernel
theorem dX8_less_28 : decode cX8_less 28 = .ok (.iconst 1, 1) := by decide +kernel
theorem dX8_less_29 : decode cX8_less 29 = .ok (.if_icmp .le 17, 3) := by decide +kernel
theorem dX8_less_32 : decode cX8_less 32 = .ok (.aload_n 0, 1) := by decide +kernel
theorem dX8_less_33 : decode cX8_less 33 = .ok (.getfield 12, 3) := by decide +kernel
theorem dX8_less_36 : decode cX8_less 36 = .ok (.iload_n 2, 1) := by decide +kernel
theorem dX8_less_37 : decode cX8_less 37 = .ok (.iconst 2, 1) := by decide +kernel
theorem dX8_less_38 : decode cX8_less 38 = .ok (.iload 5, 2) := by decide +kernel
theorem dX8_less_40 : decode cX8_less 40 = .ok (.imul, 1) := by decide +kernel
theorem dX8_less_41 : decode cX8_less 41 = .ok (.iadd, 1) := by decide +kernel
theorem dX8_less_42 : decode cX8_less 42 = .ok (.iaload, 1) := by decide +kernel
theorem dX8_less_43 : decode cX8_less 43 = .ok (.ifCond .ne 18, 3) := by decide +kernel
theorem dX8_less_46 : decode cX8_less 46 = .ok (.aload_n 0, 1) := by decide +kernel
theorem dX8_less_47 : decode cX8_less 47 = .ok (.getfield 12, 3) := by decide +kernel
theorem dX8_less_50 : decode cX8_less 50 = .ok (.iload_n 2, 1) := by decide +kernel
theorem dX8_less_51 : decode cX8_less 51 = .ok (.iconst 2, 1) := by decide +kernel
theorem dX8_less_52 : decode cX8_less 52 = .ok (.iload 5, 2) := by decide +kernel
theorem dX8_less_54 : decode cX8_less 54 = .ok (.imul, 1) := by decide +kernel
theorem dX8_less_55 : decode cX8_less 55 = .ok (.iadd, 1) := by decide +kernel
theorem dX8_less_56 : decode cX8_less 56 = .ok (.iaload, 1) := by decide +kernel
theorem dX8_less_57 : decode cX8_less 57 = .ok (.ineg, 1) := by decide +kernel
theorem dX8_less_58 : decode cX8_less 58 = .ok (.goto 17, 3) := by decide +kernel
theorem dX8_less_61 : decode cX8_less 61 = .ok (.iload 4, 2) := by decide +kernel
theorem dX8_less_63 : decode cX8_less 63 = .ok (.aload_n 0, 1) := by decide +kernel
theorem dX8_less_64 : decode cX8_less 64 = .ok (.getfield 12, 3) := by decide +kernel
theorem dX8_less_67 : decode cX8_less 67 = .ok (.iload_n 2, 1) := by decide +kernel
theorem dX8_less_68 : decode cX8_less 68 = .ok (.iconst 2, 1) := by decide +kernel
theorem dX8_less_69 : decode cX8_less 69 = .ok (.iload 5, 2) := by decide +kernel
theorem dX8_less_71 : decode cX8_less 71 = .ok (.imul, 1) := by decide +kernel
theorem dX8_less_72 : decode cX8_less 72 = .ok (.iadd, 1) := by decide +kernel
theorem dX8_less_73 : decode cX8_less 73 = .ok (.iaload, 1) := by decide +kernel
theorem dX8_less_74 : decode cX8_less 74 = .ok (.isub, 1) := by decide +kernel
theorem dX8_less_75 : decode cX8_less 75 = .ok (.iastore, 1) := by decide +kernel
theorem dX8_less_76 : decode cX8_less 76 = .ok (.iinc 5 1, 3) := by decide +kernel
theorem dX8_less_79 : decode cX8_less 79 = .ok (.goto (-69), 3) := by decide +kernel
theorem dX8_less_82 : decode cX8_less 82 = .ok (.return_, 1) := by decide +kernel
/-! AlgebraHouse$Numbers.less(III)V -/
def P_X8_less_46 (Q : Int → MM → Prop) (K10 : Int → Int → Int → Int → MM → Prop) (x2 : Int) (x3 : Int) (x4 : Int) (x5 : Int) (s1 : Int) (m : MM) : Prop := (0 ≤ (x2 + (2 * x5)) ∧ (x2 + (2 * x5)) < 1159540) ∧ (0 ≤ s1 ∧ s1 < 1159540) ∧ ∀ m1 : MM, m1 = up m 379 s1 (-(m 379 (x2 + (2 * x5)))) → K10 x2 x3 x4 (x5 + 1) m1
def P_X8_less_10 (Q : Int → MM → Prop) : Nat → Int → Int → Int → Int → MM → Prop
  | 0, _, _, _, _, _ => False
  | n + 1, x2, x3, x4, x5, m => (RI x5) ∧ (RI x3) ∧ (if x3 ≤ x5 then Q 0 m else (RI x4) ∧ (if x4 ≤ 1 then P_X8_less_46 Q (fun z0 z1 z2 z3 z4 => P_X8_less_10 Q n z0 z1 z2 z3 z4) x2 x3 x4 x5 (x2 + (2 * x5)) m else (0 ≤ (x2 + (2 * x5)) ∧ (x2 + (2 * x5)) < 1159540) ∧ (RI (m 379 (x2 + (2 * x5)))) ∧ (if (m 379 (x2 + (2 * x5))) = 0 then P_X8_less_46 Q (fun z0 z1 z2 z3 z4 => P_X8_less_10 Q n z0 z1 z2 z3 z4) x2 x3 x4 x5 (x2 + (2 * x5)) m else ∀ m1 : MM, m1 = up m 379 (x2 + (2 * x5)) (x4 - (m 379 (x2 + (2 * x5)))) → P_X8_less_10 Q n x2 x3 x4 (x5 + 1) m1)))
def P_X8_less (x1 : Int) (x2 : Int) (x3 : Int) (m : MM) (Q : Int → MM → Prop) : Prop := P_X8_modulus x1 m (fun r1 m1 => ∃ nn, P_X8_less_10 Q nn x2 x3 r1 0 m1)
theorem pl_X8_less_46 {f : Nat} {Q : Int → MM → Prop} {T : MM → Prop} (hf : 2 ≤ f) {K10 : Int → Int → Int → Int → MM → Prop} (hK10 : ∀ (x2 : Int) (x3 : Int) (x4 : Int) (x5 : Int) (m : MM), K10 x2 x3 x4 x5 m → B f M_X8_less 10 [vR 378, vU, vI x2, vI x3, vI x4, vI x5] [] m Q T) : ∀ (x2 : Int) (x3 : Int) (x4 : Int) (x5 : Int) (s1 : Int) (m : MM), P_X8_less_46 Q K10 x2 x3 x4 x5 s1 m → B f M_X8_less 46 [vR 378, vU, vI x2, vI x3, vI x4, vI x5] [vI s1, vR 379] m Q T := by
  intro x2 x3 x4 x5 s1 m h
  have h : (0 ≤ (x2 + (2 * x5)) ∧ (x2 + (2 * x5)) < 1159540) ∧ (0 ≤ s1 ∧ s1 < 1159540) ∧ ∀ m1 : MM, m1 = up m 379 s1 (-(m 379 (x2 + (2 * x5)))) → K10 x2 x3 x4 (x5 + 1) m1 := h
  refine b_aload_n dX8_less_46 rfl ?_
  refine b_getR dX8_less_47 fk_X8_12 ly_378 gg_378_0 ?_
  refine b_iload_n dX8_less_50 rfl ?_
  refine b_iconst dX8_less_51 ?_
  refine b_iload dX8_less_52 rfl ?_
  refine b_imul dX8_less_54 ?_
  refine b_iadd dX8_less_55 ?_
  obtain ⟨g1, h⟩ := h
  refine b_iald dX8_less_56 ly_379 g1 ?_
  refine b_ineg dX8_less_57 ?_
  refine b_goto 75 dX8_less_58 (by decide) ?_
  obtain ⟨g2, h⟩ := h
  refine b_iast dX8_less_75 ly_379 g2 (fun m1 em1 => ?_)
  have h := h m1 em1
  refine b_iinc (ls' := [vR 378, vU, vI x2, vI x3, vI x4, vI (x5 + 1)]) dX8_less_76 rfl rfl ?_
  refine b_goto 10 dX8_less_79 (by decide) ?_
  exact hK10 _ _ _ _ _ h
theorem pl_X8_less_10 {f : Nat} {Q : Int → MM → Prop} {T : MM → Prop} (hf : 2 ≤ f) : ∀ (n : Nat) (x2 : Int) (x3 : Int) (x4 : Int) (x5 : Int) (m : MM), P_X8_less_10 Q n x2 x3 x4 x5 m → B f M_X8_less 10 [vR 378, vU, vI x2, vI x3, vI x4, vI x5] [] m Q T := by
  intro n
  induction n with
  | zero => intro x2 x3 x4 x5 m h; exact h.elim
  | succ n ih =>
    intro x2 x3 x4 x5 m h
    have h : (RI x5) ∧ (RI x3) ∧ (if x3 ≤ x5 then Q 0 m else (RI x4) ∧ (if x4 ≤ 1 then P_X8_less_46 Q (fun z0 z1 z2 z3 z4 => P_X8_less_10 Q n z0 z1 z2 z3 z4) x2 x3 x4 x5 (x2 + (2 * x5)) m else (0 ≤ (x2 + (2 * x5)) ∧ (x2 + (2 * x5)) < 1159540) ∧ (RI (m 379 (x2 + (2 * x5)))) ∧ (if (m 379 (x2 + (2 * x5))) = 0 then P_X8_less_46 Q (fun z0 z1 z2 z3 z4 => P_X8_less_10 Q n z0 z1 z2 z3 z4) x2 x3 x4 x5 (x2 + (2 * x5)) m else ∀ m1 : MM, m1 = up m 379 (x2 + (2 * x5)) (x4 - (m 379 (x2 + (2 * x5)))) → P_X8_less_10 Q n x2 x3 x4 (x5 + 1) m1))) := h
    refine b_iload dX8_less_10 rfl ?_
    refine b_iload_n dX8_less_12 rfl ?_
    obtain ⟨g1, h⟩ := h
    obtain ⟨g2, h⟩ := h
    refine b_icmp_ge 82 dX8_less_13 g1 g2 (by decide) (fun c1 => ?_) (fun c1 => ?_)
    · have h := ifT c1 h
      exact b_vret dX8_less_82 rfl h
    · have h := ifF c1 h
      refine b_aload_n dX8_less_16 rfl ?_
      refine b_getR dX8_less_17 fk_X8_12 ly_378 gg_378_0 ?_
      refine b_iload_n dX8_less_20 rfl ?_
      refine b_iconst dX8_less_21 ?_
      refine b_iload dX8_less_22 rfl ?_
      refine b_imul dX8_less_24 ?_
      refine b_iadd dX8_less_25 ?_
      refine b_iload dX8_less_26 rfl ?_
      refine b_iconst dX8_less_28 ?_
      obtain ⟨g3, h⟩ := h
      refine b_icmp_le 46 dX8_less_29 g3 (by decide) (by decide) (fun c2 => ?_) (fun c2 => ?_)
      · have h := ifT c2 h
        exact pl_X8_less_46 hf (fun _ _ _ _ _ h => ih _ _ _ _ _ h) _ _ _ _ _ _ h
      · have h := ifF c2 h
        refine b_aload_n dX8_less_32 rfl ?_
        refine b_getR dX8_less_33 fk_X8_12 ly_378 gg_378_0 ?_
        refine b_iload_n dX8_less_36 rfl ?_
        refine b_iconst dX8_less_37 ?_
        refine b_iload dX8_less_38 rfl ?_
        refine b_imul dX8_less_40 ?_
        refine b_iadd dX8_less_41 ?_
        obtain ⟨g4, h⟩ := h
        refine b_iald dX8_less_42 ly_379 g4 ?_
        obtain ⟨g5, h⟩ := h
        refine b_if_ne 61 dX8_less_43 g5 (by decide) (fun c3 => ?_) (fun c3 => ?_)
        · have h := ifF c3 h
          refine b_iload dX8_less_61 rfl ?_
          refine b_aload_n dX8_less_63 rfl ?_
          refine b_getR dX8_less_64 fk_X8_12 ly_378 gg_378_0 ?_
          refine b_iload_n dX8_less_67 rfl ?_
          refine b_iconst dX8_less_68 ?_
          refine b_iload dX8_less_69 rfl ?_
          refine b_imul dX8_less_71 ?_
          refine b_iadd dX8_less_72 ?_
          refine b_iald dX8_less_73 ly_379 g4 ?_
          refine b_isub dX8_less_74 ?_
          refine b_iast dX8_less_75 ly_379 g4 (fun m1 em1 => ?_)
          have h := h m1 em1
          refine b_iinc (ls' := [vR 378, vU, vI x2, vI x3, vI x4, vI (x5 + 1)]) dX8_less_76 rfl rfl ?_
          refine b_goto 10 dX8_less_79 (by decide) ?_
          exact ih _ _ _ _ _ h
        · have h := ifT (Decidable.of_not_not c3) h
          exact pl_X8_less_46 hf (fun _ _ _ _ _ h => ih _ _ _ _ _ h) _ _ _ _ _ _ h
theorem p_X8_less {f : Nat} {Q : Int → MM → Prop} {T : MM → Prop} (hf : 2 ≤ f) (x1 : Int) (x2 : Int) (x3 : Int) (m : MM) (h : P_X8_less x1 x2 x3 m Q) : CC f M_X8_less [vR 378, vI x1, vI x2, vI x3] m Q T := by
  refine CC.of (plainFor_of_name (by decide)) (Nat.le_of_ble_eq_true rfl) (ls := [vR 378, vI x1, vI x2, vI x3, vU, vU]) rfl ?_
  have h : P_X8_modulus x1 m (fun r1 m1 => ∃ nn, P_X8_less_10 Q nn x2 x3 r1 0 m1) := h
  refine b_aload_n dX8_less_0 rfl ?_
  refine b_iload_n dX8_less_1 rfl ?_
  refine b_cVi (as := [vI x1]) (st := []) dX8_less_2 mf_X8_modulus qs66 lk_X8_49 ly_378 rfl (p_X8_modulus (f := 1) (Nat.le_refl _) _ _ h) (by omega) rfl rfl (Nat.le_of_ble_eq_true rfl) (by decide) rfl (fun _ => rfl) (fun r1 m1 h => ?_) (fun _ h => h)
  refine b_istore (ls' := [vR 378, vI x1, vI x2, vI x3, vI r1, vU]) dX8_less_5 (Nat.le_of_ble_eq_true rfl) rfl ?_
  refine b_iconst dX8_less_7 ?_
  refine b_istore (ls' := [vR 378, vI x1, vI x2, vI x3, vI r1, vI 0]) dX8_less_8 (Nat.le_of_ble_eq_true rfl) rfl ?_
  refine b_fgt [true, false, true, true, true, true] (ls' := [vR 378, vU, vI x2, vI x3, vI r1, vI 0]) rfl rfl ?_
  obtain ⟨nn, h⟩ := h
  exact pl_X8_less_10 hf nn _ _ _ _ _ h
theorem dX8_inverse_0 : decode cX8_inverse 0 = .ok (.iload_n 0, 1) := by decide +kernel
theorem dX8_inverse_1 : decode cX8_inverse 1 = .ok (.istore_n 2, 1) := by decide +kernel
theorem dX8_inverse_2 : decode cX8_inverse 2 = .ok (.iload_n 1, 1) := by decide +kernel
theorem dX8_inverse_3 : decode cX8_inverse 3 = .ok (.istore_n 3, 1) := by decide +kernel
theorem dX8_inverse_4 : decode cX8_inverse 4 = .ok (.iconst 1, 1) := by decide +kernel
theorem dX8_inverse_5 : decode cX8_inverse 5 = .ok (.istore 4, 2) := by decide +kernel
theorem dX8_inverse_7 : decode cX8_inverse 7 = .ok (.iconst 0, 1) := by decide +kernel
theorem dX8_inverse_8 : decode cX8_inverse 8 = .ok (.istore 5, 2) := by decide +kernel
theorem dX8_inverse_10 : decode cX8_inverse 10 = .ok (.iload_n 3, 1) := by decide +kernel
theorem dX8_inverse_11 : decode cX8_inverse 11 = .ok (.ifCond .eq 42, 3) := by decide +kernel
theorem dX8_inverse_14 : decode cX8_inverse 14 = .ok (.iload_n 2, 1) := by decide +kernel
theorem dX8_inverse_15 : decode cX8_inverse 15 = .ok (.iload_n 3, 1) := by decide +kernel
theorem dX8_inverse_16 : decode cX8_inverse 16 = .ok (.idiv, 1) := by decide +kernel
theorem dX8_inverse_17 : decode cX8_inverse 17 = .ok (.istore 6, 2) := by decide +kernel
theorem dX8_inverse_19 : decode cX8_inverse 19 = .ok (.iload_n 2, 1) := by decide +kernel
theorem dX8_inverse_20 : decode cX8_inverse 20 = .ok (.iload 6, 2) := by decide +kernel
theorem dX8_inverse_22 : decode cX8_inverse 22 = .ok (.iload_n 3, 1) := by decide +kernel
theorem dX8_inverse_23 : decode cX8_inverse 23 = .ok (.imul, 1) := by decide +kernel
theorem dX8_inverse_24 : decode cX8_inverse 24 = .ok (.isub, 1) := by decide +kernel
theorem dX8_inverse_25 : decode cX8_inverse 25 = .ok (.istore 7, 2) := by decide +kernel
theorem dX8_inverse_27 : decode cX8_inverse 27 = .ok (.iload_n 3, 1) := by decide +kernel
theorem dX8_inverse_28 : decode cX8_inverse 28 = .ok (.istore_n 2, 1) := by decide +kernel
theorem dX8_inverse_29 : decode cX8_inverse 29 = .ok (.iload 7, 2) := by decide +kernel
theorem dX8_inverse_31 : decode cX8_inverse 31 = .ok (.istore_n 3, 1) := by decide +kernel
theorem dX8_inverse_32 : decode cX8_inverse 32 = .ok (.iload 4, 2) := by decide +kernel
theorem dX8_inverse_34 : decode cX8_inverse 34 = .ok (.iload 6, 2) := by decide +kernel
theorem dX8_inverse_36 : decode cX8_inverse 36 = .ok (.iload 5, 2) := by decide +kernel
theorem dX8_inverse_38 : decode cX8_inverse 38 = .ok (.imul, 1) := by decide +kernel
theorem dX8_inverse_39 : decode cX8_inverse 39 = .ok (.isub, 1) := by decide +kernel
theorem dX8_inverse_40 : decode cX8_inverse 40 = .ok (.istore 8, 2) := by decide +kernel
theorem dX8_inverse_42 : decode cX8_inverse 42 = .ok (.iload 5, 2) := by decide +kernel
theorem dX8_inverse_44 : decode cX8_inverse 44 = .ok (.istore 4, 2) := by decide +kernel
theorem dX8_inverse_46 : decode cX8_inverse 46 = .ok (.iload 8, 2) := by decide +kernel
theorem dX8_inverse_48 : decode cX8_inverse 48 = .ok (.istore 5, 2) := by decide +kernel
theorem dX8_inverse_50 : decode cX8_inverse 50 = .ok (.goto (-40), 3) := by decide +kernel
theorem dX8_inverse_53 : decode cX8_inverse 53 = .ok (.iload 4, 2) := by decide +kernel
theorem dX8_inverse_55 : decode cX8_inverse 55 = .ok (.iload_n 1, 1) := by decide +kernel
theorem dX8_inverse_56 : decode cX8_inverse 56 = .ok (.invokestatic 63, 3) := by decide +kernel
theorem dX8_inverse_59 : decode cX8_inverse 59 = .ok (.ireturn, 1) := by decide +kernel
/-! AlgebraHouse$Numbers.inverse(II)I -/
def P_X8_inverse_53 (Q : Int → MM → Prop) (x1 : Int) (x4 : Int) (m : MM) : Prop := P_J4_floorMod x4 x1 m (fun r1 m1 => Q r1 m1)
def P_X8_inverse_10 (Q : Int → MM → Prop) : Nat → Int → Int → Int → Int → Int → MM → Prop
  | 0, _, _, _, _, _, _ => False
  | n + 1, x1, x2, x3, x4, x5, m => (RI x3) ∧ (if x3 = 0 then P_X8_inverse_53 Q x1 x4 m else (RI x2) ∧ (x3 ≠ 0) ∧ P_X8_inverse_10 Q n x1 x3 (x2 - ((Int.tdiv x2 x3) * x3)) x5 (x4 - ((Int.tdiv x2 x3) * x5)) m)
def P_X8_inverse (x0 : Int) (x1 : Int) (m : MM) (Q : Int → MM → Prop) : Prop := ∃ nn, P_X8_inverse_10 Q nn x1 x0 x1 1 0 m
theorem pl_X8_inverse_53 {f : Nat} {Q : Int → MM → Prop} {T : MM → Prop} (hf : 2 ≤ f) : ∀ (x1 : Int) (x4 : Int) (m : MM), P_X8_inverse_53 Q x1 x4 m → B f M_X8_inverse 53 [vU, vI x1, vU, vU, vI x4, vU, vU, vU, vU] [] m Q T := by
  intro x1 x4 m h
  have h : P_J4_floorMod x4 x1 m (fun r1 m1 => Q r1 m1) := h
  refine b_iload dX8_inverse_53 rfl ?_
  refine b_iload_n dX8_inverse_55 rfl ?_
  refine b_cSi (as := [vI x4, vI x1]) (st := []) dX8_inverse_56 mf_J4_floorMod lk_X8_63 (p_J4_floorMod (f := 1) (Nat.le_refl _) _ _ _ h) (by omega) rfl rfl (Nat.le_of_ble_eq_true rfl) (by decide) rfl (fun _ => rfl) (fun r1 m1 h => ?_) (fun _ h => h)
  exact b_iret dX8_inverse_59 rfl h
theorem pl_X8_inverse_10 {f : Nat} {Q : Int → MM → Prop} {T : MM → Prop} (hf : 2 ≤ f) : ∀ (n : Nat) (x1 : Int) (x2 : Int) (x3 : Int) (x4 : Int) (x5 : Int) (m : MM), P_X8_inverse_10 Q n x1 x2 x3 x4 x5 m → B f M_X8_inverse 10 [vU, vI x1, vI x2, vI x3, vI x4, vI x5, vU, vU, vU] [] m Q T := by
  intro n
  induction n with
  | zero => intro x1 x2 x3 x4 x5 m h; exact h.elim
  | succ n ih =>
    intro x1 x2 x3 x4 x5 m h
    have h : (RI x3) ∧ (if x3 = 0 then P_X8_inverse_53 Q x1 x4 m else (RI x2) ∧ (x3 ≠ 0) ∧ P_X8_inverse_10 Q n x1 x3 (x2 - ((Int.tdiv x2 x3) * x3)) x5 (x4 - ((Int.tdiv x2 x3) * x5)) m) := h
    refine b_iload_n dX8_inverse_10 rfl ?_
    obtain ⟨g1, h⟩ := h
    refine b_if_eq 53 dX8_inverse_11 g1 (by decide) (fun c1 => ?_) (fun c1 => ?_)
    · have h := ifT c1 h
      refine b_fgt [false, true, false, false, true, false, false, false, false] (ls' := [vU, vI x1, vU, vU, vI x4, vU, vU, vU, vU]) rfl rfl ?_
      exact pl_X8_inverse_53 hf _ _ _ h
    · have h := ifF c1 h
      refine b_iload_n dX8_inverse_14 rfl ?_
      refine b_iload_n dX8_inverse_15 rfl ?_
      obtain ⟨g2, h⟩ := h
      obtain ⟨g3, h⟩ := h
      refine b_idiv dX8_inverse_16 g2 g1 g3 ?_
      refine b_istore (ls' := [vU, vI x1, vI x2, vI x3, vI x4, vI x5, vI (Int.tdiv x2 x3), vU, vU]) dX8_inverse_17 (Nat.le_of_ble_eq_true rfl) rfl ?_
      refine b_iload_n dX8_inverse_19 rfl ?_
      refine b_iload dX8_inverse_20 rfl ?_
      refine b_iload_n dX8_inverse_22 rfl ?_
      refine b_imul dX8_inverse_23 ?_
      refine b_isub dX8_inverse_24 ?_
      refine b_istore (ls' := [vU, vI x1, vI x2, vI x3, vI x4, vI x5, vI (Int.tdiv x2 x3), vI (x2 - ((Int.tdiv x2 x3) * x3)), vU]) dX8_inverse_25 (Nat.le_of_ble_eq_true rfl) rfl ?_
      refine b_iload_n dX8_inverse_27 rfl ?_
      refine b_istore_n (ls' := [vU, vI x1, vI x3, vI x3, vI x4, vI x5, vI (Int.tdiv x2 x3), vI (x2 - ((Int.tdiv x2 x3) * x3)), vU]) dX8_inverse_28 (Nat.le_of_ble_eq_true rfl) rfl ?_
      refine b_iload dX8_inverse_29 rfl ?_
      refine b_istore_n (ls' := [vU, vI x1, vI x3, vI (x2 - ((Int.tdiv x2 x3) * x3)), vI x4, vI x5, vI (Int.tdiv x2 x3), vI (x2 - ((Int.tdiv x2 x3) * x3)), vU]) dX8_inverse_31 (Nat.le_of_ble_eq_true rfl) rfl ?_
      refine b_iload dX8_inverse_32 rfl ?_
      refine b_iload dX8_inverse_34 rfl ?_
      refine b_iload dX8_inverse_36 rfl ?_
      refine b_imul dX8_inverse_38 ?_
      refine b_isub dX8_inverse_39 ?_
      refine b_istore (ls' := [vU, vI x1, vI x3, vI (x2 - ((Int.tdiv x2 x3) * x3)), vI x4, vI x5, vI (Int.tdiv x2 x3), vI (x2 - ((Int.tdiv x2 x3) * x3)), vI (x4 - ((Int.tdiv x2 x3) * x5))]) dX8_inverse_40 (Nat.le_of_ble_eq_true rfl) rfl ?_
      refine b_iload dX8_inverse_42 rfl ?_
      refine b_istore (ls' := [vU, vI x1, vI x3, vI (x2 - ((Int.tdiv x2 x3) * x3)), vI x5, vI x5, vI (Int.tdiv x2 x3), vI (x2 - ((Int.tdiv x2 x3) * x3)), vI (x4 - ((Int.tdiv x2 x3) * x5))]) dX8_inverse_44 (Nat.le_of_ble_eq_true rfl) rfl ?_
      refine b_iload dX8_inverse_46 rfl ?_
      refine b_istore (ls' := [vU, vI x1, vI x3, vI (x2 - ((Int.tdiv x2 x3) * x3)), vI x5, vI (x4 - ((Int.tdiv x2 x3) * x5)), vI (Int.tdiv x2 x3), vI (x2 - ((Int.tdiv x2 x3) * x3)), vI (x4 - ((Int.tdiv x2 x3) * x5))]) dX8_inverse_48 (Nat.le_of_ble_eq_true rfl) rfl ?_
      refine b_goto 10 dX8_inverse_50 (by decide) ?_
      refine b_fgt [false, true, true, true, true, true, false, false, false] (ls' := [vU, vI x1, vI x3, vI (x2 - ((Int.tdiv x2 x3) * x3)), vI x5, vI (x4 - ((Int.tdiv x2 x3) * x5)), vU, vU, vU]) rfl rfl ?_
      exact ih _ _ _ _ _ _ h
theorem p_X8_inverse {f : Nat} {Q : Int → MM → Prop} {T : MM → Prop} (hf : 2 ≤ f) (x0 : Int) (x1 : Int) (m : MM) (h : P_X8_inverse x0 x1 m Q) : CC f M_X8_inverse [vI x0, vI x1] m Q T := by
  refine CC.of (plainFor_of_name (by decide)) (Nat.le_of_ble_eq_true rfl) (ls := [vI x0, vI x1, vU, vU, vU, vU, vU, vU, vU]) rfl ?_
  have h : ∃ nn, P_X8_inverse_10 Q nn x1 x0 x1 1 0 m := h
  refine b_iload_n dX8_inverse_0 rfl ?_
  refine b_istore_n (ls' := [vI x0, vI x1, vI x0, vU, vU, vU, vU, vU, vU]) dX8_inverse_1 (Nat.le_of_ble_eq_true rfl) rfl ?_
  refine b_iload_n dX8_inverse_2 rfl ?_
  refine b_istore_n (ls' := [vI x0, vI x1, vI x0, vI x1, vU, vU, vU, vU, vU]) dX8_inverse_3 (Nat.le_of_ble_eq_true rfl) rfl ?_
  refine b_iconst dX8_inverse_4 ?_
  refine b_istore (ls' := [vI x0, vI x1, vI x0, vI x1, vI 1, vU, vU, vU, vU]) dX8_inverse_5 (Nat.le_of_ble_eq_true rfl) rfl ?_
  refine b_iconst dX8_inverse_7 ?_
  refine b_istore (ls' := [vI x0, vI x1, vI x0, vI x1, vI 1, vI 0, vU, vU, vU]) dX8_inverse_8 (Nat.le_of_ble_eq_true rfl) rfl ?_
  refine b_fgt [false, true, true, true, true, true, false, false, false] (ls' := [vU, vI x1, vI x0, vI x1, vI 1, vI 0, vU, vU, vU]) rfl rfl ?_
  obtain ⟨nn, h⟩ := h
  exact pl_X8_inverse_10 hf nn _ _ _ _ _ _ h
theorem dX8_by_0 : decode cX8_by 0 = .ok (.aload_n 0, 1) := by decide +kernel
theorem dX8_by_1 : decode cX8_by 1 = .ok (.iload_n 1, 1) := by decide +kernel
theorem dX8_by_2 : decode cX8_by 2 = .ok (.invokevirtual 49, 3) := by decide +kernel
theorem dX8_by_5 : decode cX8_by 5 = .ok (.istore 5, 2) := by decide +kernel
theorem dX8_by_7 : decode cX8_by 7 = .ok (.iload 5, 2) := by decide +kernel
theorem dX8_by_9 : decode cX8_by 9 = .ok (.iconst 1, 1) := by decide +kernel
theorem dX8_by_10 : decode cX8_by 10 = .ok (.if_icmp .gt 44, 3) := by decide +kernel
theorem dX8_by_13 : decode cX8_by 13 = .ok (.aload_n 0, 1) := by decide +kernel
theorem dX8_by_14 : decode cX8_by 14 = .ok (.iload 4, 2) := by decide +kernel
theorem dX8_by_16 : decode cX8_by 16 = .ok (.aload_n 0, 1) := by decide +kernel
theorem dX8_by_17 : decode cX8_by 17 = .ok (.getfield 12, 3) := by decide +kernel
theorem dX8_by_20 : decode cX8_by 20 = .ok (.iload_n 2, 1) := by decide +kernel
theorem dX8_by_21 : decode cX8_by 21 = .ok (.iaload, 1) := by decide +kernel
theorem dX8_by_22 : decode cX8_by 22 = .ok (.i2l, 1) := by decide +kernel
theorem dX8_by_23 : decode cX8_by 23 = .ok (.aload_n 0, 1) := by decide +kernel
theorem dX8_by_24 : decode cX8_by 24 = .ok (.getfield 12, 3) := by decide +kernel
theorem dX8_by_27 : decode cX8_by 27 = .ok (.iload_n 3, 1) := by decide +kernel
theorem dX8_by_28 : decode cX8_by 28 = .ok (.iconst 1, 1) := by decide +kernel
theorem dX8_by_29 : decode cX8_by 29 = .ok (.iadd, 1) := by decide +kernel
theorem dX8_by_30 : decode cX8_by 30 = .ok (.iaload, 1) := by decide +kernel
theorem dX8_by_31 : decode cX8_by 31 = .ok (.i2l, 1) := by decide +kernel
theorem dX8_by_32 : decode cX8_by 32 = .ok (.lmul, 1) := by decide +kernel
theorem dX8_by_33 : decode cX8_by 33 = .ok (.aload_n 0, 1) := by decide +kernel
theorem dX8_by_34 : decode cX8_by 34 = .ok (.getfield 12, 3) := by decide +kernel
theorem dX8_by_37 : decode cX8_by 37 = .ok (.iload_n 2, 1) := by decide +kernel
theorem dX8_by_38 : decode cX8_by 38 = .ok (.iconst 1, 1) := by decide +kernel
theorem dX8_by_39 : decode cX8_by 39 = .ok (.iadd, 1) := by decide +kernel
theorem dX8_by_40 : decode cX8_by 40 = .ok (.iaload, 1) := by decide +kernel
theorem dX8_by_41 : decode cX8_by 41 = .ok (.i2l, 1) := by decide +kernel
theorem dX8_by_42 : decode cX8_by 42 = .ok (.aload_n 0, 1) := by decide +kernel
theorem dX8_by_43 : decode cX8_by 43 = .ok (.getfield 12, 3) := by decide +kernel
theorem dX8_by_46 : decode cX8_by 46 = .ok (.iload_n 3, 1) := by decide +kernel
theorem dX8_by_47 : decode cX8_by 47 = .ok (.iaload, 1) := by decide +kernel
theorem dX8_by_48 : decode cX8_by 48 = .ok (.i2l, 1) := by decide +kernel
theorem dX8_by_49 : decode cX8_by 49 = .ok (.lmul, 1) := by decide +kernel
theorem dX8_by_50 : decode cX8_by 50 = .ok (.invokevirtual 53, 3) := by decide +kernel
theorem dX8_by_53 : decode cX8_by 53 = .ok (.return_, 1) := by decide +kernel
theorem dX8_by_54 : decode cX8_by 54 = .ok (.aload_n 0, 1) := by decide +kernel
theorem dX8_by_55 : decode cX8_by 55 = .ok (.iload 4, 2) := by decide +kernel
theorem dX8_by_57 : decode cX8_by 57 = .ok (.aload_n 0, 1) := by decide +kernel
theorem dX8_by_58 : decode cX8_by 58 = .ok (.getfield 12, 3) := by decide +kernel
theorem dX8_by_61 : decode cX8_by 61 = .ok (.iload_n 2, 1) := by decide +kernel
theorem dX8_by_62 : decode cX8_by 62 = .ok (.iaload, 1) := by decide +kernel
theorem dX8_by_63 : decode cX8_by 63 = .ok (.i2l, 1) := by decide +kernel
theorem dX8_by_64 : decode cX8_by 64 = .ok (.aload_n 0, 1) := by decide +kernel
theorem dX8_by_65 : decode cX8_by 65 = .ok (.getfield 12, 3) := by decide +kernel
theorem dX8_by_68 : decode cX8_by 68 = .ok (.iload_n 3, 1) := by decide +kernel
theorem dX8_by_69 : decode cX8_by 69 = .ok (.iaload, 1) := by decide +kernel
theorem dX8_by_70 : decode cX8_by 70 = .ok (.iload 5, 2) := by decide +kernel
theorem dX8_by_72 : decode cX8_by 72 = .ok (.invokestatic 59, 3) := by decide +kernel
theorem dX8_by_75 : decode cX8_by 75 = .ok (.i2l, 1) := by decide +kernel
theorem dX8_by_76 : decode cX8_by 76 = .ok (.lmul, 1) := by decide +kernel
theorem dX8_by_77 : decode cX8_by 77 = .ok (.iload 5, 2) := by decide +kernel
theorem dX8_by_79 : decode cX8_by 79 = .ok (.i2l, 1) := by decide +kernel
theorem dX8_by_80 : decode cX8_by 80 = .ok (.lrem, 1) := by decide +kernel
theorem dX8_by_81 : decode cX8_by 81 = .ok (.lconst 1, 1) := by decide +kernel
theorem dX8_by_82 : decode cX8_by 82 = .ok (.invokevirtual 39, 3) := by decide +kernel
theorem dX8_by_85 : decode cX8_by 85 = .ok (.return_, 1) := by decide +kernel
/-! AlgebraHouse$Numbers.by(IIII)V -/
def P_X8_by (x1 : Int) (x2 : Int) (x3 : Int) (x4 : Int) (m : MM) (Q : Int → MM → Prop) : Prop := P_X8_modulus x1 m (fun r1 m1 => (RI r1) ∧ (if 1 < r1 then (0 ≤ x2 ∧ x2 < 1159540) ∧ (RI (m1 379 x2)) ∧ (0 ≤ x3 ∧ x3 < 1159540) ∧ P_X8_inverse (m1 379 x3) r1 m1 (fun r2 m2 => (RI r2) ∧ (RL ((m1 379 x2) * r2)) ∧ (RL r1) ∧ (r1 ≠ 0) ∧ P_X8_put x4 (Int.tmod ((m1 379 x2) * r2) r1) 1 m2 (fun r3 m3 => Q 0 m3)) else (0 ≤ x2 ∧ x2 < 1159540) ∧ (RI (m1 379 x2)) ∧ (0 ≤ (x3 + 1) ∧ (x3 + 1) < 1159540) ∧ (RI (m1 379 (x3 + 1))) ∧ (0 ≤ (x2 + 1) ∧ (x2 + 1) < 1159540) ∧ (RI (m1 379 (x2 + 1))) ∧ (0 ≤ x3 ∧ x3 < 1159540) ∧ (RI (m1 379 x3)) ∧ P_X8_least x4 ((m1 379 x2) * (m1 379 (x3 + 1))) ((m1 379 (x2 + 1)) * (m1 379 x3)) m1 (fun r4 m4 => Q 0 m4)))
theorem p_X8_by {f : Nat} {Q : Int → MM → Prop} {T : MM → Prop} (hf : 4 ≤ f) (x1 : Int) (x2 : Int) (x3 : Int) (x4 : Int) (m : MM) (h : P_X8_by x1 x2 x3 x4 m Q) : CC f M_X8_by [vR 378, vI x1, vI x2, vI x3, vI x4] m Q T := by
  refine CC.of (plainFor_of_name (by decide)) (Nat.le_of_ble_eq_true rfl) (ls := [vR 378, vI x1, vI x2, vI x3, vI x4, vU]) rfl ?_
  have h : P_X8_modulus x1 m (fun r1 m1 => (RI r1) ∧ (if 1 < r1 then (0 ≤ x2 ∧ x2 < 1159540) ∧ (RI (m1 379 x2)) ∧ (0 ≤ x3 ∧ x3 < 1159540) ∧ P_X8_inverse (m1 379 x3) r1 m1 (fun r2 m2 => (RI r2) ∧ (RL ((m1 379 x2) * r2)) ∧ (RL r1) ∧ (r1 ≠ 0) ∧ P_X8_put x4 (Int.tmod ((m1 379 x2) * r2) r1) 1 m2 (fun r3 m3 => Q 0 m3)) else (0 ≤ x2 ∧ x2 < 1159540) ∧ (RI (m1 379 x2)) ∧ (0 ≤ (x3 + 1) ∧ (x3 + 1) < 1159540) ∧ (RI (m1 379 (x3 + 1))) ∧ (0 ≤ (x2 + 1) ∧ (x2 + 1) < 1159540) ∧ (RI (m1 379 (x2 + 1))) ∧ (0 ≤ x3 ∧ x3 < 1159540) ∧ (RI (m1 379 x3)) ∧ P_X8_least x4 ((m1 379 x2) * (m1 379 (x3 + 1))) ((m1 379 (x2 + 1)) * (m1 379 x3)) m1 (fun r4 m4 => Q 0 m4))) := h
  refine b_aload_n dX8_by_0 rfl ?_
  refine b_iload_n dX8_by_1 rfl ?_
  refine b_cVi (as := [vI x1]) (st := []) dX8_by_2 mf_X8_modulus qs66 lk_X8_49 ly_378 rfl (p_X8_modulus (f := 1) (Nat.le_refl _) _ _ h) (by omega) rfl rfl (Nat.le_of_ble_eq_true rfl) (by decide) rfl (fun _ => rfl) (fun r1 m1 h => ?_) (fun _ h => h)
  refine b_istore (ls' := [vR 378, vI x1, vI x2, vI x3, vI x4, vI r1]) dX8_by_5 (Nat.le_of_ble_eq_true rfl) rfl ?_
  refine b_iload dX8_by_7 rfl ?_
  refine b_iconst dX8_by_9 ?_
  obtain ⟨g1, h⟩ := h
  refine b_icmp_gt 54 dX8_by_10 g1 (by decide) (by decide) (fun c1 => ?_) (fun c1 => ?_)
  · have h := ifT c1 h
    refine b_aload_n dX8_by_54 rfl ?_
    refine b_iload dX8_by_55 rfl ?_
    refine b_aload_n dX8_by_57 rfl ?_
    refine b_getR dX8_by_58 fk_X8_12 ly_378 gg_378_0 ?_
    refine b_iload_n dX8_by_61 rfl ?_
    obtain ⟨g2, h⟩ := h
    refine b_iald dX8_by_62 ly_379 g2 ?_
    obtain ⟨g3, h⟩ := h
    refine b_i2l dX8_by_63 g3 ?_
    refine b_aload_n dX8_by_64 rfl ?_
    refine b_getR dX8_by_65 fk_X8_12 ly_378 gg_378_0 ?_
    refine b_iload_n dX8_by_68 rfl ?_
    obtain ⟨g4, h⟩ := h
    refine b_iald dX8_by_69 ly_379 g4 ?_
    refine b_iload dX8_by_70 rfl ?_
    refine b_cSi (as := [vI (m1 379 x3), vI r1]) (st := [vL (m1 379 x2), vI x4, vR 378]) dX8_by_72 mf_X8_inverse lk_X8_59 (p_X8_inverse (f := 2) (Nat.le_refl _) _ _ _ h) (by omega) rfl rfl (Nat.le_of_ble_eq_true rfl) (by decide) rfl (fun _ => rfl) (fun r2 m2 h => ?_) (fun _ h => h)
    obtain ⟨g5, h⟩ := h
    refine b_i2l dX8_by_75 g5 ?_
    refine b_lmul dX8_by_76 ?_
    refine b_iload dX8_by_77 rfl ?_
    refine b_i2l dX8_by_79 g1 ?_
    obtain ⟨g6, h⟩ := h
    obtain ⟨g7, h⟩ := h
    obtain ⟨g8, h⟩ := h
    refine b_lrem dX8_by_80 g6 g7 g8 ?_
    refine b_lconst 1 dX8_by_81 (by decide) ?_
    refine b_cVv (as := [vI x4, vL (Int.tmod ((m1 379 x2) * r2) r1), vL 1]) (st := []) dX8_by_82 mf_X8_put qs71 lk_X8_39 ly_378 rfl (p_X8_put (f := 1) (Nat.le_refl _) _ _ _ _ h) (by omega) rfl rfl (Nat.le_of_ble_eq_true rfl) (by decide) rfl (fun _ => rfl) (fun r3 m3 h => ?_) (fun _ h => h)
    exact b_vret dX8_by_85 rfl h
  · have h := ifF c1 h
    refine b_aload_n dX8_by_13 rfl ?_
    refine b_iload dX8_by_14 rfl ?_
    refine b_aload_n dX8_by_16 rfl ?_
    refine b_getR dX8_by_17 fk_X8_12 ly_378 gg_378_0 ?_
    refine b_iload_n dX8_by_20 rfl ?_
    obtain ⟨g9, h⟩ := h
    refine b_iald dX8_by_21 ly_379 g9 ?_
    obtain ⟨g10, h⟩ := h
    refine b_i2l dX8_by_22 g10 ?_
    refine b_aload_n dX8_by_23 rfl ?_
    refine b_getR dX8_by_24 fk_X8_12 ly_378 gg_378_0 ?_
    refine b_iload_n dX8_by_27 rfl ?_
    refine b_iconst dX8_by_28 ?_
    refine b_iadd dX8_by_29 ?_
    obtain ⟨g11, h⟩ := h
    refine b_iald dX8_by_30 ly_379 g11 ?_
    obtain ⟨g12, h⟩ := h
    refine b_i2l dX8_by_31 g12 ?_
    refine b_lmul dX8_by_32 ?_
    refine b_aload_n dX8_by_33 rfl ?_
    refine b_getR dX8_by_34 fk_X8_12 ly_378 gg_378_0 ?_
    refine b_iload_n dX8_by_37 rfl ?_
    refine b_iconst dX8_by_38 ?_
    refine b_iadd dX8_by_39 ?_
    obtain ⟨g13, h⟩ := h
    refine b_iald dX8_by_40 ly_379 g13 ?_
    obtain ⟨g14, h⟩ := h
    refine b_i2l dX8_by_41 g14 ?_
    refine b_aload_n dX8_by_42 rfl ?_
    refine b_getR dX8_by_43 fk_X8_12 ly_378 gg_378_0 ?_
    refine b_iload_n dX8_by_46 rfl ?_
    obtain ⟨g15, h⟩ := h
    refine b_iald dX8_by_47 ly_379 g15 ?_
    obtain ⟨g16, h⟩ := h
    refine b_i2l dX8_by_48 g16 ?_
    refine b_lmul dX8_by_49 ?_
    refine b_cVv (as := [vI x4, vL ((m1 379 x2) * (m1 379 (x3 + 1))), vL ((m1 379 (x2 + 1)) * (m1 379 x3))]) (st := []) dX8_by_50 mf_X8_least qs72 lk_X8_53 ly_378 rfl (p_X8_least (f := 3) (Nat.le_refl _) _ _ _ _ h) (by omega) rfl rfl (Nat.le_of_ble_eq_true rfl) (by decide) rfl (fun _ => rfl) (fun r4 m4 h => ?_) (fun _ h => h)
    exact b_vret dX8_by_53 rfl h
theorem dX8_degree_0 : decode cX8_degree 0 = .ok (.bipush 6, 2) := by decide +kernel
theorem dX8_degree_2 : decode cX8_degree 2 = .ok (.istore_n 2, 1) := by decide +kernel
theorem dX8_degree_3 : decode cX8_degree 3 = .ok (.iload_n 2, 1) := by decide +kernel
theorem dX8_degree_4 : decode cX8_degree 4 = .ok (.ifCond .lt 22, 3) := by decide +kernel
theorem dX8_degree_7 : decode cX8_degree 7 = .ok (.aload_n 0, 1) := by decide +kernel
theorem dX8_degree_8 : decode cX8_degree 8 = .ok (.getfield 12, 3) := by decide +kernel
theorem dX8_degree_11 : decode cX8_degree 11 = .ok (.iload_n 1, 1) := by decide +kernel
theorem dX8_degree_12 : decode cX8_degree 12 = .ok (.iconst 2, 1) := by decide +kernel
theorem dX8_degree_13 : decode cX8_degree 13 = .ok (.iload_n 2, 1) := by decide +kernel
theorem dX8_degree_14 : decode cX8_degree 14 = .ok (.imul, 1) := by decide +kernel
theorem dX8_degree_15 : decode cX8_degree 15 = .ok (.iadd, 1) := by decide +kernel
theorem dX8_degree_16 : decode cX8_degree 16 = .ok (.iaload, 1) := by decide +kernel
theorem dX8_degree_17 : decode cX8_degree 17 = .ok (.ifCond .ne 9, 3) := by decide +kernel
theorem dX8_degree_20 : decode cX8_degree 20 = .ok (.iinc 2 (-1), 3) := by decide +kernel
theorem dX8_degree_23 : decode cX8_degree 23 = .ok (.goto (-20), 3) := by decide +kernel
theorem dX8_degree_26 : decode cX8_degree 26 = .ok (.iload_n 2, 1) := by decide +kernel
theorem dX8_degree_27 : decode cX8_degree 27 = .ok (.ireturn, 1) := by decide +kernel
/-! AlgebraHouse$Numbers.degree(I)I -/
def P_X8_degree_3 (Q : Int → MM → Prop) : Nat → Int → Int → MM → Prop
  | 0, _, _, _ => False
  | n + 1, x1, x2, m => (RI x2) ∧ (if x2 < 0 then Q x2 m else (0 ≤ (x1 + (2 * x2)) ∧ (x1 + (2 * x2)) < 1159540) ∧ (RI (m 379 (x1 + (2 * x2)))) ∧ (if (m 379 (x1 + (2 * x2))) = 0 then P_X8_degree_3 Q n x1 (x2 + (-1)) m else Q x2 m))
def P_X8_degree (x1 : Int) (m : MM) (Q : Int → MM → Prop) : Prop := ∃ nn, P_X8_degree_3 Q nn x1 6 m
theorem pl_X8_degree_3 {f : Nat} {Q : Int → MM → Prop} {T : MM → Prop} (hf : 1 ≤ f) : ∀ (n : Nat) (x1 : Int) (x2 : Int) (m : MM), P_X8_degree_3 Q n x1 x2 m → B f M_X8_degree 3 [vR 378, vI x1, vI x2] [] m Q T := by
  intro n
  induction n with
  | zero => intro x1 x2 m h; exact h.elim
  | succ n ih =>
    intro x1 x2 m h
    have h : (RI x2) ∧ (if x2 < 0 then Q x2 m else (0 ≤ (x1 + (2 * x2)) ∧ (x1 + (2 * x2)) < 1159540) ∧ (RI (m 379 (x1 + (2 * x2)))) ∧ (if (m 379 (x1 + (2 * x2))) = 0 then P_X8_degree_3 Q n x1 (x2 + (-1)) m else Q x2 m)) := h
    refine b_iload_n dX8_degree_3 rfl ?_
    obtain ⟨g1, h⟩ := h
    refine b_if_lt 26 dX8_degree_4 g1 (by decide) (fun c1 => ?_) (fun c1 => ?_)
    · have h := ifT c1 h
      refine b_iload_n dX8_degree_26 rfl ?_
      exact b_iret dX8_degree_27 rfl h
    · have h := ifF c1 h
      refine b_aload_n dX8_degree_7 rfl ?_
      refine b_getR dX8_degree_8 fk_X8_12 ly_378 gg_378_0 ?_
      refine b_iload_n dX8_degree_11 rfl ?_
      refine b_iconst dX8_degree_12 ?_
      refine b_iload_n dX8_degree_13 rfl ?_
      refine b_imul dX8_degree_14 ?_
      refine b_iadd dX8_degree_15 ?_
      obtain ⟨g2, h⟩ := h
      refine b_iald dX8_degree_16 ly_379 g2 ?_
      obtain ⟨g3, h⟩ := h
      refine b_if_ne 26 dX8_degree_17 g3 (by decide) (fun c2 => ?_) (fun c2 => ?_)
      · have h := ifF c2 h
        refine b_iload_n dX8_degree_26 rfl ?_
        exact b_iret dX8_degree_27 rfl h
      · have h := ifT (Decidable.of_not_not c2) h
        refine b_iinc (ls' := [vR 378, vI x1, vI (x2 + (-1))]) dX8_degree_20 rfl rfl ?_
        refine b_goto 3 dX8_degree_23 (by decide) ?_
        exact ih _ _ _ h
theorem p_X8_degree {f : Nat} {Q : Int → MM → Prop} {T : MM → Prop} (hf : 1 ≤ f) (x1 : Int) (m : MM) (h : P_X8_degree x1 m Q) : CC f M_X8_degree [vR 378, vI x1] m Q T := by
  refine CC.of (plainFor_of_name (by decide)) (Nat.le_of_ble_eq_true rfl) (ls := [vR 378, vI x1, vU]) rfl ?_
  have h : ∃ nn, P_X8_degree_3 Q nn x1 6 m := h
  refine b_bipush dX8_degree_0 (by decide) ?_
  refine b_istore_n (ls' := [vR 378, vI x1, vI 6]) dX8_degree_2 (Nat.le_of_ble_eq_true rfl) rfl ?_
  obtain ⟨nn, h⟩ := h
  exact pl_X8_degree_3 hf nn _ _ _ h
theorem dX8_divide_0 : decode cX8_divide 0 = .ok (.aload_n 0, 1) := by decide +kernel
theorem dX8_divide_1 : decode cX8_divide 1 = .ok (.iload_n 2, 1) := by decide +kernel
theorem dX8_divide_2 : decode cX8_divide 2 = .ok (.ldc 146, 2) := by decide +kernel
theorem dX8_divide_4 : decode cX8_divide 4 = .ok (.bipush 7, 2) := by decide +kernel
theorem dX8_divide_6 : decode cX8_divide 6 = .ok (.invokevirtual 81, 3) := by decide +kernel
theorem dX8_divide_9 : decode cX8_divide 9 = .ok (.aload_n 0, 1) := by decide +kernel
theorem dX8_divide_10 : decode cX8_divide 10 = .ok (.ldc 147, 2) := by decide +kernel
theorem dX8_divide_12 : decode cX8_divide 12 = .ok (.bipush 7, 2) := by decide +kernel
theorem dX8_divide_14 : decode cX8_divide 14 = .ok (.invokevirtual 122, 3) := by decide +kernel
theorem dX8_divide_17 : decode cX8_divide 17 = .ok (.aload_n 0, 1) := by decide +kernel
theorem dX8_divide_18 : decode cX8_divide 18 = .ok (.iload_n 3, 1) := by decide +kernel
theorem dX8_divide_19 : decode cX8_divide 19 = .ok (.invokevirtual 148, 3) := by decide +kernel
theorem dX8_divide_22 : decode cX8_divide 22 = .ok (.istore 4, 2) := by decide +kernel
theorem dX8_divide_24 : decode cX8_divide 24 = .ok (.iload 4, 2) := by decide +kernel
theorem dX8_divide_26 : decode cX8_divide 26 = .ok (.ifCond .ge 9, 3) := by decide +kernel
theorem dX8_divide_29 : decode cX8_divide 29 = .ok (.aload_n 0, 1) := by decide +kernel
theorem dX8_divide_30 : decode cX8_divide 30 = .ok (.iconst 2, 1) := by decide +kernel
theorem dX8_divide_31 : decode cX8_divide 31 = .ok (.putfield 26, 3) := by decide +kernel
theorem dX8_divide_34 : decode cX8_divide 34 = .ok (.return_, 1) := by decide +kernel
theorem dX8_divide_35 : decode cX8_divide 35 = .ok (.aload_n 0, 1) := by decide +kernel
theorem dX8_divide_36 : decode cX8_divide 36 = .ok (.ldc 146, 2) := by decide +kernel
theorem dX8_divide_38 : decode cX8_divide 38 = .ok (.invokevirtual 148, 3) := by decide +kernel
theorem dX8_divide_41 : decode cX8_divide 41 = .ok (.iload 4, 2) := by decide +kernel
theorem dX8_divide_43 : decode cX8_divide 43 = .ok (.isub, 1) := by decide +kernel
theorem dX8_divide_44 : decode cX8_divide 44 = .ok (.istore 5, 2) := by decide +kernel
theorem dX8_divide_46 : decode cX8_divide 46 = .ok (.iload 5, 2) := by decide +kernel
theorem dX8_divide_48 : decode cX8_divide 48 = .ok (.ifCond .lt 130, 3) := by decide +kernel
theorem dX8_divide_51 : decode cX8_divide 51 = .ok (.aload_n 0, 1) := by decide +kernel
theorem dX8_divide_52 : decode cX8_divide 52 = .ok (.getfield 26, 3) := by decide +kernel
theorem dX8_divide_55 : decode cX8_divide 55 = .ok (.ifCond .ne 123, 3) := by decide +kernel
theorem dX8_divide_58 : decode cX8_divide 58 = .ok (.aload_n 0, 1) := by decide +kernel
theorem dX8_divide_59 : decode cX8_divide 59 = .ok (.iload_n 1, 1) := by decide +kernel
theorem dX8_divide_60 : decode cX8_divide 60 = .ok (.ldc 146, 2) := by decide +kernel
theorem dX8_divide_62 : decode cX8_divide 62 = .ok (.iconst 2, 1) := by decide +kernel
theorem dX8_divide_63 : decode cX8_divide 63 = .ok (.iload 5, 2) := by decide +kernel
theorem dX8_divide_65 : decode cX8_divide 65 = .ok (.iload 4, 2) := by decide +kernel
theorem dX8_divide_67 : decode cX8_divide 67 = .ok (.iadd, 1) := by decide +kernel
theorem dX8_divide_68 : decode cX8_divide 68 = .ok (.imul, 1) := by decide +kernel
theorem dX8_divide_69 : decode cX8_divide 69 = .ok (.iadd, 1) := by decide +kernel
theorem dX8_divide_70 : decode cX8_divide 70 = .ok (.iload_n 3, 1) := by decide +kernel
theorem dX8_divide_71 : decode cX8_divide 71 = .ok (.iconst 2, 1) := by decide +kernel
theorem dX8_divide_72 : decode cX8_divide 72 = .ok (.iload 4, 2) := by decide +kernel
theorem dX8_divide_74 : decode cX8_divide 74 = .ok (.imul, 1) := by decide +kernel
theorem dX8_divide_75 : decode cX8_divide 75 = .ok (.iadd, 1) := by decide +kernel
theorem dX8_divide_76 : decode cX8_divide 76 = .ok (.ldc 147, 2) := by decide +kernel
theorem dX8_divide_78 : decode cX8_divide 78 = .ok (.iconst 2, 1) := by decide +kernel
theorem dX8_divide_79 : decode cX8_divide 79 = .ok (.iload 5, 2) := by decide +kernel
theorem dX8_divide_81 : decode cX8_divide 81 = .ok (.imul, 1) := by decide +kernel
theorem dX8_divide_82 : decode cX8_divide 82 = .ok (.iadd, 1) := by decide +kernel
theorem dX8_divide_83 : decode cX8_divide 83 = .ok (.invokevirtual 151, 3) := by decide +kernel
theorem dX8_divide_86 : decode cX8_divide 86 = .ok (.iconst 0, 1) := by decide +kernel
theorem dX8_divide_87 : decode cX8_divide 87 = .ok (.istore 6, 2) := by decide +kernel
theorem dX8_divide_89 : decode cX8_divide 89 = .ok (.iload 6, 2) := by decide +kernel
theorem dX8_divide_91 : decode cX8_divide 91 = .ok (.iload 4, 2) := by decide +kernel
theorem dX8_divide_93 : decode cX8_divide 93 = .ok (.if_icmp .gt 71, 3) := by decide +kernel
theorem dX8_divide_96 : decode cX8_divide 96 = .ok (.aload_n 0, 1) := by decide +kernel
theorem dX8_divide_97 : decode cX8_divide 97 = .ok (.getfield 26, 3) := by decide +kernel
theorem dX8_divide_100 : decode cX8_divide 100 = .ok (.ifCond .ne 64, 3) := by decide +kernel
theorem dX8_divide_103 : decode cX8_divide 103 = .ok (.aload_n 0, 1) := by decide +kernel
theorem dX8_divide_104 : decode cX8_divide 104 = .ok (.iload_n 1, 1) := by decide +kernel
theorem dX8_divide_105 : decode cX8_divide 105 = .ok (.ldc 147, 2) := by decide +kernel
theorem dX8_divide_107 : decode cX8_divide 107 = .ok (.iconst 2, 1) := by decide +kernel
theorem dX8_divide_108 : decode cX8_divide 108 = .ok (.iload 5, 2) := by decide +kernel
theorem dX8_divide_110 : decode cX8_divide 110 = .ok (.imul, 1) := by decide +kernel
theorem dX8_divide_111 : decode cX8_divide 111 = .ok (.iadd, 1) := by decide +kernel
theorem dX8_divide_112 : decode cX8_divide 112 = .ok (.iload_n 3, 1) := by decide +kernel
theorem dX8_divide_113 : decode cX8_divide 113 = .ok (.iconst 2, 1) := by decide +kernel
theorem dX8_divide_114 : decode cX8_divide 114 = .ok (.iload 6, 2) := by decide +kernel
theorem dX8_divide_116 : decode cX8_divide 116 = .ok (.imul, 1) := by decide +kernel
theorem dX8_divide_117 : decode cX8_divide 117 = .ok (.iadd, 1) := by decide +kernel
theorem dX8_divide_118 : decode cX8_divide 118 = .ok (.ldc 75, 2) := by decide +kernel
theorem dX8_divide_120 : decode cX8_divide 120 = .ok (.invokevirtual 77, 3) := by decide +kernel
theorem dX8_divide_123 : decode cX8_divide 123 = .ok (.aload_n 0, 1) := by decide +kernel
theorem dX8_divide_124 : decode cX8_divide 124 = .ok (.getfield 26, 3) := by decide +kernel
theorem dX8_divide_127 : decode cX8_divide 127 = .ok (.ifCond .ne 31, 3) := by decide +kernel
theorem dX8_divide_130 : decode cX8_divide 130 = .ok (.aload_n 0, 1) := by decide +kernel
theorem dX8_divide_131 : decode cX8_divide 131 = .ok (.iload_n 1, 1) := by decide +kernel
theorem dX8_divide_132 : decode cX8_divide 132 = .ok (.ldc 146, 2) := by decide +kernel
theorem dX8_divide_134 : decode cX8_divide 134 = .ok (.iconst 2, 1) := by decide +kernel
theorem dX8_divide_135 : decode cX8_divide 135 = .ok (.iload 6, 2) := by decide +kernel
theorem dX8_divide_137 : decode cX8_divide 137 = .ok (.iload 5, 2) := by decide +kernel
theorem dX8_divide_139 : decode cX8_divide 139 = .ok (.iadd, 1) := by decide +kernel
theorem dX8_divide_140 : decode cX8_divide 140 = .ok (.imul, 1) := by decide +kernel
theorem dX8_divide_141 : decode cX8_divide 141 = .ok (.iadd, 1) := by decide +kernel
theorem dX8_divide_142 : decode cX8_divide 142 = .ok (.ldc 75, 2) := by decide +kernel
theorem dX8_divide_144 : decode cX8_divide 144 = .ok (.ldc 146, 2) := by decide +kernel
theorem dX8_divide_146 : decode cX8_divide 146 = .ok (.iconst 2, 1) := by decide +kernel
theorem dX8_divide_147 : decode cX8_divide 147 = .ok (.iload 6, 2) := by decide +kernel
theorem dX8_divide_149 : decode cX8_divide 149 = .ok (.iload 5, 2) := by decide +kernel
theorem dX8_divide_151 : decode cX8_divide 151 = .ok (.iadd, 1) := by decide +kernel
theorem dX8_divide_152 : decode cX8_divide 152 = .ok (.imul, 1) := by decide +kernel
theorem dX8_divide_153 : decode cX8_divide 153 = .ok (.iadd, 1) := by decide +kernel
theorem dX8_divide_154 : decode cX8_divide 154 = .ok (.iconst 1, 1) := by decide +kernel
theorem dX8_divide_155 : decode cX8_divide 155 = .ok (.invokevirtual 65, 3) := by decide +kernel
theorem dX8_divide_158 : decode cX8_divide 158 = .ok (.iinc 6 1, 3) := by decide +kernel
theorem dX8_divide_161 : decode cX8_divide 161 = .ok (.goto (-72), 3) := by decide +kernel
theorem dX8_divide_164 : decode cX8_divide 164 = .ok (.aload_n 0, 1) := by decide +kernel
theorem dX8_divide_165 : decode cX8_divide 165 = .ok (.ldc 146, 2) := by decide +kernel
theorem dX8_divide_167 : decode cX8_divide 167 = .ok (.invokevirtual 148, 3) := by decide +kernel
theorem dX8_divide_170 : decode cX8_divide 170 = .ok (.iload 4, 2) := by decide +kernel
theorem dX8_divide_172 : decode cX8_divide 172 = .ok (.isub, 1) := by decide +kernel
theorem dX8_divide_173 : decode cX8_divide 173 = .ok (.istore 5, 2) := by decide +kernel
theorem dX8_divide_175 : decode cX8_divide 175 = .ok (.goto (-129), 3) := by decide +kernel
theorem dX8_divide_178 : decode cX8_divide 178 = .ok (.return_, 1) := by decide +kernel
/-! AlgebraHouse$Numbers.divide(III)V -/
def P_X8_divide_164 (Q : Int → MM → Prop) (K46 : Int → Int → Int → Int → MM → Prop) (x1 : Int) (x3 : Int) (x4 : Int) (m : MM) : Prop := P_X8_degree 1157776 m (fun r1 m1 => K46 x1 x3 x4 (r1 - x4) m1)
def P_X8_divide_89 (Q : Int → MM → Prop) (K46 : Int → Int → Int → Int → MM → Prop) : Nat → Int → Int → Int → Int → Int → MM → Prop
  | 0, _, _, _, _, _, _ => False
  | n + 1, x1, x3, x4, x5, x6, m => (RI x6) ∧ (RI x4) ∧ (if x4 < x6 then P_X8_divide_164 Q K46 x1 x3 x4 m else (RI (m 378 2)) ∧ (if (m 378 2) = 0 then P_X8_times x1 (1158658 + (2 * x5)) (x3 + (2 * x6)) 1157576 m (fun r1 m1 => (RI (m1 378 2)) ∧ (if (m1 378 2) = 0 then P_X8_add x1 (1157776 + (2 * (x6 + x5))) 1157576 (1157776 + (2 * (x6 + x5))) 1 m1 (fun r2 m2 => P_X8_divide_89 Q K46 n x1 x3 x4 x5 (x6 + 1) m2) else P_X8_divide_89 Q K46 n x1 x3 x4 x5 (x6 + 1) m1)) else P_X8_divide_164 Q K46 x1 x3 x4 m))
def P_X8_divide_46 (Q : Int → MM → Prop) : Nat → Int → Int → Int → Int → MM → Prop
  | 0, _, _, _, _, _ => False
  | n + 1, x1, x3, x4, x5, m => (RI x5) ∧ (if x5 < 0 then Q 0 m else (RI (m 378 2)) ∧ (if (m 378 2) = 0 then P_X8_by x1 (1157776 + (2 * (x5 + x4))) (x3 + (2 * x4)) (1158658 + (2 * x5)) m (fun r1 m1 => ∃ nn, P_X8_divide_89 Q (fun z0 z1 z2 z3 z4 => P_X8_divide_46 Q n z0 z1 z2 z3 z4) nn x1 x3 x4 x5 0 m1) else Q 0 m))
def P_X8_divide (x1 : Int) (x2 : Int) (x3 : Int) (m : MM) (Q : Int → MM → Prop) : Prop := P_X8_copy x2 1157776 7 m (fun r1 m1 => P_X8_clear 1158658 7 m1 (fun r2 m2 => P_X8_degree x3 m2 (fun r3 m3 => (RI r3) ∧ (if 0 ≤ r3 then P_X8_degree 1157776 m3 (fun r4 m4 => ∃ nn, P_X8_divide_46 Q nn x1 x3 r3 (r4 - r3) m4) else ∀ m5 : MM, m5 = up m3 378 2 2 → Q 0 m5))))
theorem pl_X8_divide_164 {f : Nat} {Q : Int → MM → Prop} {T : MM → Prop} (hf : 5 ≤ f) {K46 : Int → Int → Int → Int → MM → Prop} (hK46 : ∀ (x1 : Int) (x3 : Int) (x4 : Int) (x5 : Int) (m : MM), K46 x1 x3 x4 x5 m → B f M_X8_divide 46 [vR 378, vI x1, vU, vI x3, vI x4, vI x5, vU] [] m Q T) : ∀ (x1 : Int) (x3 : Int) (x4 : Int) (m : MM), P_X8_divide_164 Q K46 x1 x3 x4 m → B f M_X8_divide 164 [vR 378, vI x1, vU, vI x3, vI x4, vU, vU] [] m Q T := by
  intro x1 x3 x4 m h
  have h : P_X8_degree 1157776 m (fun r1 m1 => K46 x1 x3 x4 (r1 - x4) m1) := h
  refine b_aload_n dX8_divide_164 rfl ?_
  refine b_ldc (1157776) dX8_divide_165 q1453 (by decide) ?_
  refine b_cVi (as := [vI 1157776]) (st := []) dX8_divide_167 mf_X8_degree q1447 lk_X8_148 ly_378 rfl (p_X8_degree (f := 1) (Nat.le_refl _) _ _ h) (by omega) rfl rfl (Nat.le_of_ble_eq_true rfl) (by decide) rfl (fun _ => rfl) (fun r1 m1 h => ?_) (fun _ h => h)
  refine b_iload dX8_divide_170 rfl ?_
  refine b_isub dX8_divide_172 ?_
  refine b_istore (ls' := [vR 378, vI x1, vU, vI x3, vI x4, vI (r1 - x4), vU]) dX8_divide_173 (Nat.le_of_ble_eq_true rfl) rfl ?_
  refine b_goto 46 dX8_divide_175 (by decide) ?_
  exact hK46 _ _ _ _ _ h
theorem pl_X8_divide_89 {f : Nat} {Q : Int → MM → Prop} {T : MM → Prop} (hf : 5 ≤ f) {K46 : Int → Int → Int → Int → MM → Prop} (hK46 : ∀ (x1 : Int) (x3 : Int) (x4 : Int) (x5 : Int) (m : MM), K46 x1 x3 x4 x5 m → B f M_X8_divide 46 [vR 378, vI x1, vU, vI x3, vI x4, vI x5, vU] [] m Q T) : ∀ (n : Nat) (x1 : Int) (x3 : Int) (x4 : Int) (x5 : Int) (x6 : Int) (m : MM), P_X8_divide_89 Q K46 n x1 x3 x4 x5 x6 m → B f M_X8_divide 89 [vR 378, vI x1, vU, vI x3, vI x4, vI x5, vI x6] [] m Q T := by
  intro n
  induction n with
  | zero => intro x1 x3 x4 x5 x6 m h; exact h.elim
  | succ n ih =>
    intro x1 x3 x4 x5 x6 m h
    have h : (RI x6) ∧ (RI x4) ∧ (if x4 < x6 then P_X8_divide_164 Q K46 x1 x3 x4 m else (RI (m 378 2)) ∧ (if (m 378 2) = 0 then P_X8_times x1 (1158658 + (2 * x5)) (x3 + (2 * x6)) 1157576 m (fun r1 m1 => (RI (m1 378 2)) ∧ (if (m1 378 2) = 0 then P_X8_add x1 (1157776 + (2 * (x6 + x5))) 1157576 (1157776 + (2 * (x6 + x5))) 1 m1 (fun r2 m2 => P_X8_divide_89 Q K46 n x1 x3 x4 x5 (x6 + 1) m2) else P_X8_divide_89 Q K46 n x1 x3 x4 x5 (x6 + 1) m1)) else P_X8_divide_164 Q K46 x1 x3 x4 m)) := h
    refine b_iload dX8_divide_89 rfl ?_
    refine b_iload dX8_divide_91 rfl ?_
    obtain ⟨g1, h⟩ := h
    obtain ⟨g2, h⟩ := h
    refine b_icmp_gt 164 dX8_divide_93 g1 g2 (by decide) (fun c1 => ?_) (fun c1 => ?_)
    · have h := ifT c1 h
      refine b_fgt [true, true, false, true, true, false, false] (ls' := [vR 378, vI x1, vU, vI x3, vI x4, vU, vU]) rfl rfl ?_
      exact pl_X8_divide_164 hf hK46 _ _ _ _ h
    · have h := ifF c1 h
      refine b_aload_n dX8_divide_96 rfl ?_
      refine b_getI dX8_divide_97 fk_X8_26 ly_378 ?_
      obtain ⟨g3, h⟩ := h
      refine b_if_ne 164 dX8_divide_100 g3 (by decide) (fun c2 => ?_) (fun c2 => ?_)
      · have h := ifF c2 h
        refine b_fgt [true, true, false, true, true, false, false] (ls' := [vR 378, vI x1, vU, vI x3, vI x4, vU, vU]) rfl rfl ?_
        exact pl_X8_divide_164 hf hK46 _ _ _ _ h
      · have h := ifT (Decidable.of_not_not c2) h
        refine b_aload_n dX8_divide_103 rfl ?_
        refine b_iload_n dX8_divide_104 rfl ?_
        refine b_ldc (1158658) dX8_divide_105 q1454 (by decide) ?_
        refine b_iconst dX8_divide_107 ?_
        refine b_iload dX8_divide_108 rfl ?_
        refine b_imul dX8_divide_110 ?_
        refine b_iadd dX8_divide_111 ?_
        refine b_iload_n dX8_divide_112 rfl ?_
        refine b_iconst dX8_divide_113 ?_
        refine b_iload dX8_divide_114 rfl ?_
        refine b_imul dX8_divide_116 ?_
        refine b_iadd dX8_divide_117 ?_
        refine b_ldc (1157576) dX8_divide_118 q1409 (by decide) ?_
        refine b_cVv (as := [vI x1, vI (1158658 + (2 * x5)), vI (x3 + (2 * x6)), vI 1157576]) (st := []) dX8_divide_120 mf_X8_times q1386 lk_X8_77 ly_378 rfl (p_X8_times (f := 4) (Nat.le_refl _) _ _ _ _ _ h) (by omega) rfl rfl (Nat.le_of_ble_eq_true rfl) (by decide) rfl (fun _ => rfl) (fun r1 m1 h => ?_) (fun _ h => h)
        refine b_aload_n dX8_divide_123 rfl ?_
        refine b_getI dX8_divide_124 fk_X8_26 ly_378 ?_
        obtain ⟨g4, h⟩ := h
        refine b_if_ne 158 dX8_divide_127 g4 (by decide) (fun c3 => ?_) (fun c3 => ?_)
        · have h := ifF c3 h
          refine b_iinc (ls' := [vR 378, vI x1, vU, vI x3, vI x4, vI x5, vI (x6 + 1)]) dX8_divide_158 rfl rfl ?_
          refine b_goto 89 dX8_divide_161 (by decide) ?_
          exact ih _ _ _ _ _ _ h
        · have h := ifT (Decidable.of_not_not c3) h
          refine b_aload_n dX8_divide_130 rfl ?_
          refine b_iload_n dX8_divide_131 rfl ?_
          refine b_ldc (1157776) dX8_divide_132 q1453 (by decide) ?_
          refine b_iconst dX8_divide_134 ?_
          refine b_iload dX8_divide_135 rfl ?_
          refine b_iload dX8_divide_137 rfl ?_
          refine b_iadd dX8_divide_139 ?_
          refine b_imul dX8_divide_140 ?_
          refine b_iadd dX8_divide_141 ?_
          refine b_ldc (1157576) dX8_divide_142 q1409 (by decide) ?_
          refine b_ldc (1157776) dX8_divide_144 q1453 (by decide) ?_
          refine b_iconst dX8_divide_146 ?_
          refine b_iload dX8_divide_147 rfl ?_
          refine b_iload dX8_divide_149 rfl ?_
          refine b_iadd dX8_divide_151 ?_
          refine b_imul dX8_divide_152 ?_
          refine b_iadd dX8_divide_153 ?_
          refine b_iconst dX8_divide_154 ?_
          refine b_cVv (as := [vI x1, vI (1157776 + (2 * (x6 + x5))), vI 1157576, vI (1157776 + (2 * (x6 + x5))), vI 1]) (st := []) dX8_divide_155 mf_X8_add q1413 lk_X8_65 ly_378 rfl (p_X8_add (f := 4) (Nat.le_refl _) _ _ _ _ _ _ h) (by omega) rfl rfl (Nat.le_of_ble_eq_true rfl) (by decide) rfl (fun _ => rfl) (fun r2 m2 h => ?_) (fun _ h => h)
          refine b_iinc (ls' := [vR 378, vI x1, vU, vI x3, vI x4, vI x5, vI (x6 + 1)]) dX8_divide_158 rfl rfl ?_
          refine b_goto 89 dX8_divide_161 (by decide) ?_
          exact ih _ _ _ _ _ _ h
theorem pl_X8_divide_46 {f : Nat} {Q : Int → MM → Prop} {T : MM → Prop} (hf : 5 ≤ f) : ∀ (n : Nat) (x1 : Int) (x3 : Int) (x4 : Int) (x5 : Int) (m : MM), P_X8_divide_46 Q n x1 x3 x4 x5 m → B f M_X8_divide 46 [vR 378, vI x1, vU, vI x3, vI x4, vI x5, vU] [] m Q T := by
  intro n
  induction n with
  | zero => intro x1 x3 x4 x5 m h; exact h.elim
  | succ n ih =>
    intro x1 x3 x4 x5 m h
    have h : (RI x5) ∧ (if x5 < 0 then Q 0 m else (RI (m 378 2)) ∧ (if (m 378 2) = 0 then P_X8_by x1 (1157776 + (2 * (x5 + x4))) (x3 + (2 * x4)) (1158658 + (2 * x5)) m (fun r1 m1 => ∃ nn, P_X8_divide_89 Q (fun z0 z1 z2 z3 z4 => P_X8_divide_46 Q n z0 z1 z2 z3 z4) nn x1 x3 x4 x5 0 m1) else Q 0 m)) := h
    refine b_iload dX8_divide_46 rfl ?_
    obtain ⟨g1, h⟩ := h
    refine b_if_lt 178 dX8_divide_48 g1 (by decide) (fun c1 => ?_) (fun c1 => ?_)
    · have h := ifT c1 h
      exact b_vret dX8_divide_178 rfl h
    · have h := ifF c1 h
      refine b_aload_n dX8_divide_51 rfl ?_
      refine b_getI dX8_divide_52 fk_X8_26 ly_378 ?_
      obtain ⟨g2, h⟩ := h
      refine b_if_ne 178 dX8_divide_55 g2 (by decide) (fun c2 => ?_) (fun c2 => ?_)
      · have h := ifF c2 h
        exact b_vret dX8_divide_178 rfl h
      · have h := ifT (Decidable.of_not_not c2) h
        refine b_aload_n dX8_divide_58 rfl ?_
        refine b_iload_n dX8_divide_59 rfl ?_
        refine b_ldc (1157776) dX8_divide_60 q1453 (by decide) ?_
        refine b_iconst dX8_divide_62 ?_
        refine b_iload dX8_divide_63 rfl ?_
        refine b_iload dX8_divide_65 rfl ?_
        refine b_iadd dX8_divide_67 ?_
        refine b_imul dX8_divide_68 ?_
        refine b_iadd dX8_divide_69 ?_
        refine b_iload_n dX8_divide_70 rfl ?_
        refine b_iconst dX8_divide_71 ?_
        refine b_iload dX8_divide_72 rfl ?_
        refine b_imul dX8_divide_74 ?_
        refine b_iadd dX8_divide_75 ?_
        refine b_ldc (1158658) dX8_divide_76 q1454 (by decide) ?_
        refine b_iconst dX8_divide_78 ?_
        refine b_iload dX8_divide_79 rfl ?_
        refine b_imul dX8_divide_81 ?_
        refine b_iadd dX8_divide_82 ?_
        refine b_cVv (as := [vI x1, vI (1157776 + (2 * (x5 + x4))), vI (x3 + (2 * x4)), vI (1158658 + (2 * x5))]) (st := []) dX8_divide_83 mf_X8_by q1458 lk_X8_151 ly_378 rfl (p_X8_by (f := 4) (Nat.le_refl _) _ _ _ _ _ h) (by omega) rfl rfl (Nat.le_of_ble_eq_true rfl) (by decide) rfl (fun _ => rfl) (fun r1 m1 h => ?_) (fun _ h => h)
        refine b_iconst dX8_divide_86 ?_
        refine b_istore (ls' := [vR 378, vI x1, vU, vI x3, vI x4, vI x5, vI 0]) dX8_divide_87 (Nat.le_of_ble_eq_true rfl) rfl ?_
        obtain ⟨nn, h⟩ := h
        exact pl_X8_divide_89 hf (fun _ _ _ _ _ h => ih _ _ _ _ _ h) nn _ _ _ _ _ _ h
theorem p_X8_divide {f : Nat} {Q : Int → MM → Prop} {T : MM → Prop} (hf : 5 ≤ f) (x1 : Int) (x2 : Int) (x3 : Int) (m : MM) (h : P_X8_divide x1 x2 x3 m Q) : CC f M_X8_divide [vR 378, vI x1, vI x2, vI x3] m Q T := by
  refine CC.of (plainFor_of_name (by decide)) (Nat.le_of_ble_eq_true rfl) (ls := [vR 378, vI x1, vI x2, vI x3, vU, vU, vU]) rfl ?_
  have h : P_X8_copy x2 1157776 7 m (fun r1 m1 => P_X8_clear 1158658 7 m1 (fun r2 m2 => P_X8_degree x3 m2 (fun r3 m3 => (RI r3) ∧ (if 0 ≤ r3 then P_X8_degree 1157776 m3 (fun r4 m4 => ∃ nn, P_X8_divide_46 Q nn x1 x3 r3 (r4 - r3) m4) else ∀ m5 : MM, m5 = up m3 378 2 2 → Q 0 m5)))) := h
  refine b_aload_n dX8_divide_0 rfl ?_
  refine b_iload_n dX8_divide_1 rfl ?_
  refine b_ldc (1157776) dX8_divide_2 q1453 (by decide) ?_
  refine b_bipush dX8_divide_4 (by decide) ?_
  refine b_cVv (as := [vI x2, vI 1157776, vI 7]) (st := []) dX8_divide_6 mf_X8_copy q1320 lk_X8_81 ly_378 rfl (p_X8_copy (f := 2) (Nat.le_refl _) _ _ _ _ h) (by omega) rfl rfl (Nat.le_of_ble_eq_true rfl) (by decide) rfl (fun _ => rfl) (fun r1 m1 h => ?_) (fun _ h => h)
  refine b_aload_n dX8_divide_9 rfl ?_
  refine b_ldc (1158658) dX8_divide_10 q1454 (by decide) ?_
  refine b_bipush dX8_divide_12 (by decide) ?_
  refine b_cVv (as := [vI 1158658, vI 7]) (st := []) dX8_divide_14 mf_X8_clear q1305 lk_X8_122 ly_378 rfl (p_X8_clear (f := 1) (Nat.le_refl _) _ _ _ h) (by omega) rfl rfl (Nat.le_of_ble_eq_true rfl) (by decide) rfl (fun _ => rfl) (fun r2 m2 h => ?_) (fun _ h => h)
  refine b_aload_n dX8_divide_17 rfl ?_
  refine b_iload_n dX8_divide_18 rfl ?_
  refine b_cVi (as := [vI x3]) (st := []) dX8_divide_19 mf_X8_degree q1447 lk_X8_148 ly_378 rfl (p_X8_degree (f := 1) (Nat.le_refl _) _ _ h) (by omega) rfl rfl (Nat.le_of_ble_eq_true rfl) (by decide) rfl (fun _ => rfl) (fun r3 m3 h => ?_) (fun _ h => h)
  refine b_istore (ls' := [vR 378, vI x1, vI x2, vI x3, vI r3, vU, vU]) dX8_divide_22 (Nat.le_of_ble_eq_true rfl) rfl ?_
  refine b_iload dX8_divide_24 rfl ?_
  obtain ⟨g1, h⟩ := h
  refine b_if_ge 35 dX8_divide_26 g1 (by decide) (fun c1 => ?_) (fun c1 => ?_)
  · have h := ifT c1 h
    refine b_aload_n dX8_divide_35 rfl ?_
    refine b_ldc (1157776) dX8_divide_36 q1453 (by decide) ?_
    refine b_cVi (as := [vI 1157776]) (st := []) dX8_divide_38 mf_X8_degree q1447 lk_X8_148 ly_378 rfl (p_X8_degree (f := 1) (Nat.le_refl _) _ _ h) (by omega) rfl rfl (Nat.le_of_ble_eq_true rfl) (by decide) rfl (fun _ => rfl) (fun r4 m4 h => ?_) (fun _ h => h)
    refine b_iload dX8_divide_41 rfl ?_
    refine b_isub dX8_divide_43 ?_
    refine b_istore (ls' := [vR 378, vI x1, vI x2, vI x3, vI r3, vI (r4 - r3), vU]) dX8_divide_44 (Nat.le_of_ble_eq_true rfl) rfl ?_
    refine b_fgt [true, true, false, true, true, true, false] (ls' := [vR 378, vI x1, vU, vI x3, vI r3, vI (r4 - r3), vU]) rfl rfl ?_
    obtain ⟨nn, h⟩ := h
    exact pl_X8_divide_46 hf nn _ _ _ _ _ h
  · have h := ifF c1 h
    refine b_aload_n dX8_divide_29 rfl ?_
    refine b_iconst dX8_divide_30 ?_
    refine b_putI dX8_divide_31 fk_X8_26 ly_378 (fun m5 em5 => ?_)
    have h := h m5 em5
    exact b_vret dX8_divide_34 rfl h
theorem dX8_unit_0 : decode cX8_unit 0 = .ok (.iload_n 1, 1) := by decide +kernel
theorem dX8_unit_1 : decode cX8_unit 1 = .ok (.invokestatic 111, 3) := by decide +kernel
theorem dX8_unit_4 : decode cX8_unit 4 = .ok (.istore_n 3, 1) := by decide +kernel
theorem dX8_unit_5 : decode cX8_unit 5 = .ok (.aload_n 0, 1) := by decide +kernel
theorem dX8_unit_6 : decode cX8_unit 6 = .ok (.iload_n 2, 1) := by decide +kernel
theorem dX8_unit_7 : decode cX8_unit 7 = .ok (.iload_n 3, 1) := by decide +kernel
theorem dX8_unit_8 : decode cX8_unit 8 = .ok (.iload_n 1, 1) := by decide +kernel
theorem dX8_unit_9 : decode cX8_unit 9 = .ok (.invokestatic 119, 3) := by decide +kernel
theorem dX8_unit_12 : decode cX8_unit 12 = .ok (.imul, 1) := by decide +kernel
theorem dX8_unit_13 : decode cX8_unit 13 = .ok (.invokevirtual 122, 3) := by decide +kernel
theorem dX8_unit_16 : decode cX8_unit 16 = .ok (.iconst 0, 1) := by decide +kernel
theorem dX8_unit_17 : decode cX8_unit 17 = .ok (.istore 4, 2) := by decide +kernel
theorem dX8_unit_19 : decode cX8_unit 19 = .ok (.iload 4, 2) := by decide +kernel
theorem dX8_unit_21 : decode cX8_unit 21 = .ok (.iconst 1, 1) := by decide +kernel
theorem dX8_unit_22 : decode cX8_unit 22 = .ok (.iload_n 1, 1) := by decide +kernel
theorem dX8_unit_23 : decode cX8_unit 23 = .ok (.invokestatic 102, 3) := by decide +kernel
theorem dX8_unit_26 : decode cX8_unit 26 = .ok (.invokestatic 69, 3) := by decide +kernel
theorem dX8_unit_29 : decode cX8_unit 29 = .ok (.if_icmp .ge 31, 3) := by decide +kernel
theorem dX8_unit_32 : decode cX8_unit 32 = .ok (.aload_n 0, 1) := by decide +kernel
theorem dX8_unit_33 : decode cX8_unit 33 = .ok (.getfield 12, 3) := by decide +kernel
theorem dX8_unit_36 : decode cX8_unit 36 = .ok (.iload_n 2, 1) := by decide +kernel
theorem dX8_unit_37 : decode cX8_unit 37 = .ok (.iconst 2, 1) := by decide +kernel
theorem dX8_unit_38 : decode cX8_unit 38 = .ok (.iload_n 3, 1) := by decide +kernel
theorem dX8_unit_39 : decode cX8_unit 39 = .ok (.imul, 1) := by decide +kernel
theorem dX8_unit_40 : decode cX8_unit 40 = .ok (.iload_n 1, 1) := by decide +kernel
theorem dX8_unit_41 : decode cX8_unit 41 = .ok (.invokestatic 102, 3) := by decide +kernel
theorem dX8_unit_44 : decode cX8_unit 44 = .ok (.iload 4, 2) := by decide +kernel
theorem dX8_unit_46 : decode cX8_unit 46 = .ok (.imul, 1) := by decide +kernel
theorem dX8_unit_47 : decode cX8_unit 47 = .ok (.iload 4, 2) := by decide +kernel
theorem dX8_unit_49 : decode cX8_unit 49 = .ok (.iadd, 1) := by decide +kernel
theorem dX8_unit_50 : decode cX8_unit 50 = .ok (.imul, 1) := by decide +kernel
theorem dX8_unit_51 : decode cX8_unit 51 = .ok (.iadd, 1) := by decide +kernel
theorem dX8_unit_52 : decode cX8_unit 52 = .ok (.iconst 1, 1) := by decide +kernel
theorem dX8_unit_53 : decode cX8_unit 53 = .ok (.iastore, 1) := by decide +kernel
theorem dX8_unit_54 : decode cX8_unit 54 = .ok (.iinc 4 1, 3) := by decide +kernel
theorem dX8_unit_57 : decode cX8_unit 57 = .ok (.goto (-38), 3) := by decide +kernel
theorem dX8_unit_60 : decode cX8_unit 60 = .ok (.return_, 1) := by decide +kernel
/-! AlgebraHouse$Numbers.unit(II)V -/
def P_X8_unit_19 (Q : Int → MM → Prop) : Nat → Int → Int → Int → Int → MM → Prop
  | 0, _, _, _, _, _ => False
  | n + 1, x1, x2, x3, x4, m => P_X11_size x1 m (fun r1 m1 => P_J4_max 1 r1 m1 (fun r2 m2 => (RI x4) ∧ (RI r2) ∧ (if r2 ≤ x4 then Q 0 m2 else P_X11_size x1 m2 (fun r3 m3 => (0 ≤ (x2 + ((2 * x3) * ((r3 * x4) + x4))) ∧ (x2 + ((2 * x3) * ((r3 * x4) + x4))) < 1159540) ∧ ∀ m4 : MM, m4 = up m3 379 (x2 + ((2 * x3) * ((r3 * x4) + x4))) 1 → P_X8_unit_19 Q n x1 x2 x3 (x4 + 1) m4))))
def P_X8_unit (x1 : Int) (x2 : Int) (m : MM) (Q : Int → MM → Prop) : Prop := P_X11_coefficients x1 m (fun r1 m1 => P_X11_entries x1 m1 (fun r2 m2 => P_X8_clear x2 (r1 * r2) m2 (fun r3 m3 => ∃ nn, P_X8_unit_19 Q nn x1 x2 r1 0 m3)))
theorem pl_X8_unit_19 {f : Nat} {Q : Int → MM → Prop} {T : MM → Prop} (hf : 3 ≤ f) : ∀ (n : Nat) (x1 : Int) (x2 : Int) (x3 : Int) (x4 : Int) (m : MM), P_X8_unit_19 Q n x1 x2 x3 x4 m → B f M_X8_unit 19 [vR 378, vI x1, vI x2, vI x3, vI x4] [] m Q T := by
  intro n
  induction n with
  | zero => intro x1 x2 x3 x4 m h; exact h.elim
  | succ n ih =>
    intro x1 x2 x3 x4 m h
    have h : P_X11_size x1 m (fun r1 m1 => P_J4_max 1 r1 m1 (fun r2 m2 => (RI x4) ∧ (RI r2) ∧ (if r2 ≤ x4 then Q 0 m2 else P_X11_size x1 m2 (fun r3 m3 => (0 ≤ (x2 + ((2 * x3) * ((r3 * x4) + x4))) ∧ (x2 + ((2 * x3) * ((r3 * x4) + x4))) < 1159540) ∧ ∀ m4 : MM, m4 = up m3 379 (x2 + ((2 * x3) * ((r3 * x4) + x4))) 1 → P_X8_unit_19 Q n x1 x2 x3 (x4 + 1) m4)))) := h
    refine b_iload dX8_unit_19 rfl ?_
    refine b_iconst dX8_unit_21 ?_
    refine b_iload_n dX8_unit_22 rfl ?_
    refine b_cSi (as := [vI x1]) (st := [vI 1, vI x4]) dX8_unit_23 mf_X11_size lk_X8_102 (p_X11_size (f := 1) (Nat.le_refl _) _ _ h) (by omega) rfl rfl (Nat.le_of_ble_eq_true rfl) (by decide) rfl (fun _ => rfl) (fun r1 m1 h => ?_) (fun _ h => h)
    refine b_cSi (as := [vI 1, vI r1]) (st := [vI x4]) dX8_unit_26 mf_J4_max lk_X8_69 (p_J4_max (f := 1) (Nat.le_refl _) _ _ _ h) (by omega) rfl rfl (Nat.le_of_ble_eq_true rfl) (by decide) rfl (fun _ => rfl) (fun r2 m2 h => ?_) (fun _ h => h)
    obtain ⟨g1, h⟩ := h
    obtain ⟨g2, h⟩ := h
    refine b_icmp_ge 60 dX8_unit_29 g1 g2 (by decide) (fun c1 => ?_) (fun c1 => ?_)
    · have h := ifT c1 h
      exact b_vret dX8_unit_60 rfl h
    · have h := ifF c1 h
      refine b_aload_n dX8_unit_32 rfl ?_
      refine b_getR dX8_unit_33 fk_X8_12 ly_378 gg_378_0 ?_
      refine b_iload_n dX8_unit_36 rfl ?_
      refine b_iconst dX8_unit_37 ?_
      refine b_iload_n dX8_unit_38 rfl ?_
      refine b_imul dX8_unit_39 ?_
      refine b_iload_n dX8_unit_40 rfl ?_
      refine b_cSi (as := [vI x1]) (st := [vI (2 * x3), vI x2, vR 379]) dX8_unit_41 mf_X11_size lk_X8_102 (p_X11_size (f := 1) (Nat.le_refl _) _ _ h) (by omega) rfl rfl (Nat.le_of_ble_eq_true rfl) (by decide) rfl (fun _ => rfl) (fun r3 m3 h => ?_) (fun _ h => h)
      refine b_iload dX8_unit_44 rfl ?_
      refine b_imul dX8_unit_46 ?_
      refine b_iload dX8_unit_47 rfl ?_
      refine b_iadd dX8_unit_49 ?_
      refine b_imul dX8_unit_50 ?_
      refine b_iadd dX8_unit_51 ?_
      refine b_iconst dX8_unit_52 ?_
      obtain ⟨g3, h⟩ := h
      refine b_iast dX8_unit_53 ly_379 g3 (fun m4 em4 => ?_)
      have h := h m4 em4
      refine b_iinc (ls' := [vR 378, vI x1, vI x2, vI x3, vI (x4 + 1)]) dX8_unit_54 rfl rfl ?_
      refine b_goto 19 dX8_unit_57 (by decide) ?_
      exact ih _ _ _ _ _ h
theorem p_X8_unit {f : Nat} {Q : Int → MM → Prop} {T : MM → Prop} (hf : 3 ≤ f) (x1 : Int) (x2 : Int) (m : MM) (h : P_X8_unit x1 x2 m Q) : CC f M_X8_unit [vR 378, vI x1, vI x2] m Q T := by
  refine CC.of (plainFor_of_name (by decide)) (Nat.le_of_ble_eq_true rfl) (ls := [vR 378, vI x1, vI x2, vU, vU]) rfl ?_
  have h : P_X11_coefficients x1 m (fun r1 m1 => P_X11_entries x1 m1 (fun r2 m2 => P_X8_clear x2 (r1 * r2) m2 (fun r3 m3 => ∃ nn, P_X8_unit_19 Q nn x1 x2 r1 0 m3))) := h
  refine b_iload_n dX8_unit_0 rfl ?_
  refine b_cSi (as := [vI x1]) (st := []) dX8_unit_1 mf_X11_coefficients lk_X8_111 (p_X11_coefficients (f := 2) (Nat.le_refl _) _ _ h) (by omega) rfl rfl (Nat.le_of_ble_eq_true rfl) (by decide) rfl (fun _ => rfl) (fun r1 m1 h => ?_) (fun _ h => h)
  refine b_istore_n (ls' := [vR 378, vI x1, vI x2, vI r1, vU]) dX8_unit_4 (Nat.le_of_ble_eq_true rfl) rfl ?_
  refine b_aload_n dX8_unit_5 rfl ?_
  refine b_iload_n dX8_unit_6 rfl ?_
  refine b_iload_n dX8_unit_7 rfl ?_
  refine b_iload_n dX8_unit_8 rfl ?_
  refine b_cSi (as := [vI x1]) (st := [vI r1, vI x2, vR 378]) dX8_unit_9 mf_X11_entries lk_X8_119 (p_X11_entries (f := 2) (Nat.le_refl _) _ _ h) (by omega) rfl rfl (Nat.le_of_ble_eq_true rfl) (by decide) rfl (fun _ => rfl) (fun r2 m2 h => ?_) (fun _ h => h)
  refine b_imul dX8_unit_12 ?_
  refine b_cVv (as := [vI x2, vI (r1 * r2)]) (st := []) dX8_unit_13 mf_X8_clear q1305 lk_X8_122 ly_378 rfl (p_X8_clear (f := 1) (Nat.le_refl _) _ _ _ h) (by omega) rfl rfl (Nat.le_of_ble_eq_true rfl) (by decide) rfl (fun _ => rfl) (fun r3 m3 h => ?_) (fun _ h => h)
  refine b_iconst dX8_unit_16 ?_
  refine b_istore (ls' := [vR 378, vI x1, vI x2, vI r1, vI 0]) dX8_unit_17 (Nat.le_of_ble_eq_true rfl) rfl ?_
  obtain ⟨nn, h⟩ := h
  exact pl_X8_unit_19 hf nn _ _ _ _ _ h
theorem dX8_adjugate_0 : decode cX8_adjugate 0 = .ok (.iload_n 1, 1) := by decide +kernel
theorem dX8_adjugate_1 : decode cX8_adjugate 1 = .ok (.invokestatic 102, 3) := by decide +kernel
theorem dX8_adjugate_4 : decode cX8_adjugate 4 = .ok (.istore 4, 2) := by decide +kernel
theorem dX8_adjugate_6 : decode cX8_adjugate 6 = .ok (.iload_n 1, 1) := by decide +kernel
theorem dX8_adjugate_7 : decode cX8_adjugate 7 = .ok (.invokestatic 111, 3) := by decide +kernel
theorem dX8_adjugate_10 : decode cX8_adjugate 10 = .ok (.istore 5, 2) := by decide +kernel
theorem dX8_adjugate_12 : decode cX8_adjugate 12 = .ok (.iconst 1, 1) := by decide +kernel
theorem dX8_adjugate_13 : decode cX8_adjugate 13 = .ok (.iload 4, 2) := by decide +kernel
theorem dX8_adjugate_15 : decode cX8_adjugate 15 = .ok (.ishl, 1) := by decide +kernel
theorem dX8_adjugate_16 : decode cX8_adjugate 16 = .ok (.iconst 1, 1) := by decide +kernel
theorem dX8_adjugate_17 : decode cX8_adjugate 17 = .ok (.isub, 1) := by decide +kernel
theorem dX8_adjugate_18 : decode cX8_adjugate 18 = .ok (.istore 6, 2) := by decide +kernel
theorem dX8_adjugate_20 : decode cX8_adjugate 20 = .ok (.iconst 0, 1) := by decide +kernel
theorem dX8_adjugate_21 : decode cX8_adjugate 21 = .ok (.istore 7, 2) := by decide +kernel
theorem dX8_adjugate_23 : decode cX8_adjugate 23 = .ok (.iload 7, 2) := by decide +kernel
theorem dX8_adjugate_25 : decode cX8_adjugate 25 = .ok (.iload 4, 2) := by decide +kernel
theorem dX8_adjugate_27 : decode cX8_adjugate 27 = .ok (.if_icmp .ge 124, 3) := by decide +kernel
theorem dX8_adjugate_30 : decode cX8_adjugate 30 = .ok (.iconst 0, 1) := by decide +kernel
theorem dX8_adjugate_31 : decode cX8_adjugate 31 = .ok (.istore 8, 2) := by decide +kernel
theorem dX8_adjugate_33 : decode cX8_adjugate 33 = .ok (.iload 8, 2) := by decide +kernel
theorem dX8_adjugate_35 : decode cX8_adjugate 35 = .ok (.iload 4, 2) := by decide +kernel
theorem dX8_adjugate_37 : decode cX8_adjugate 37 = .ok (.if_icmp .ge 108, 3) := by decide +kernel
theorem dX8_adjugate_40 : decode cX8_adjugate 40 = .ok (.aload_n 0, 1) := by decide +kernel
theorem dX8_adjugate_41 : decode cX8_adjugate 41 = .ok (.getfield 26, 3) := by decide +kernel
theorem dX8_adjugate_44 : decode cX8_adjugate 44 = .ok (.ifCond .ne 101, 3) := by decide +kernel
theorem dX8_adjugate_47 : decode cX8_adjugate 47 = .ok (.iload_n 3, 1) := by decide +kernel
theorem dX8_adjugate_48 : decode cX8_adjugate 48 = .ok (.iconst 2, 1) := by decide +kernel
theorem dX8_adjugate_49 : decode cX8_adjugate 49 = .ok (.iload 5, 2) := by decide +kernel
theorem dX8_adjugate_51 : decode cX8_adjugate 51 = .ok (.imul, 1) := by decide +kernel
theorem dX8_adjugate_52 : decode cX8_adjugate 52 = .ok (.iload 4, 2) := by decide +kernel
theorem dX8_adjugate_54 : decode cX8_adjugate 54 = .ok (.iload 7, 2) := by decide +kernel
theorem dX8_adjugate_56 : decode cX8_adjugate 56 = .ok (.imul, 1) := by decide +kernel
theorem dX8_adjugate_57 : decode cX8_adjugate 57 = .ok (.iload 8, 2) := by decide +kernel
theorem dX8_adjugate_59 : decode cX8_adjugate 59 = .ok (.iadd, 1) := by decide +kernel
theorem dX8_adjugate_60 : decode cX8_adjugate 60 = .ok (.imul, 1) := by decide +kernel
theorem dX8_adjugate_61 : decode cX8_adjugate 61 = .ok (.iadd, 1) := by decide +kernel
theorem dX8_adjugate_62 : decode cX8_adjugate 62 = .ok (.istore 9, 2) := by decide +kernel
theorem dX8_adjugate_64 : decode cX8_adjugate 64 = .ok (.iload 4, 2) := by decide +kernel
theorem dX8_adjugate_66 : decode cX8_adjugate 66 = .ok (.iconst 1, 1) := by decide +kernel
theorem dX8_adjugate_67 : decode cX8_adjugate 67 = .ok (.if_icmp .ne 16, 3) := by decide +kernel
theorem dX8_adjugate_70 : decode cX8_adjugate 70 = .ok (.aload_n 0, 1) := by decide +kernel
theorem dX8_adjugate_71 : decode cX8_adjugate 71 = .ok (.iload_n 1, 1) := by decide +kernel
theorem dX8_adjugate_72 : decode cX8_adjugate 72 = .ok (.invokestatic 137, 3) := by decide +kernel
theorem dX8_adjugate_75 : decode cX8_adjugate 75 = .ok (.iload 9, 2) := by decide +kernel
theorem dX8_adjugate_77 : decode cX8_adjugate 77 = .ok (.invokevirtual 140, 3) := by decide +kernel
theorem dX8_adjugate_80 : decode cX8_adjugate 80 = .ok (.goto 29, 3) := by decide +kernel
theorem dX8_adjugate_83 : decode cX8_adjugate 83 = .ok (.aload_n 0, 1) := by decide +kernel
theorem dX8_adjugate_84 : decode cX8_adjugate 84 = .ok (.iload_n 1, 1) := by decide +kernel
theorem dX8_adjugate_85 : decode cX8_adjugate 85 = .ok (.iload_n 2, 1) := by decide +kernel
theorem dX8_adjugate_86 : decode cX8_adjugate 86 = .ok (.iload 6, 2) := by decide +kernel
theorem dX8_adjugate_88 : decode cX8_adjugate 88 = .ok (.iconst 1, 1) := by decide +kernel
theorem dX8_adjugate_89 : decode cX8_adjugate 89 = .ok (.iload 8, 2) := by decide +kernel
theorem dX8_adjugate_91 : decode cX8_adjugate 91 = .ok (.ishl, 1) := by decide +kernel
theorem dX8_adjugate_92 : decode cX8_adjugate 92 = .ok (.iconst (-1), 1) := by decide +kernel
theorem dX8_adjugate_93 : decode cX8_adjugate 93 = .ok (.ixor, 1) := by decide +kernel
theorem dX8_adjugate_94 : decode cX8_adjugate 94 = .ok (.iand, 1) := by decide +kernel
theorem dX8_adjugate_95 : decode cX8_adjugate 95 = .ok (.iload 6, 2) := by decide +kernel
theorem dX8_adjugate_97 : decode cX8_adjugate 97 = .ok (.iconst 1, 1) := by decide +kernel
theorem dX8_adjugate_98 : decode cX8_adjugate 98 = .ok (.iload 7, 2) := by decide +kernel
theorem dX8_adjugate_100 : decode cX8_adjugate 100 = .ok (.ishl, 1) := by decide +kernel
theorem dX8_adjugate_101 : decode cX8_adjugate 101 = .ok (.iconst (-1), 1) := by decide +kernel
theorem dX8_adjugate_102 : decode cX8_adjugate 102 = .ok (.ixor, 1) := by decide +kernel
theorem dX8_adjugate_103 : decode cX8_adjugate 103 = .ok (.iand, 1) := by decide +kernel
theorem dX8_adjugate_104 : decode cX8_adjugate 104 = .ok (.iload 9, 2) := by decide +kernel
theorem dX8_adjugate_106 : decode cX8_adjugate 106 = .ok (.invokevirtual 133, 3) := by decide +kernel
theorem dX8_adjugate_109 : decode cX8_adjugate 109 = .ok (.aload_n 0, 1) := by decide +kernel
theorem dX8_adjugate_110 : decode cX8_adjugate 110 = .ok (.getfield 26, 3) := by decide +kernel
theorem dX8_adjugate_113 : decode cX8_adjugate 113 = .ok (.ifCond .ne 26, 3) := by decide +kernel
theorem dX8_adjugate_116 : decode cX8_adjugate 116 = .ok (.iload 7, 2) := by decide +kernel
theorem dX8_adjugate_118 : decode cX8_adjugate 118 = .ok (.iload 8, 2) := by decide +kernel
theorem dX8_adjugate_120 : decode cX8_adjugate 120 = .ok (.iadd, 1) := by decide +kernel
theorem dX8_adjugate_121 : decode cX8_adjugate 121 = .ok (.iconst 1, 1) := by decide +kernel
theorem dX8_adjugate_122 : decode cX8_adjugate 122 = .ok (.iand, 1) := by decide +kernel
theorem dX8_adjugate_123 : decode cX8_adjugate 123 = .ok (.iconst 1, 1) := by decide +kernel
theorem dX8_adjugate_124 : decode cX8_adjugate 124 = .ok (.if_icmp .ne 15, 3) := by decide +kernel
theorem dX8_adjugate_127 : decode cX8_adjugate 127 = .ok (.aload_n 0, 1) := by decide +kernel
theorem dX8_adjugate_128 : decode cX8_adjugate 128 = .ok (.iload_n 1, 1) := by decide +kernel
theorem dX8_adjugate_129 : decode cX8_adjugate 129 = .ok (.invokestatic 108, 3) := by decide +kernel
theorem dX8_adjugate_132 : decode cX8_adjugate 132 = .ok (.iload 9, 2) := by decide +kernel
theorem dX8_adjugate_134 : decode cX8_adjugate 134 = .ok (.iload 5, 2) := by decide +kernel
theorem dX8_adjugate_136 : decode cX8_adjugate 136 = .ok (.invokevirtual 143, 3) := by decide +kernel
theorem dX8_adjugate_139 : decode cX8_adjugate 139 = .ok (.iinc 8 1, 3) := by decide +kernel
theorem dX8_adjugate_142 : decode cX8_adjugate 142 = .ok (.goto (-109), 3) := by decide +kernel
theorem dX8_adjugate_145 : decode cX8_adjugate 145 = .ok (.iinc 7 1, 3) := by decide +kernel
theorem dX8_adjugate_148 : decode cX8_adjugate 148 = .ok (.goto (-125), 3) := by decide +kernel
theorem dX8_adjugate_151 : decode cX8_adjugate 151 = .ok (.return_, 1) := by decide +kernel
/-! AlgebraHouse$Numbers.adjugate(III)V -/
def P_X8_adjugate_109 (Q : Int → MM → Prop) (K23 : Int → Int → Int → Int → Int → Int → Int → MM → Prop) (K33 : Int → Int → Int → Int → Int → Int → Int → Int → MM → Prop) (x1 : Int) (x2 : Int) (x3 : Int) (x4 : Int) (x5 : Int) (x6 : Int) (x7 : Int) (x8 : Int) (x9 : Int) (m : MM) : Prop := (RI (m 378 2)) ∧ (if (m 378 2) = 0 then (RI (iAnd (x7 + x8) 1)) ∧ (if (iAnd (x7 + x8) 1) = 1 then P_X11_base x1 m (fun r1 m1 => P_X8_less r1 x9 x5 m1 (fun r2 m2 => K33 x1 x2 x3 x4 x5 x6 x7 (x8 + 1) m2)) else K33 x1 x2 x3 x4 x5 x6 x7 (x8 + 1) m) else K33 x1 x2 x3 x4 x5 x6 x7 (x8 + 1) m)
def P_X8_adjugate_33 (Q : Int → MM → Prop) (K23 : Int → Int → Int → Int → Int → Int → Int → MM → Prop) : Nat → Int → Int → Int → Int → Int → Int → Int → Int → MM → Prop
  | 0, _, _, _, _, _, _, _, _, _ => False
  | n + 1, x1, x2, x3, x4, x5, x6, x7, x8, m => (RI x8) ∧ (RI x4) ∧ (if x4 ≤ x8 then K23 x1 x2 x3 x4 x5 x6 (x7 + 1) m else (RI (m 378 2)) ∧ (if (m 378 2) = 0 then (if x4 = 1 then P_X11_plain x1 m (fun r2 m2 => P_X8_unit r2 (x3 + ((2 * x5) * ((x4 * x7) + x8))) m2 (fun r3 m3 => P_X8_adjugate_109 Q K23 (fun z0 z1 z2 z3 z4 z5 z6 z7 z8 => P_X8_adjugate_33 Q K23 n z0 z1 z2 z3 z4 z5 z6 z7 z8) x1 x2 x3 x4 x5 x6 x7 x8 (x3 + ((2 * x5) * ((x4 * x7) + x8))) m3)) else R_X8_minor 5 0 [x1, x2, (iAnd x6 (iXor (iShl 1 x8) (-1))), (iAnd x6 (iXor (iShl 1 x7) (-1))), (x3 + ((2 * x5) * ((x4 * x7) + x8)))] m (fun r1 m1 => P_X8_adjugate_109 Q K23 (fun z0 z1 z2 z3 z4 z5 z6 z7 z8 => P_X8_adjugate_33 Q K23 n z0 z1 z2 z3 z4 z5 z6 z7 z8) x1 x2 x3 x4 x5 x6 x7 x8 (x3 + ((2 * x5) * ((x4 * x7) + x8))) m1) (fun _ => False)) else K23 x1 x2 x3 x4 x5 x6 (x7 + 1) m))
def P_X8_adjugate_23 (Q : Int → MM → Prop) : Nat → Int → Int → Int → Int → Int → Int → Int → MM → Prop
  | 0, _, _, _, _, _, _, _, _ => False
  | n + 1, x1, x2, x3, x4, x5, x6, x7, m => (RI x7) ∧ (RI x4) ∧ (if x4 ≤ x7 then Q 0 m else ∃ nn, P_X8_adjugate_33 Q (fun z0 z1 z2 z3 z4 z5 z6 z7 => P_X8_adjugate_23 Q n z0 z1 z2 z3 z4 z5 z6 z7) nn x1 x2 x3 x4 x5 x6 x7 0 m)
def P_X8_adjugate (x1 : Int) (x2 : Int) (x3 : Int) (m : MM) (Q : Int → MM → Prop) : Prop := P_X11_size x1 m (fun r1 m1 => P_X11_coefficients x1 m1 (fun r2 m2 => ∃ nn, P_X8_adjugate_23 Q nn x1 x2 x3 r1 r2 ((iShl 1 r1) - 1) 0 m2))
theorem pl_X8_adjugate_109 {f : Nat} {Q : Int → MM → Prop} {T : MM → Prop} (hf : 13 ≤ f) {K23 : Int → Int → Int → Int → Int → Int → Int → MM → Prop} {K33 : Int → Int → Int → Int → Int → Int → Int → Int → MM → Prop} (hK23 : ∀ (x1 : Int) (x2 : Int) (x3 : Int) (x4 : Int) (x5 : Int) (x6 : Int) (x7 : Int) (m : MM), K23 x1 x2 x3 x4 x5 x6 x7 m → B f M_X8_adjugate 23 [vR 378, vI x1, vI x2, vI x3, vI x4, vI x5, vI x6, vI x7, vU, vU] [] m Q T) (hK33 : ∀ (x1 : Int) (x2 : Int) (x3 : Int) (x4 : Int) (x5 : Int) (x6 : Int) (x7 : Int) (x8 : Int) (m : MM), K33 x1 x2 x3 x4 x5 x6 x7 x8 m → B f M_X8_adjugate 33 [vR 378, vI x1, vI x2, vI x3, vI x4, vI x5, vI x6, vI x7, vI x8, vU] [] m Q T) : ∀ (x1 : Int) (x2 : Int) (x3 : Int) (x4 : Int) (x5 : Int) (x6 : Int) (x7 : Int) (x8 : Int) (x9 : Int) (m : MM), P_X8_adjugate_109 Q K23 K33 x1 x2 x3 x4 x5 x6 x7 x8 x9 m → B f M_X8_adjugate 109 [vR 378, vI x1, vI x2, vI x3, vI x4, vI x5, vI x6, vI x7, vI x8, vI x9] [] m Q T := by
  intro x1 x2 x3 x4 x5 x6 x7 x8 x9 m h
  have h : (RI (m 378 2)) ∧ (if (m 378 2) = 0 then (RI (iAnd (x7 + x8) 1)) ∧ (if (iAnd (x7 + x8) 1) = 1 then P_X11_base x1 m (fun r1 m1 => P_X8_less r1 x9 x5 m1 (fun r2 m2 => K33 x1 x2 x3 x4 x5 x6 x7 (x8 + 1) m2)) else K33 x1 x2 x3 x4 x5 x6 x7 (x8 + 1) m) else K33 x1 x2 x3 x4 x5 x6 x7 (x8 + 1) m) := h
  refine b_aload_n dX8_adjugate_109 rfl ?_
  refine b_getI dX8_adjugate_110 fk_X8_26 ly_378 ?_
  obtain ⟨g1, h⟩ := h
  refine b_if_ne 139 dX8_adjugate_113 g1 (by decide) (fun c1 => ?_) (fun c1 => ?_)
  · have h := ifF c1 h
    refine b_iinc (ls' := [vR 378, vI x1, vI x2, vI x3, vI x4, vI x5, vI x6, vI x7, vI (x8 + 1), vI x9]) dX8_adjugate_139 rfl rfl ?_
    refine b_goto 33 dX8_adjugate_142 (by decide) ?_
    refine b_fgt [true, true, true, true, true, true, true, true, true, false] (ls' := [vR 378, vI x1, vI x2, vI x3, vI x4, vI x5, vI x6, vI x7, vI (x8 + 1), vU]) rfl rfl ?_
    exact hK33 _ _ _ _ _ _ _ _ _ h
  · have h := ifT (Decidable.of_not_not c1) h
    refine b_iload dX8_adjugate_116 rfl ?_
    refine b_iload dX8_adjugate_118 rfl ?_
    refine b_iadd dX8_adjugate_120 ?_
    refine b_iconst dX8_adjugate_121 ?_
    refine b_iand dX8_adjugate_122 ?_
    refine b_iconst dX8_adjugate_123 ?_
    obtain ⟨g2, h⟩ := h
    refine b_icmp_ne 139 dX8_adjugate_124 g2 (by decide) (by decide) (fun c2 => ?_) (fun c2 => ?_)
    · have h := ifF c2 h
      refine b_iinc (ls' := [vR 378, vI x1, vI x2, vI x3, vI x4, vI x5, vI x6, vI x7, vI (x8 + 1), vI x9]) dX8_adjugate_139 rfl rfl ?_
      refine b_goto 33 dX8_adjugate_142 (by decide) ?_
      refine b_fgt [true, true, true, true, true, true, true, true, true, false] (ls' := [vR 378, vI x1, vI x2, vI x3, vI x4, vI x5, vI x6, vI x7, vI (x8 + 1), vU]) rfl rfl ?_
      exact hK33 _ _ _ _ _ _ _ _ _ h
    · have h := ifT (Decidable.of_not_not c2) h
      refine b_aload_n dX8_adjugate_127 rfl ?_
      refine b_iload_n dX8_adjugate_128 rfl ?_
      refine b_cSi (as := [vI x1]) (st := [vR 378]) dX8_adjugate_129 mf_X11_base lk_X8_108 (p_X11_base (f := 1) (Nat.le_refl _) _ _ h) (by omega) rfl rfl (Nat.le_of_ble_eq_true rfl) (by decide) rfl (fun _ => rfl) (fun r1 m1 h => ?_) (fun _ h => h)
      refine b_iload dX8_adjugate_132 rfl ?_
      refine b_iload dX8_adjugate_134 rfl ?_
      refine b_cVv (as := [vI r1, vI x9, vI x5]) (st := []) dX8_adjugate_136 mf_X8_less q1362 lk_X8_143 ly_378 rfl (p_X8_less (f := 2) (Nat.le_refl _) _ _ _ _ h) (by omega) rfl rfl (Nat.le_of_ble_eq_true rfl) (by decide) rfl (fun _ => rfl) (fun r2 m2 h => ?_) (fun _ h => h)
      refine b_iinc (ls' := [vR 378, vI x1, vI x2, vI x3, vI x4, vI x5, vI x6, vI x7, vI (x8 + 1), vI x9]) dX8_adjugate_139 rfl rfl ?_
      refine b_goto 33 dX8_adjugate_142 (by decide) ?_
      refine b_fgt [true, true, true, true, true, true, true, true, true, false] (ls' := [vR 378, vI x1, vI x2, vI x3, vI x4, vI x5, vI x6, vI x7, vI (x8 + 1), vU]) rfl rfl ?_
      exact hK33 _ _ _ _ _ _ _ _ _ h
theorem pl_X8_adjugate_33 {f : Nat} {Q : Int → MM → Prop} {T : MM → Prop} (hf : 13 ≤ f) {K23 : Int → Int → Int → Int → Int → Int → Int → MM → Prop} (hK23 : ∀ (x1 : Int) (x2 : Int) (x3 : Int) (x4 : Int) (x5 : Int) (x6 : Int) (x7 : Int) (m : MM), K23 x1 x2 x3 x4 x5 x6 x7 m → B f M_X8_adjugate 23 [vR 378, vI x1, vI x2, vI x3, vI x4, vI x5, vI x6, vI x7, vU, vU] [] m Q T) : ∀ (n : Nat) (x1 : Int) (x2 : Int) (x3 : Int) (x4 : Int) (x5 : Int) (x6 : Int) (x7 : Int) (x8 : Int) (m : MM), P_X8_adjugate_33 Q K23 n x1 x2 x3 x4 x5 x6 x7 x8 m → B f M_X8_adjugate 33 [vR 378, vI x1, vI x2, vI x3, vI x4, vI x5, vI x6, vI x7, vI x8, vU] [] m Q T := by
  intro n
  induction n with
  | zero => intro x1 x2 x3 x4 x5 x6 x7 x8 m h; exact h.elim
  | succ n ih =>
    intro x1 x2 x3 x4 x5 x6 x7 x8 m h
    have h : (RI x8) ∧ (RI x4) ∧ (if x4 ≤ x8 then K23 x1 x2 x3 x4 x5 x6 (x7 + 1) m else (RI (m 378 2)) ∧ (if (m 378 2) = 0 then (if x4 = 1 then P_X11_plain x1 m (fun r2 m2 => P_X8_unit r2 (x3 + ((2 * x5) * ((x4 * x7) + x8))) m2 (fun r3 m3 => P_X8_adjugate_109 Q K23 (fun z0 z1 z2 z3 z4 z5 z6 z7 z8 => P_X8_adjugate_33 Q K23 n z0 z1 z2 z3 z4 z5 z6 z7 z8) x1 x2 x3 x4 x5 x6 x7 x8 (x3 + ((2 * x5) * ((x4 * x7) + x8))) m3)) else R_X8_minor 5 0 [x1, x2, (iAnd x6 (iXor (iShl 1 x8) (-1))), (iAnd x6 (iXor (iShl 1 x7) (-1))), (x3 + ((2 * x5) * ((x4 * x7) + x8)))] m (fun r1 m1 => P_X8_adjugate_109 Q K23 (fun z0 z1 z2 z3 z4 z5 z6 z7 z8 => P_X8_adjugate_33 Q K23 n z0 z1 z2 z3 z4 z5 z6 z7 z8) x1 x2 x3 x4 x5 x6 x7 x8 (x3 + ((2 * x5) * ((x4 * x7) + x8))) m1) (fun _ => False)) else K23 x1 x2 x3 x4 x5 x6 (x7 + 1) m)) := h
    refine b_iload dX8_adjugate_33 rfl ?_
    refine b_iload dX8_adjugate_35 rfl ?_
    obtain ⟨g1, h⟩ := h
    obtain ⟨g2, h⟩ := h
    refine b_icmp_ge 145 dX8_adjugate_37 g1 g2 (by decide) (fun c1 => ?_) (fun c1 => ?_)
    · have h := ifT c1 h
      refine b_iinc (ls' := [vR 378, vI x1, vI x2, vI x3, vI x4, vI x5, vI x6, vI (x7 + 1), vI x8, vU]) dX8_adjugate_145 rfl rfl ?_
      refine b_goto 23 dX8_adjugate_148 (by decide) ?_
      refine b_fgt [true, true, true, true, true, true, true, true, false, false] (ls' := [vR 378, vI x1, vI x2, vI x3, vI x4, vI x5, vI x6, vI (x7 + 1), vU, vU]) rfl rfl ?_
      exact hK23 _ _ _ _ _ _ _ _ h
    · have h := ifF c1 h
      refine b_aload_n dX8_adjugate_40 rfl ?_
      refine b_getI dX8_adjugate_41 fk_X8_26 ly_378 ?_
      obtain ⟨g3, h⟩ := h
      refine b_if_ne 145 dX8_adjugate_44 g3 (by decide) (fun c2 => ?_) (fun c2 => ?_)
      · have h := ifF c2 h
        refine b_iinc (ls' := [vR 378, vI x1, vI x2, vI x3, vI x4, vI x5, vI x6, vI (x7 + 1), vI x8, vU]) dX8_adjugate_145 rfl rfl ?_
        refine b_goto 23 dX8_adjugate_148 (by decide) ?_
        refine b_fgt [true, true, true, true, true, true, true, true, false, false] (ls' := [vR 378, vI x1, vI x2, vI x3, vI x4, vI x5, vI x6, vI (x7 + 1), vU, vU]) rfl rfl ?_
        exact hK23 _ _ _ _ _ _ _ _ h
      · have h := ifT (Decidable.of_not_not c2) h
        refine b_iload_n dX8_adjugate_47 rfl ?_
        refine b_iconst dX8_adjugate_48 ?_
        refine b_iload dX8_adjugate_49 rfl ?_
        refine b_imul dX8_adjugate_51 ?_
        refine b_iload dX8_adjugate_52 rfl ?_
        refine b_iload dX8_adjugate_54 rfl ?_
        refine b_imul dX8_adjugate_56 ?_
        refine b_iload dX8_adjugate_57 rfl ?_
        refine b_iadd dX8_adjugate_59 ?_
        refine b_imul dX8_adjugate_60 ?_
        refine b_iadd dX8_adjugate_61 ?_
        refine b_istore (ls' := [vR 378, vI x1, vI x2, vI x3, vI x4, vI x5, vI x6, vI x7, vI x8, vI (x3 + ((2 * x5) * ((x4 * x7) + x8)))]) dX8_adjugate_62 (Nat.le_of_ble_eq_true rfl) rfl ?_
        refine b_iload dX8_adjugate_64 rfl ?_
        refine b_iconst dX8_adjugate_66 ?_
        refine b_icmp_ne 83 dX8_adjugate_67 g2 (by decide) (by decide) (fun c3 => ?_) (fun c3 => ?_)
        · have h := ifF c3 h
          refine b_aload_n dX8_adjugate_83 rfl ?_
          refine b_iload_n dX8_adjugate_84 rfl ?_
          refine b_iload_n dX8_adjugate_85 rfl ?_
          refine b_iload dX8_adjugate_86 rfl ?_
          refine b_iconst dX8_adjugate_88 ?_
          refine b_iload dX8_adjugate_89 rfl ?_
          refine b_ishl dX8_adjugate_91 ?_
          refine b_iconst dX8_adjugate_92 ?_
          refine b_ixor dX8_adjugate_93 ?_
          refine b_iand dX8_adjugate_94 ?_
          refine b_iload dX8_adjugate_95 rfl ?_
          refine b_iconst dX8_adjugate_97 ?_
          refine b_iload dX8_adjugate_98 rfl ?_
          refine b_ishl dX8_adjugate_100 ?_
          refine b_iconst dX8_adjugate_101 ?_
          refine b_ixor dX8_adjugate_102 ?_
          refine b_iand dX8_adjugate_103 ?_
          refine b_iload dX8_adjugate_104 rfl ?_
          refine b_cVv (as := [vI x1, vI x2, vI (iAnd x6 (iXor (iShl 1 x8) (-1))), vI (iAnd x6 (iXor (iShl 1 x7) (-1))), vI (x3 + ((2 * x5) * ((x4 * x7) + x8)))]) (st := []) dX8_adjugate_106 mf_X8_minor qs79 lk_X8_133 ly_378 rfl ((pr_X8_minor 5 12 (Nat.le_refl _)).1 _ _ _ _ _ _ _ _ h) (by omega) rfl rfl (Nat.le_of_ble_eq_true rfl) (by decide) rfl (fun _ => rfl) (fun r1 m1 h => ?_) (fun _ h => h.elim)
          exact pl_X8_adjugate_109 hf hK23 (fun _ _ _ _ _ _ _ _ _ h => ih _ _ _ _ _ _ _ _ _ h) _ _ _ _ _ _ _ _ _ _ h
        · have h := ifT (Decidable.of_not_not c3) h
          refine b_aload_n dX8_adjugate_70 rfl ?_
          refine b_iload_n dX8_adjugate_71 rfl ?_
          refine b_cSi (as := [vI x1]) (st := [vR 378]) dX8_adjugate_72 mf_X11_plain lk_X8_137 (p_X11_plain (f := 1) (Nat.le_refl _) _ _ h) (by omega) rfl rfl (Nat.le_of_ble_eq_true rfl) (by decide) rfl (fun _ => rfl) (fun r2 m2 h => ?_) (fun _ h => h)
          refine b_iload dX8_adjugate_75 rfl ?_
          refine b_cVv (as := [vI r2, vI (x3 + ((2 * x5) * ((x4 * x7) + x8)))]) (st := []) dX8_adjugate_77 mf_X8_unit q1371 lk_X8_140 ly_378 rfl (p_X8_unit (f := 3) (Nat.le_refl _) _ _ _ h) (by omega) rfl rfl (Nat.le_of_ble_eq_true rfl) (by decide) rfl (fun _ => rfl) (fun r3 m3 h => ?_) (fun _ h => h)
          refine b_goto 109 dX8_adjugate_80 (by decide) ?_
          exact pl_X8_adjugate_109 hf hK23 (fun _ _ _ _ _ _ _ _ _ h => ih _ _ _ _ _ _ _ _ _ h) _ _ _ _ _ _ _ _ _ _ h
theorem pl_X8_adjugate_23 {f : Nat} {Q : Int → MM → Prop} {T : MM → Prop} (hf : 13 ≤ f) : ∀ (n : Nat) (x1 : Int) (x2 : Int) (x3 : Int) (x4 : Int) (x5 : Int) (x6 : Int) (x7 : Int) (m : MM), P_X8_adjugate_23 Q n x1 x2 x3 x4 x5 x6 x7 m → B f M_X8_adjugate 23 [vR 378, vI x1, vI x2, vI x3, vI x4, vI x5, vI x6, vI x7, vU, vU] [] m Q T := by
  intro n
  induction n with
  | zero => intro x1 x2 x3 x4 x5 x6 x7 m h; exact h.elim
  | succ n ih =>
    intro x1 x2 x3 x4 x5 x6 x7 m h
    have h : (RI x7) ∧ (RI x4) ∧ (if x4 ≤ x7 then Q 0 m else ∃ nn, P_X8_adjugate_33 Q (fun z0 z1 z2 z3 z4 z5 z6 z7 => P_X8_adjugate_23 Q n z0 z1 z2 z3 z4 z5 z6 z7) nn x1 x2 x3 x4 x5 x6 x7 0 m) := h
    refine b_iload dX8_adjugate_23 rfl ?_
    refine b_iload dX8_adjugate_25 rfl ?_
    obtain ⟨g1, h⟩ := h
    obtain ⟨g2, h⟩ := h
    refine b_icmp_ge 151 dX8_adjugate_27 g1 g2 (by decide) (fun c1 => ?_) (fun c1 => ?_)
    · have h := ifT c1 h
      exact b_vret dX8_adjugate_151 rfl h
    · have h := ifF c1 h
      refine b_iconst dX8_adjugate_30 ?_
      refine b_istore (ls' := [vR 378, vI x1, vI x2, vI x3, vI x4, vI x5, vI x6, vI x7, vI 0, vU]) dX8_adjugate_31 (Nat.le_of_ble_eq_true rfl) rfl ?_
      obtain ⟨nn, h⟩ := h
      exact pl_X8_adjugate_33 hf (fun _ _ _ _ _ _ _ _ h => ih _ _ _ _ _ _ _ _ h) nn _ _ _ _ _ _ _ _ _ h
theorem p_X8_adjugate {f : Nat} {Q : Int → MM → Prop} {T : MM → Prop} (hf : 13 ≤ f) (x1 : Int) (x2 : Int) (x3 : Int) (m : MM) (h : P_X8_adjugate x1 x2 x3 m Q) : CC f M_X8_adjugate [vR 378, vI x1, vI x2, vI x3] m Q T := by
  refine CC.of (plainFor_of_name (by decide)) (Nat.le_of_ble_eq_true rfl) (ls := [vR 378, vI x1, vI x2, vI x3, vU, vU, vU, vU, vU, vU]) rfl ?_
  have h : P_X11_size x1 m (fun r1 m1 => P_X11_coefficients x1 m1 (fun r2 m2 => ∃ nn, P_X8_adjugate_23 Q nn x1 x2 x3 r1 r2 ((iShl 1 r1) - 1) 0 m2)) := h
  refine b_iload_n dX8_adjugate_0 rfl ?_
  refine b_cSi (as := [vI x1]) (st := []) dX8_adjugate_1 mf_X11_size lk_X8_102 (p_X11_size (f := 1) (Nat.le_refl _) _ _ h) (by omega) rfl rfl (Nat.le_of_ble_eq_true rfl) (by decide) rfl (fun _ => rfl) (fun r1 m1 h => ?_) (fun _ h => h)
  refine b_istore (ls' := [vR 378, vI x1, vI x2, vI x3, vI r1, vU, vU, vU, vU, vU]) dX8_adjugate_4 (Nat.le_of_ble_eq_true rfl) rfl ?_
  refine b_iload_n dX8_adjugate_6 rfl ?_
  refine b_cSi (as := [vI x1]) (st := []) dX8_adjugate_7 mf_X11_coefficients lk_X8_111 (p_X11_coefficients (f := 2) (Nat.le_refl _) _ _ h) (by omega) rfl rfl (Nat.le_of_ble_eq_true rfl) (by decide) rfl (fun _ => rfl) (fun r2 m2 h => ?_) (fun _ h => h)
  refine b_istore (ls' := [vR 378, vI x1, vI x2, vI x3, vI r1, vI r2, vU, vU, vU, vU]) dX8_adjugate_10 (Nat.le_of_ble_eq_true rfl) rfl ?_
  refine b_iconst dX8_adjugate_12 ?_
  refine b_iload dX8_adjugate_13 rfl ?_
  refine b_ishl dX8_adjugate_15 ?_
  refine b_iconst dX8_adjugate_16 ?_
  refine b_isub dX8_adjugate_17 ?_
  refine b_istore (ls' := [vR 378, vI x1, vI x2, vI x3, vI r1, vI r2, vI ((iShl 1 r1) - 1), vU, vU, vU]) dX8_adjugate_18 (Nat.le_of_ble_eq_true rfl) rfl ?_
  refine b_iconst dX8_adjugate_20 ?_
  refine b_istore (ls' := [vR 378, vI x1, vI x2, vI x3, vI r1, vI r2, vI ((iShl 1 r1) - 1), vI 0, vU, vU]) dX8_adjugate_21 (Nat.le_of_ble_eq_true rfl) rfl ?_
  obtain ⟨nn, h⟩ := h
  exact pl_X8_adjugate_23 hf nn _ _ _ _ _ _ _ _ h
theorem dX8_isLess_0 : decode cX8_isLess 0 = .ok (.aload_n 0, 1) := by decide +kernel
theorem dX8_isLess_1 : decode cX8_isLess 1 = .ok (.getfield 12, 3) := by decide +kernel
theorem dX8_isLess_4 : decode cX8_isLess 4 = .ok (.iload_n 1, 1) := by decide +kernel
theorem dX8_isLess_5 : decode cX8_isLess 5 = .ok (.iaload, 1) := by decide +kernel
theorem dX8_isLess_6 : decode cX8_isLess 6 = .ok (.i2l, 1) := by decide +kernel
theorem dX8_isLess_7 : decode cX8_isLess 7 = .ok (.aload_n 0, 1) := by decide +kernel
theorem dX8_isLess_8 : decode cX8_isLess 8 = .ok (.getfield 12, 3) := by decide +kernel
theorem dX8_isLess_11 : decode cX8_isLess 11 = .ok (.iload_n 2, 1) := by decide +kernel
theorem dX8_isLess_12 : decode cX8_isLess 12 = .ok (.iconst 1, 1) := by decide +kernel
theorem dX8_isLess_13 : decode cX8_isLess 13 = .ok (.iadd, 1) := by decide +kernel
theorem dX8_isLess_14 : decode cX8_isLess 14 = .ok (.iaload, 1) := by decide +kernel
theorem dX8_isLess_15 : decode cX8_isLess 15 = .ok (.i2l, 1) := by decide +kernel
theorem dX8_isLess_16 : decode cX8_isLess 16 = .ok (.lmul, 1) := by decide +kernel
theorem dX8_isLess_17 : decode cX8_isLess 17 = .ok (.aload_n 0, 1) := by decide +kernel
theorem dX8_isLess_18 : decode cX8_isLess 18 = .ok (.getfield 12, 3) := by decide +kernel
theorem dX8_isLess_21 : decode cX8_isLess 21 = .ok (.iload_n 2, 1) := by decide +kernel
theorem dX8_isLess_22 : decode cX8_isLess 22 = .ok (.iaload, 1) := by decide +kernel
theorem dX8_isLess_23 : decode cX8_isLess 23 = .ok (.i2l, 1) := by decide +kernel
theorem dX8_isLess_24 : decode cX8_isLess 24 = .ok (.aload_n 0, 1) := by decide +kernel
theorem dX8_isLess_25 : decode cX8_isLess 25 = .ok (.getfield 12, 3) := by decide +kernel
theorem dX8_isLess_28 : decode cX8_isLess 28 = .ok (.iload_n 1, 1) := by decide +kernel
theorem dX8_isLess_29 : decode cX8_isLess 29 = .ok (.iconst 1, 1) := by decide +kernel
theorem dX8_isLess_30 : decode cX8_isLess 30 = .ok (.iadd, 1) := by decide +kernel
theorem dX8_isLess_31 : decode cX8_isLess 31 = .ok (.iaload, 1) := by decide +kernel
theorem dX8_isLess_32 : decode cX8_isLess 32 = .ok (.i2l, 1) := by decide +kernel
theorem dX8_isLess_33 : decode cX8_isLess 33 = .ok (.lmul, 1) := by decide +kernel
theorem dX8_isLess_34 : decode cX8_isLess 34 = .ok (.lsub, 1) := by decide +kernel
theorem dX8_isLess_35 : decode cX8_isLess 35 = .ok (.lstore 4, 2) := by decide +kernel
theorem dX8_isLess_37 : decode cX8_isLess 37 = .ok (.lload 4, 2) := by decide +kernel
theorem dX8_isLess_39 : decode cX8_isLess 39 = .ok (.lconst 0, 1) := by decide +kernel
theorem dX8_isLess_40 : decode cX8_isLess 40 = .ok (.lcmp, 1) := by decide +kernel
theorem dX8_isLess_41 : decode cX8_isLess 41 = .ok (.ifCond .lt 14, 3) := by decide +kernel
theorem dX8_isLess_44 : decode cX8_isLess 44 = .ok (.iload_n 3, 1) := by decide +kernel
theorem dX8_isLess_45 : decode cX8_isLess 45 = .ok (.ifCond .eq 14, 3) := by decide +kernel
theorem dX8_isLess_48 : decode cX8_isLess 48 = .ok (.lload 4, 2) := by decide +kernel
theorem dX8_isLess_50 : decode cX8_isLess 50 = .ok (.lconst 0, 1) := by decide +kernel
theorem dX8_isLess_51 : decode cX8_isLess 51 = .ok (.lcmp, 1) := by decide +kernel
theorem dX8_isLess_52 : decode cX8_isLess 52 = .ok (.ifCond .ne 7, 3) := by decide +kernel
theorem dX8_isLess_55 : decode cX8_isLess 55 = .ok (.iconst 1, 1) := by decide +kernel
theorem dX8_isLess_56 : decode cX8_isLess 56 = .ok (.goto 4, 3) := by decide +kernel
theorem dX8_isLess_59 : decode cX8_isLess 59 = .ok (.iconst 0, 1) := by decide +kernel
theorem dX8_isLess_60 : decode cX8_isLess 60 = .ok (.ireturn, 1) := by decide +kernel
/-! AlgebraHouse$Numbers.isLess(IIZ)Z -/
def P_X8_isLess (x1 : Int) (x2 : Int) (x3 : Int) (m : MM) (Q : Int → MM → Prop) : Prop := (0 ≤ x1 ∧ x1 < 1159540) ∧ (RI (m 379 x1)) ∧ (0 ≤ (x2 + 1) ∧ (x2 + 1) < 1159540) ∧ (RI (m 379 (x2 + 1))) ∧ (0 ≤ x2 ∧ x2 < 1159540) ∧ (RI (m 379 x2)) ∧ (0 ≤ (x1 + 1) ∧ (x1 + 1) < 1159540) ∧ (RI (m 379 (x1 + 1))) ∧ (RL (((m 379 x1) * (m 379 (x2 + 1))) - ((m 379 x2) * (m 379 (x1 + 1))))) ∧ (if (((m 379 x1) * (m 379 (x2 + 1))) - ((m 379 x2) * (m 379 (x1 + 1)))) < 0 then Q 1 m else (RI x3) ∧ (if x3 = 0 then Q 0 m else (if (((m 379 x1) * (m 379 (x2 + 1))) - ((m 379 x2) * (m 379 (x1 + 1)))) = 0 then Q 1 m else Q 0 m)))
theorem p_X8_isLess {f : Nat} {Q : Int → MM → Prop} {T : MM → Prop} (hf : 1 ≤ f) (x1 : Int) (x2 : Int) (x3 : Int) (m : MM) (h : P_X8_isLess x1 x2 x3 m Q) : CC f M_X8_isLess [vR 378, vI x1, vI x2, vI x3] m Q T := by
  refine CC.of (plainFor_of_name (by decide)) (Nat.le_of_ble_eq_true rfl) (ls := [vR 378, vI x1, vI x2, vI x3, vU, vU]) rfl ?_
  have h : (0 ≤ x1 ∧ x1 < 1159540) ∧ (RI (m 379 x1)) ∧ (0 ≤ (x2 + 1) ∧ (x2 + 1) < 1159540) ∧ (RI (m 379 (x2 + 1))) ∧ (0 ≤ x2 ∧ x2 < 1159540) ∧ (RI (m 379 x2)) ∧ (0 ≤ (x1 + 1) ∧ (x1 + 1) < 1159540) ∧ (RI (m 379 (x1 + 1))) ∧ (RL (((m 379 x1) * (m 379 (x2 + 1))) - ((m 379 x2) * (m 379 (x1 + 1))))) ∧ (if (((m 379 x1) * (m 379 (x2 + 1))) - ((m 379 x2) * (m 379 (x1 + 1)))) < 0 then Q 1 m else (RI x3) ∧ (if x3 = 0 then Q 0 m else (if (((m 379 x1) * (m 379 (x2 + 1))) - ((m 379 x2) * (m 379 (x1 + 1)))) = 0 then Q 1 m else Q 0 m))) := h
  refine b_aload_n dX8_isLess_0 rfl ?_
  refine b_getR dX8_isLess_1 fk_X8_12 ly_378 gg_378_0 ?_
  refine b_iload_n dX8_isLess_4 rfl ?_
  obtain ⟨g1, h⟩ := h
  refine b_iald dX8_isLess_5 ly_379 g1 ?_
  obtain ⟨g2, h⟩ := h
  refine b_i2l dX8_isLess_6 g2 ?_
  refine b_aload_n dX8_isLess_7 rfl ?_
  refine b_getR dX8_isLess_8 fk_X8_12 ly_378 gg_378_0 ?_
  refine b_iload_n dX8_isLess_11 rfl ?_
  refine b_iconst dX8_isLess_12 ?_
  refine b_iadd dX8_isLess_13 ?_
  obtain ⟨g3, h⟩ := h
  refine b_iald dX8_isLess_14 ly_379 g3 ?_
  obtain ⟨g4, h⟩ := h
  refine b_i2l dX8_isLess_15 g4 ?_
  refine b_lmul dX8_isLess_16 ?_
  refine b_aload_n dX8_isLess_17 rfl ?_
  refine b_getR dX8_isLess_18 fk_X8_12 ly_378 gg_378_0 ?_
  refine b_iload_n dX8_isLess_21 rfl ?_
  obtain ⟨g5, h⟩ := h
  refine b_iald dX8_isLess_22 ly_379 g5 ?_
  obtain ⟨g6, h⟩ := h
  refine b_i2l dX8_isLess_23 g6 ?_
  refine b_aload_n dX8_isLess_24 rfl ?_
  refine b_getR dX8_isLess_25 fk_X8_12 ly_378 gg_378_0 ?_
  refine b_iload_n dX8_isLess_28 rfl ?_
  refine b_iconst dX8_isLess_29 ?_
  refine b_iadd dX8_isLess_30 ?_
  obtain ⟨g7, h⟩ := h
  refine b_iald dX8_isLess_31 ly_379 g7 ?_
  obtain ⟨g8, h⟩ := h
  refine b_i2l dX8_isLess_32 g8 ?_
  refine b_lmul dX8_isLess_33 ?_
  refine b_lsub dX8_isLess_34 ?_
  refine b_lstore (ls' := [vR 378, vI x1, vI x2, vI x3, vL (((m 379 x1) * (m 379 (x2 + 1))) - ((m 379 x2) * (m 379 (x1 + 1)))), vU]) dX8_isLess_35 (Nat.le_of_ble_eq_true rfl) rfl ?_
  refine b_lload dX8_isLess_37 rfl ?_
  refine b_lconst 0 dX8_isLess_39 (by decide) ?_
  obtain ⟨g9, h⟩ := h
  refine b_lc_lt 55 dX8_isLess_40 dX8_isLess_41 g9 (by decide) (by decide) (fun c1 => ?_) (fun c1 => ?_)
  · have h := ifT c1 h
    refine b_iconst dX8_isLess_55 ?_
    refine b_goto 60 dX8_isLess_56 (by decide) ?_
    exact b_zret dX8_isLess_60 rfl (Or.inr rfl) h
  · have h := ifF c1 h
    refine b_iload_n dX8_isLess_44 rfl ?_
    obtain ⟨g10, h⟩ := h
    refine b_if_eq 59 dX8_isLess_45 g10 (by decide) (fun c2 => ?_) (fun c2 => ?_)
    · have h := ifT c2 h
      refine b_iconst dX8_isLess_59 ?_
      exact b_zret dX8_isLess_60 rfl (Or.inl rfl) h
    · have h := ifF c2 h
      refine b_lload dX8_isLess_48 rfl ?_
      refine b_lconst 0 dX8_isLess_50 (by decide) ?_
      refine b_lc_ne 59 dX8_isLess_51 dX8_isLess_52 g9 (by decide) (by decide) (fun c3 => ?_) (fun c3 => ?_)
      · have h := ifF c3 h
        refine b_iconst dX8_isLess_59 ?_
        exact b_zret dX8_isLess_60 rfl (Or.inl rfl) h
      · have h := ifT (Decidable.of_not_not c3) h
        refine b_iconst dX8_isLess_55 ?_
        refine b_goto 60 dX8_isLess_56 (by decide) ?_
        exact b_zret dX8_isLess_60 rfl (Or.inr rfl) h
theorem dX8_back_0 : decode cX8_back 0 = .ok (.iload_n 1, 1) := by decide +kernel
theorem dX8_back_1 : decode cX8_back 1 = .ok (.invokestatic 111, 3) := by decide +kernel
theorem dX8_back_4 : decode cX8_back 4 = .ok (.istore 4, 2) := by decide +kernel
theorem dX8_back_6 : decode cX8_back 6 = .ok (.iload_n 1, 1) := by decide +kernel
theorem dX8_back_7 : decode cX8_back 7 = .ok (.invokestatic 119, 3) := by decide +kernel
theorem dX8_back_10 : decode cX8_back 10 = .ok (.istore 5, 2) := by decide +kernel
theorem dX8_back_12 : decode cX8_back 12 = .ok (.iload_n 2, 1) := by decide +kernel
theorem dX8_back_13 : decode cX8_back 13 = .ok (.invokestatic 111, 3) := by decide +kernel
theorem dX8_back_16 : decode cX8_back 16 = .ok (.istore 6, 2) := by decide +kernel
theorem dX8_back_18 : decode cX8_back 18 = .ok (.iload_n 1, 1) := by decide +kernel
theorem dX8_back_19 : decode cX8_back 19 = .ok (.invokestatic 102, 3) := by decide +kernel
theorem dX8_back_22 : decode cX8_back 22 = .ok (.istore 7, 2) := by decide +kernel
theorem dX8_back_24 : decode cX8_back 24 = .ok (.iload 7, 2) := by decide +kernel
theorem dX8_back_26 : decode cX8_back 26 = .ok (.iload_n 2, 1) := by decide +kernel
theorem dX8_back_27 : decode cX8_back 27 = .ok (.invokestatic 102, 3) := by decide +kernel
theorem dX8_back_30 : decode cX8_back 30 = .ok (.if_icmp .eq 7, 3) := by decide +kernel
theorem dX8_back_33 : decode cX8_back 33 = .ok (.iconst 1, 1) := by decide +kernel
theorem dX8_back_34 : decode cX8_back 34 = .ok (.goto 4, 3) := by decide +kernel
theorem dX8_back_37 : decode cX8_back 37 = .ok (.iconst 0, 1) := by decide +kernel
theorem dX8_back_38 : decode cX8_back 38 = .ok (.istore 8, 2) := by decide +kernel
theorem dX8_back_40 : decode cX8_back 40 = .ok (.iconst 0, 1) := by decide +kernel
theorem dX8_back_41 : decode cX8_back 41 = .ok (.istore 9, 2) := by decide +kernel
theorem dX8_back_43 : decode cX8_back 43 = .ok (.iload 9, 2) := by decide +kernel
theorem dX8_back_45 : decode cX8_back 45 = .ok (.iload 5, 2) := by decide +kernel
theorem dX8_back_47 : decode cX8_back 47 = .ok (.if_icmp .ge 180, 3) := by decide +kernel
theorem dX8_back_50 : decode cX8_back 50 = .ok (.iload 8, 2) := by decide +kernel
theorem dX8_back_52 : decode cX8_back 52 = .ok (.ifCond .eq 17, 3) := by decide +kernel
theorem dX8_back_55 : decode cX8_back 55 = .ok (.iload 9, 2) := by decide +kernel
theorem dX8_back_57 : decode cX8_back 57 = .ok (.iload 7, 2) := by decide +kernel
theorem dX8_back_59 : decode cX8_back 59 = .ok (.iconst 1, 1) := by decide +kernel
theorem dX8_back_60 : decode cX8_back 60 = .ok (.iadd, 1) := by decide +kernel
theorem dX8_back_61 : decode cX8_back 61 = .ok (.irem, 1) := by decide +kernel
theorem dX8_back_62 : decode cX8_back 62 = .ok (.ifCond .eq 7, 3) := by decide +kernel
theorem dX8_back_65 : decode cX8_back 65 = .ok (.iconst 1, 1) := by decide +kernel
theorem dX8_back_66 : decode cX8_back 66 = .ok (.goto 4, 3) := by decide +kernel
theorem dX8_back_69 : decode cX8_back 69 = .ok (.iconst 0, 1) := by decide +kernel
theorem dX8_back_70 : decode cX8_back 70 = .ok (.istore 10, 2) := by decide +kernel
theorem dX8_back_72 : decode cX8_back 72 = .ok (.iload_n 3, 1) := by decide +kernel
theorem dX8_back_73 : decode cX8_back 73 = .ok (.iconst 2, 1) := by decide +kernel
theorem dX8_back_74 : decode cX8_back 74 = .ok (.iload 4, 2) := by decide +kernel
theorem dX8_back_76 : decode cX8_back 76 = .ok (.imul, 1) := by decide +kernel
theorem dX8_back_77 : decode cX8_back 77 = .ok (.iload 9, 2) := by decide +kernel
theorem dX8_back_79 : decode cX8_back 79 = .ok (.imul, 1) := by decide +kernel
theorem dX8_back_80 : decode cX8_back 80 = .ok (.iadd, 1) := by decide +kernel
theorem dX8_back_81 : decode cX8_back 81 = .ok (.istore 11, 2) := by decide +kernel
theorem dX8_back_83 : decode cX8_back 83 = .ok (.iload 10, 2) := by decide +kernel
theorem dX8_back_85 : decode cX8_back 85 = .ok (.ifCond .eq 14, 3) := by decide +kernel
theorem dX8_back_88 : decode cX8_back 88 = .ok (.aload_n 0, 1) := by decide +kernel
theorem dX8_back_89 : decode cX8_back 89 = .ok (.iload 11, 2) := by decide +kernel
theorem dX8_back_91 : decode cX8_back 91 = .ok (.iload 4, 2) := by decide +kernel
theorem dX8_back_93 : decode cX8_back 93 = .ok (.invokevirtual 98, 3) := by decide +kernel
theorem dX8_back_96 : decode cX8_back 96 = .ok (.goto 19, 3) := by decide +kernel
theorem dX8_back_99 : decode cX8_back 99 = .ok (.aload_n 0, 1) := by decide +kernel
theorem dX8_back_100 : decode cX8_back 100 = .ok (.iload 11, 2) := by decide +kernel
theorem dX8_back_102 : decode cX8_back 102 = .ok (.iconst 2, 1) := by decide +kernel
theorem dX8_back_103 : decode cX8_back 103 = .ok (.iload 6, 2) := by decide +kernel
theorem dX8_back_105 : decode cX8_back 105 = .ok (.imul, 1) := by decide +kernel
theorem dX8_back_106 : decode cX8_back 106 = .ok (.iadd, 1) := by decide +kernel
theorem dX8_back_107 : decode cX8_back 107 = .ok (.iload 4, 2) := by decide +kernel
theorem dX8_back_109 : decode cX8_back 109 = .ok (.iload 6, 2) := by decide +kernel
theorem dX8_back_111 : decode cX8_back 111 = .ok (.isub, 1) := by decide +kernel
theorem dX8_back_112 : decode cX8_back 112 = .ok (.invokevirtual 98, 3) := by decide +kernel
theorem dX8_back_115 : decode cX8_back 115 = .ok (.istore 12, 2) := by decide +kernel
theorem dX8_back_117 : decode cX8_back 117 = .ok (.iconst 0, 1) := by decide +kernel
theorem dX8_back_118 : decode cX8_back 118 = .ok (.istore 13, 2) := by decide +kernel
theorem dX8_back_120 : decode cX8_back 120 = .ok (.iload 12, 2) := by decide +kernel
theorem dX8_back_122 : decode cX8_back 122 = .ok (.ifCond .eq 89, 3) := by decide +kernel
theorem dX8_back_125 : decode cX8_back 125 = .ok (.iload 8, 2) := by decide +kernel
theorem dX8_back_127 : decode cX8_back 127 = .ok (.ifCond .eq 84, 3) := by decide +kernel
theorem dX8_back_130 : decode cX8_back 130 = .ok (.iload 10, 2) := by decide +kernel
theorem dX8_back_132 : decode cX8_back 132 = .ok (.ifCond .ne 79, 3) := by decide +kernel
theorem dX8_back_135 : decode cX8_back 135 = .ok (.iload 13, 2) := by decide +kernel
theorem dX8_back_137 : decode cX8_back 137 = .ok (.iload 6, 2) := by decide +kernel
theorem dX8_back_139 : decode cX8_back 139 = .ok (.if_icmp .ge 72, 3) := by decide +kernel
theorem dX8_back_142 : decode cX8_back 142 = .ok (.aload_n 0, 1) := by decide +kernel
theorem dX8_back_143 : decode cX8_back 143 = .ok (.getfield 12, 3) := by decide +kernel
theorem dX8_back_146 : decode cX8_back 146 = .ok (.iload 11, 2) := by decide +kernel
theorem dX8_back_148 : decode cX8_back 148 = .ok (.iconst 2, 1) := by decide +kernel
theorem dX8_back_149 : decode cX8_back 149 = .ok (.iload 13, 2) := by decide +kernel
theorem dX8_back_151 : decode cX8_back 151 = .ok (.imul, 1) := by decide +kernel
theorem dX8_back_152 : decode cX8_back 152 = .ok (.iadd, 1) := by decide +kernel
theorem dX8_back_153 : decode cX8_back 153 = .ok (.iaload, 1) := by decide +kernel
theorem dX8_back_154 : decode cX8_back 154 = .ok (.aload_n 0, 1) := by decide +kernel
theorem dX8_back_155 : decode cX8_back 155 = .ok (.getfield 12, 3) := by decide +kernel
theorem dX8_back_158 : decode cX8_back 158 = .ok (.iload_n 3, 1) := by decide +kernel
theorem dX8_back_159 : decode cX8_back 159 = .ok (.iconst 2, 1) := by decide +kernel
theorem dX8_back_160 : decode cX8_back 160 = .ok (.iload 13, 2) := by decide +kernel
theorem dX8_back_162 : decode cX8_back 162 = .ok (.imul, 1) := by decide +kernel
theorem dX8_back_163 : decode cX8_back 163 = .ok (.iadd, 1) := by decide +kernel
theorem dX8_back_164 : decode cX8_back 164 = .ok (.iaload, 1) := by decide +kernel
theorem dX8_back_165 : decode cX8_back 165 = .ok (.if_icmp .ne 37, 3) := by decide +kernel
theorem dX8_back_168 : decode cX8_back 168 = .ok (.aload_n 0, 1) := by decide +kernel
theorem dX8_back_169 : decode cX8_back 169 = .ok (.getfield 12, 3) := by decide +kernel
theorem dX8_back_172 : decode cX8_back 172 = .ok (.iload 11, 2) := by decide +kernel
theorem dX8_back_174 : decode cX8_back 174 = .ok (.iconst 2, 1) := by decide +kernel
theorem dX8_back_175 : decode cX8_back 175 = .ok (.iload 13, 2) := by decide +kernel
theorem dX8_back_177 : decode cX8_back 177 = .ok (.imul, 1) := by decide +kernel
theorem dX8_back_178 : decode cX8_back 178 = .ok (.iadd, 1) := by decide +kernel
theorem dX8_back_179 : decode cX8_back 179 = .ok (.iconst 1, 1) := by decide +kernel
theorem dX8_back_180 : decode cX8_back 180 = .ok (.iadd, 1) := by decide +kernel
theorem dX8_back_181 : decode cX8_back 181 = .ok (.iaload, 1) := by decide +kernel
theorem dX8_back_182 : decode cX8_back 182 = .ok (.aload_n 0, 1) := by decide +kernel
theorem dX8_back_183 : decode cX8_back 183 = .ok (.getfield 12, 3) := by decide +kernel
theorem dX8_back_186 : decode cX8_back 186 = .ok (.iload_n 3, 1) := by decide +kernel
theorem dX8_back_187 : decode cX8_back 187 = .ok (.iconst 2, 1) := by decide +kernel
theorem dX8_back_188 : decode cX8_back 188 = .ok (.iload 13, 2) := by decide +kernel
theorem dX8_back_190 : decode cX8_back 190 = .ok (.imul, 1) := by decide +kernel
theorem dX8_back_191 : decode cX8_back 191 = .ok (.iadd, 1) := by decide +kernel
theorem dX8_back_192 : decode cX8_back 192 = .ok (.iconst 1, 1) := by decide +kernel
theorem dX8_back_193 : decode cX8_back 193 = .ok (.iadd, 1) := by decide +kernel
theorem dX8_back_194 : decode cX8_back 194 = .ok (.iaload, 1) := by decide +kernel
theorem dX8_back_195 : decode cX8_back 195 = .ok (.if_icmp .ne 7, 3) := by decide +kernel
theorem dX8_back_198 : decode cX8_back 198 = .ok (.iconst 1, 1) := by decide +kernel
theorem dX8_back_199 : decode cX8_back 199 = .ok (.goto 4, 3) := by decide +kernel
theorem dX8_back_202 : decode cX8_back 202 = .ok (.iconst 0, 1) := by decide +kernel
theorem dX8_back_203 : decode cX8_back 203 = .ok (.istore 12, 2) := by decide +kernel
theorem dX8_back_205 : decode cX8_back 205 = .ok (.iinc 13 1, 3) := by decide +kernel
theorem dX8_back_208 : decode cX8_back 208 = .ok (.goto (-88), 3) := by decide +kernel
theorem dX8_back_211 : decode cX8_back 211 = .ok (.iload 12, 2) := by decide +kernel
theorem dX8_back_213 : decode cX8_back 213 = .ok (.ifCond .ne 8, 3) := by decide +kernel
theorem dX8_back_216 : decode cX8_back 216 = .ok (.aload_n 0, 1) := by decide +kernel
theorem dX8_back_217 : decode cX8_back 217 = .ok (.iconst 3, 1) := by decide +kernel
theorem dX8_back_218 : decode cX8_back 218 = .ok (.putfield 26, 3) := by decide +kernel
theorem dX8_back_221 : decode cX8_back 221 = .ok (.iinc 9 1, 3) := by decide +kernel
theorem dX8_back_224 : decode cX8_back 224 = .ok (.goto (-181), 3) := by decide +kernel
theorem dX8_back_227 : decode cX8_back 227 = .ok (.aload_n 0, 1) := by decide +kernel
theorem dX8_back_228 : decode cX8_back 228 = .ok (.getfield 26, 3) := by decide +kernel
theorem dX8_back_231 : decode cX8_back 231 = .ok (.ifCond .eq 4, 3) := by decide +kernel
theorem dX8_back_234 : decode cX8_back 234 = .ok (.return_, 1) := by decide +kernel
theorem dX8_back_235 : decode cX8_back 235 = .ok (.iload_n 2, 1) := by decide +kernel
theorem dX8_back_236 : decode cX8_back 236 = .ok (.invokestatic 119, 3) := by decide +kernel
theorem dX8_back_239 : decode cX8_back 239 = .ok (.istore 9, 2) := by decide +kernel
theorem dX8_back_241 : decode cX8_back 241 = .ok (.iconst 0, 1) := by decide +kernel
theorem dX8_back_242 : decode cX8_back 242 = .ok (.istore 10, 2) := by decide +kernel
theorem dX8_back_244 : decode cX8_back 244 = .ok (.iload 10, 2) := by decide +kernel
theorem dX8_back_246 : decode cX8_back 246 = .ok (.iload 9, 2) := by decide +kernel
theorem dX8_back_248 : decode cX8_back 248 = .ok (.if_icmp .ge 34, 3) := by decide +kernel
theorem dX8_back_251 : decode cX8_back 251 = .ok (.aload_n 0, 1) := by decide +kernel
theorem dX8_back_252 : decode cX8_back 252 = .ok (.iload_n 3, 1) := by decide +kernel
theorem dX8_back_253 : decode cX8_back 253 = .ok (.iconst 2, 1) := by decide +kernel
theorem dX8_back_254 : decode cX8_back 254 = .ok (.iload 4, 2) := by decide +kernel
theorem dX8_back_256 : decode cX8_back 256 = .ok (.imul, 1) := by decide +kernel
theorem dX8_back_257 : decode cX8_back 257 = .ok (.iload 10, 2) := by decide +kernel
theorem dX8_back_259 : decode cX8_back 259 = .ok (.imul, 1) := by decide +kernel
theorem dX8_back_260 : decode cX8_back 260 = .ok (.iadd, 1) := by decide +kernel
theorem dX8_back_261 : decode cX8_back 261 = .ok (.ldc 154, 2) := by decide +kernel
theorem dX8_back_263 : decode cX8_back 263 = .ok (.iconst 2, 1) := by decide +kernel
theorem dX8_back_264 : decode cX8_back 264 = .ok (.iload 6, 2) := by decide +kernel
theorem dX8_back_266 : decode cX8_back 266 = .ok (.imul, 1) := by decide +kernel
theorem dX8_back_267 : decode cX8_back 267 = .ok (.iload 10, 2) := by decide +kernel
theorem dX8_back_269 : decode cX8_back 269 = .ok (.imul, 1) := by decide +kernel
theorem dX8_back_270 : decode cX8_back 270 = .ok (.iadd, 1) := by decide +kernel
theorem dX8_back_271 : decode cX8_back 271 = .ok (.iload 6, 2) := by decide +kernel
theorem dX8_back_273 : decode cX8_back 273 = .ok (.invokevirtual 81, 3) := by decide +kernel
theorem dX8_back_276 : decode cX8_back 276 = .ok (.iinc 10 1, 3) := by decide +kernel
theorem dX8_back_279 : decode cX8_back 279 = .ok (.goto (-35), 3) := by decide +kernel
theorem dX8_back_282 : decode cX8_back 282 = .ok (.aload_n 0, 1) := by decide +kernel
theorem dX8_back_283 : decode cX8_back 283 = .ok (.ldc 154, 2) := by decide +kernel
theorem dX8_back_285 : decode cX8_back 285 = .ok (.iload_n 3, 1) := by decide +kernel
theorem dX8_back_286 : decode cX8_back 286 = .ok (.iload 6, 2) := by decide +kernel
theorem dX8_back_288 : decode cX8_back 288 = .ok (.iload 9, 2) := by decide +kernel
theorem dX8_back_290 : decode cX8_back 290 = .ok (.imul, 1) := by decide +kernel
theorem dX8_back_291 : decode cX8_back 291 = .ok (.invokevirtual 81, 3) := by decide +kernel
theorem dX8_back_294 : decode cX8_back 294 = .ok (.iload_n 1, 1) := by decide +kernel
theorem dX8_back_295 : decode cX8_back 295 = .ok (.invokestatic 108, 3) := by decide +kernel
theorem dX8_back_298 : decode cX8_back 298 = .ok (.iload_n 2, 1) := by decide +kernel
theorem dX8_back_299 : decode cX8_back 299 = .ok (.invokestatic 108, 3) := by decide +kernel
theorem dX8_back_302 : decode cX8_back 302 = .ok (.if_icmp .ne 4, 3) := by decide +kernel
theorem dX8_back_305 : decode cX8_back 305 = .ok (.return_, 1) := by decide +kernel
theorem dX8_back_306 : decode cX8_back 306 = .ok (.iconst 0, 1) := by decide +kernel
theorem dX8_back_307 : decode cX8_back 307 = .ok (.istore 10, 2) := by decide +kernel
theorem dX8_back_309 : decode cX8_back 309 = .ok (.iload 10, 2) := by decide +kernel
theorem dX8_back_311 : decode cX8_back 311 = .ok (.iload 6, 2) := by decide +kernel
theorem dX8_back_313 : decode cX8_back 313 = .ok (.iload 9, 2) := by decide +kernel
theorem dX8_back_315 : decode cX8_back 315 = .ok (.imul, 1) := by decide +kernel
theorem dX8_back_316 : decode cX8_back 316 = .ok (.if_icmp .ge 31, 3) := by decide +kernel
theorem dX8_back_319 : decode cX8_back 319 = .ok (.aload_n 0, 1) := by decide +kernel
theorem dX8_back_320 : decode cX8_back 320 = .ok (.getfield 12, 3) := by decide +kernel
theorem dX8_back_323 : decode cX8_back 323 = .ok (.iload_n 3, 1) := by decide +kernel
theorem dX8_back_324 : decode cX8_back 324 = .ok (.iconst 2, 1) := by decide +kernel
theorem dX8_back_325 : decode cX8_back 325 = .ok (.iload 10, 2) := by decide +kernel
theorem dX8_back_327 : decode cX8_back 327 = .ok (.imul, 1) := by decide +kernel
theorem dX8_back_328 : decode cX8_back 328 = .ok (.iadd, 1) := by decide +kernel
theorem dX8_back_329 : decode cX8_back 329 = .ok (.iconst 1, 1) := by decide +kernel
theorem dX8_back_330 : decode cX8_back 330 = .ok (.iadd, 1) := by decide +kernel
theorem dX8_back_331 : decode cX8_back 331 = .ok (.iaload, 1) := by decide +kernel
theorem dX8_back_332 : decode cX8_back 332 = .ok (.iconst 1, 1) := by decide +kernel
theorem dX8_back_333 : decode cX8_back 333 = .ok (.if_icmp .eq 8, 3) := by decide +kernel
theorem dX8_back_336 : decode cX8_back 336 = .ok (.aload_n 0, 1) := by decide +kernel
theorem dX8_back_337 : decode cX8_back 337 = .ok (.iconst 3, 1) := by decide +kernel
theorem dX8_back_338 : decode cX8_back 338 = .ok (.putfield 26, 3) := by decide +kernel
theorem dX8_back_341 : decode cX8_back 341 = .ok (.iinc 10 1, 3) := by decide +kernel
theorem dX8_back_344 : decode cX8_back 344 = .ok (.goto (-35), 3) := by decide +kernel
theorem dX8_back_347 : decode cX8_back 347 = .ok (.return_, 1) := by decide +kernel
/-! AlgebraHouse$Numbers.back(III)V -/
def P_X8_back_211 (Q : Int → MM → Prop) (K43 : Int → Int → Int → Int → Int → Int → Int → Int → Int → MM → Prop) (x1 : Int) (x2 : Int) (x3 : Int) (x4 : Int) (x5 : Int) (x6 : Int) (x7 : Int) (x8 : Int) (x9 : Int) (x12 : Int) (m : MM) : Prop := (RI x12) ∧ (if x12 = 0 then ∀ m1 : MM, m1 = up m 378 2 3 → K43 x1 x2 x3 x4 x5 x6 x7 x8 (x9 + 1) m1 else K43 x1 x2 x3 x4 x5 x6 x7 x8 (x9 + 1) m)
def P_X8_back_120 (Q : Int → MM → Prop) (K43 : Int → Int → Int → Int → Int → Int → Int → Int → Int → MM → Prop) : Nat → Int → Int → Int → Int → Int → Int → Int → Int → Int → Int → Int → Int → Int → MM → Prop
  | 0, _, _, _, _, _, _, _, _, _, _, _, _, _, _ => False
  | n + 1, x1, x2, x3, x4, x5, x6, x7, x8, x9, x10, x11, x12, x13, m => (RI x12) ∧ (if x12 = 0 then P_X8_back_211 Q K43 x1 x2 x3 x4 x5 x6 x7 x8 x9 x12 m else (RI x8) ∧ (if x8 = 0 then P_X8_back_211 Q K43 x1 x2 x3 x4 x5 x6 x7 x8 x9 x12 m else (RI x10) ∧ (if x10 = 0 then (RI x13) ∧ (RI x6) ∧ (if x6 ≤ x13 then P_X8_back_211 Q K43 x1 x2 x3 x4 x5 x6 x7 x8 x9 x12 m else (0 ≤ (x11 + (2 * x13)) ∧ (x11 + (2 * x13)) < 1159540) ∧ (0 ≤ (x3 + (2 * x13)) ∧ (x3 + (2 * x13)) < 1159540) ∧ (RI (m 379 (x11 + (2 * x13)))) ∧ (RI (m 379 (x3 + (2 * x13)))) ∧ (if (m 379 (x11 + (2 * x13))) = (m 379 (x3 + (2 * x13))) then (0 ≤ ((x11 + (2 * x13)) + 1) ∧ ((x11 + (2 * x13)) + 1) < 1159540) ∧ (0 ≤ ((x3 + (2 * x13)) + 1) ∧ ((x3 + (2 * x13)) + 1) < 1159540) ∧ (RI (m 379 ((x11 + (2 * x13)) + 1))) ∧ (RI (m 379 ((x3 + (2 * x13)) + 1))) ∧ (if (m 379 ((x11 + (2 * x13)) + 1)) = (m 379 ((x3 + (2 * x13)) + 1)) then P_X8_back_120 Q K43 n x1 x2 x3 x4 x5 x6 x7 x8 x9 x10 x11 1 (x13 + 1) m else P_X8_back_120 Q K43 n x1 x2 x3 x4 x5 x6 x7 x8 x9 x10 x11 0 (x13 + 1) m) else P_X8_back_120 Q K43 n x1 x2 x3 x4 x5 x6 x7 x8 x9 x10 x11 0 (x13 + 1) m)) else P_X8_back_211 Q K43 x1 x2 x3 x4 x5 x6 x7 x8 x9 x12 m)))
def P_X8_back_309 (Q : Int → MM → Prop) : Nat → Int → Int → Int → Int → MM → Prop
  | 0, _, _, _, _, _ => False
  | n + 1, x3, x6, x9, x10, m => (RI x10) ∧ (RI (x6 * x9)) ∧ (if (x6 * x9) ≤ x10 then Q 0 m else (0 ≤ ((x3 + (2 * x10)) + 1) ∧ ((x3 + (2 * x10)) + 1) < 1159540) ∧ (RI (m 379 ((x3 + (2 * x10)) + 1))) ∧ (if (m 379 ((x3 + (2 * x10)) + 1)) = 1 then P_X8_back_309 Q n x3 x6 x9 (x10 + 1) m else ∀ m1 : MM, m1 = up m 378 2 3 → P_X8_back_309 Q n x3 x6 x9 (x10 + 1) m1))
def P_X8_back_282 (Q : Int → MM → Prop) (x1 : Int) (x2 : Int) (x3 : Int) (x6 : Int) (x9 : Int) (m : MM) : Prop := P_X8_copy 1155420 x3 (x6 * x9) m (fun r1 m1 => P_X11_base x1 m1 (fun r2 m2 => P_X11_base x2 m2 (fun r3 m3 => (RI r2) ∧ (RI r3) ∧ (if r2 = r3 then Q 0 m3 else ∃ nn, P_X8_back_309 Q nn x3 x6 x9 0 m3))))
def P_X8_back_244 (Q : Int → MM → Prop) : Nat → Int → Int → Int → Int → Int → Int → Int → MM → Prop
  | 0, _, _, _, _, _, _, _, _ => False
  | n + 1, x1, x2, x3, x4, x6, x9, x10, m => (RI x10) ∧ (RI x9) ∧ (if x9 ≤ x10 then P_X8_back_282 Q x1 x2 x3 x6 x9 m else P_X8_copy (x3 + ((2 * x4) * x10)) (1155420 + ((2 * x6) * x10)) x6 m (fun r1 m1 => P_X8_back_244 Q n x1 x2 x3 x4 x6 x9 (x10 + 1) m1))
def P_X8_back_227 (Q : Int → MM → Prop) (x1 : Int) (x2 : Int) (x3 : Int) (x4 : Int) (x6 : Int) (m : MM) : Prop := (RI (m 378 2)) ∧ (if (m 378 2) = 0 then P_X11_entries x2 m (fun r1 m1 => ∃ nn, P_X8_back_244 Q nn x1 x2 x3 x4 x6 r1 0 m1) else Q 0 m)
def P_X8_back_43 (Q : Int → MM → Prop) : Nat → Int → Int → Int → Int → Int → Int → Int → Int → Int → MM → Prop
  | 0, _, _, _, _, _, _, _, _, _, _ => False
  | n + 1, x1, x2, x3, x4, x5, x6, x7, x8, x9, m => (RI x9) ∧ (RI x5) ∧ (if x5 ≤ x9 then P_X8_back_227 Q x1 x2 x3 x4 x6 m else ((RI x8) ∧ (if x8 = 0 then True else ((RI (x7 + 1)) ∧ ((x7 + 1) ≠ 0) ∧ (RI (Int.tmod x9 (x7 + 1)))))) ∧ (RI (if x8 = 0 then 0 else (if (Int.tmod x9 (x7 + 1)) = 0 then 0 else 1 : Int) : Int)) ∧ (if (if x8 = 0 then 0 else (if (Int.tmod x9 (x7 + 1)) = 0 then 0 else 1 : Int) : Int) = 0 then P_X8_isClear ((x3 + ((2 * x4) * x9)) + (2 * x6)) (x4 - x6) m (fun r1 m1 => ∃ nn, P_X8_back_120 Q (fun z0 z1 z2 z3 z4 z5 z6 z7 z8 z9 => P_X8_back_43 Q n z0 z1 z2 z3 z4 z5 z6 z7 z8 z9) nn x1 x2 x3 x4 x5 x6 x7 x8 x9 (if x8 = 0 then 0 else (if (Int.tmod x9 (x7 + 1)) = 0 then 0 else 1 : Int) : Int) (x3 + ((2 * x4) * x9)) r1 0 m1) else P_X8_isClear (x3 + ((2 * x4) * x9)) x4 m (fun r2 m2 => ∃ nn, P_X8_back_120 Q (fun z0 z1 z2 z3 z4 z5 z6 z7 z8 z9 => P_X8_back_43 Q n z0 z1 z2 z3 z4 z5 z6 z7 z8 z9) nn x1 x2 x3 x4 x5 x6 x7 x8 x9 (if x8 = 0 then 0 else (if (Int.tmod x9 (x7 + 1)) = 0 then 0 else 1 : Int) : Int) (x3 + ((2 * x4) * x9)) r2 0 m2)))
def P_X8_back (x1 : Int) (x2 : Int) (x3 : Int) (m : MM) (Q : Int → MM → Prop) : Prop := P_X11_coefficients x1 m (fun r1 m1 => P_X11_entries x1 m1 (fun r2 m2 => P_X11_coefficients x2 m2 (fun r3 m3 => P_X11_size x1 m3 (fun r4 m4 => P_X11_size x2 m4 (fun r5 m5 => (RI r4) ∧ (RI r5) ∧ (if r4 = r5 then ∃ nn, P_X8_back_43 Q nn x1 x2 x3 r1 r2 r3 r4 0 0 m5 else ∃ nn, P_X8_back_43 Q nn x1 x2 x3 r1 r2 r3 r4 1 0 m5))))))
theorem pl_X8_back_211 {f : Nat} {Q : Int → MM → Prop} {T : MM → Prop} (hf : 3 ≤ f) {K43 : Int → Int → Int → Int → Int → Int → Int → Int → Int → MM → Prop} (hK43 : ∀ (x1 : Int) (x2 : Int) (x3 : Int) (x4 : Int) (x5 : Int) (x6 : Int) (x7 : Int) (x8 : Int) (x9 : Int) (m : MM), K43 x1 x2 x3 x4 x5 x6 x7 x8 x9 m → B f M_X8_back 43 [vR 378, vI x1, vI x2, vI x3, vI x4, vI x5, vI x6, vI x7, vI x8, vI x9, vU, vU, vU, vU] [] m Q T) : ∀ (x1 : Int) (x2 : Int) (x3 : Int) (x4 : Int) (x5 : Int) (x6 : Int) (x7 : Int) (x8 : Int) (x9 : Int) (x12 : Int) (m : MM), P_X8_back_211 Q K43 x1 x2 x3 x4 x5 x6 x7 x8 x9 x12 m → B f M_X8_back 211 [vR 378, vI x1, vI x2, vI x3, vI x4, vI x5, vI x6, vI x7, vI x8, vI x9, vU, vU, vI x12, vU] [] m Q T := by
  intro x1 x2 x3 x4 x5 x6 x7 x8 x9 x12 m h
  have h : (RI x12) ∧ (if x12 = 0 then ∀ m1 : MM, m1 = up m 378 2 3 → K43 x1 x2 x3 x4 x5 x6 x7 x8 (x9 + 1) m1 else K43 x1 x2 x3 x4 x5 x6 x7 x8 (x9 + 1) m) := h
  refine b_iload dX8_back_211 rfl ?_
  obtain ⟨g1, h⟩ := h
  refine b_if_ne 221 dX8_back_213 g1 (by decide) (fun c1 => ?_) (fun c1 => ?_)
  · have h := ifF c1 h
    refine b_iinc (ls' := [vR 378, vI x1, vI x2, vI x3, vI x4, vI x5, vI x6, vI x7, vI x8, vI (x9 + 1), vU, vU, vI x12, vU]) dX8_back_221 rfl rfl ?_
    refine b_goto 43 dX8_back_224 (by decide) ?_
    refine b_fgt [true, true, true, true, true, true, true, true, true, true, false, false, false, false] (ls' := [vR 378, vI x1, vI x2, vI x3, vI x4, vI x5, vI x6, vI x7, vI x8, vI (x9 + 1), vU, vU, vU, vU]) rfl rfl ?_
    exact hK43 _ _ _ _ _ _ _ _ _ _ h
  · have h := ifT (Decidable.of_not_not c1) h
    refine b_aload_n dX8_back_216 rfl ?_
    refine b_iconst dX8_back_217 ?_
    refine b_putI dX8_back_218 fk_X8_26 ly_378 (fun m1 em1 => ?_)
    have h := h m1 em1
    refine b_iinc (ls' := [vR 378, vI x1, vI x2, vI x3, vI x4, vI x5, vI x6, vI x7, vI x8, vI (x9 + 1), vU, vU, vI x12, vU]) dX8_back_221 rfl rfl ?_
    refine b_goto 43 dX8_back_224 (by decide) ?_
    refine b_fgt [true, true, true, true, true, true, true, true, true, true, false, false, false, false] (ls' := [vR 378, vI x1, vI x2, vI x3, vI x4, vI x5, vI x6, vI x7, vI x8, vI (x9 + 1), vU, vU, vU, vU]) rfl rfl ?_
    exact hK43 _ _ _ _ _ _ _ _ _ _ h
theorem pl_X8_back_120 {f : Nat} {Q : Int → MM → Prop} {T : MM → Prop} (hf : 3 ≤ f) {K43 : Int → Int → Int → Int → Int → Int → Int → Int → Int → MM → Prop} (hK43 : ∀ (x1 : Int) (x2 : Int) (x3 : Int) (x4 : Int) (x5 : Int) (x6 : Int) (x7 : Int) (x8 : Int) (x9 : Int) (m : MM), K43 x1 x2 x3 x4 x5 x6 x7 x8 x9 m → B f M_X8_back 43 [vR 378, vI x1, vI x2, vI x3, vI x4, vI x5, vI x6, vI x7, vI x8, vI x9, vU, vU, vU, vU] [] m Q T) : ∀ (n : Nat) (x1 : Int) (x2 : Int) (x3 : Int) (x4 : Int) (x5 : Int) (x6 : Int) (x7 : Int) (x8 : Int) (x9 : Int) (x10 : Int) (x11 : Int) (x12 : Int) (x13 : Int) (m : MM), P_X8_back_120 Q K43 n x1 x2 x3 x4 x5 x6 x7 x8 x9 x10 x11 x12 x13 m → B f M_X8_back 120 [vR 378, vI x1, vI x2, vI x3, vI x4, vI x5, vI x6, vI x7, vI x8, vI x9, vI x10, vI x11, vI x12, vI x13] [] m Q T := by
  intro n
  induction n with
  | zero => intro x1 x2 x3 x4 x5 x6 x7 x8 x9 x10 x11 x12 x13 m h; exact h.elim
  | succ n ih =>
    intro x1 x2 x3 x4 x5 x6 x7 x8 x9 x10 x11 x12 x13 m h
    have h : (RI x12) ∧ (if x12 = 0 then P_X8_back_211 Q K43 x1 x2 x3 x4 x5 x6 x7 x8 x9 x12 m else (RI x8) ∧ (if x8 = 0 then P_X8_back_211 Q K43 x1 x2 x3 x4 x5 x6 x7 x8 x9 x12 m else (RI x10) ∧ (if x10 = 0 then (RI x13) ∧ (RI x6) ∧ (if x6 ≤ x13 then P_X8_back_211 Q K43 x1 x2 x3 x4 x5 x6 x7 x8 x9 x12 m else (0 ≤ (x11 + (2 * x13)) ∧ (x11 + (2 * x13)) < 1159540) ∧ (0 ≤ (x3 + (2 * x13)) ∧ (x3 + (2 * x13)) < 1159540) ∧ (RI (m 379 (x11 + (2 * x13)))) ∧ (RI (m 379 (x3 + (2 * x13)))) ∧ (if (m 379 (x11 + (2 * x13))) = (m 379 (x3 + (2 * x13))) then (0 ≤ ((x11 + (2 * x13)) + 1) ∧ ((x11 + (2 * x13)) + 1) < 1159540) ∧ (0 ≤ ((x3 + (2 * x13)) + 1) ∧ ((x3 + (2 * x13)) + 1) < 1159540) ∧ (RI (m 379 ((x11 + (2 * x13)) + 1))) ∧ (RI (m 379 ((x3 + (2 * x13)) + 1))) ∧ (if (m 379 ((x11 + (2 * x13)) + 1)) = (m 379 ((x3 + (2 * x13)) + 1)) then P_X8_back_120 Q K43 n x1 x2 x3 x4 x5 x6 x7 x8 x9 x10 x11 1 (x13 + 1) m else P_X8_back_120 Q K43 n x1 x2 x3 x4 x5 x6 x7 x8 x9 x10 x11 0 (x13 + 1) m) else P_X8_back_120 Q K43 n x1 x2 x3 x4 x5 x6 x7 x8 x9 x10 x11 0 (x13 + 1) m)) else P_X8_back_211 Q K43 x1 x2 x3 x4 x5 x6 x7 x8 x9 x12 m))) := h
    refine b_iload dX8_back_120 rfl ?_
    obtain ⟨g1, h⟩ := h
    refine b_if_eq 211 dX8_back_122 g1 (by decide) (fun c1 => ?_) (fun c1 => ?_)
    · have h := ifT c1 h
      refine b_fgt [true, true, true, true, true, true, true, true, true, true, false, false, true, false] (ls' := [vR 378, vI x1, vI x2, vI x3, vI x4, vI x5, vI x6, vI x7, vI x8, vI x9, vU, vU, vI x12, vU]) rfl rfl ?_
      exact pl_X8_back_211 hf hK43 _ _ _ _ _ _ _ _ _ _ _ h
    · have h := ifF c1 h
      refine b_iload dX8_back_125 rfl ?_
      obtain ⟨g2, h⟩ := h
      refine b_if_eq 211 dX8_back_127 g2 (by decide) (fun c2 => ?_) (fun c2 => ?_)
      · have h := ifT c2 h
        refine b_fgt [true, true, true, true, true, true, true, true, true, true, false, false, true, false] (ls' := [vR 378, vI x1, vI x2, vI x3, vI x4, vI x5, vI x6, vI x7, vI x8, vI x9, vU, vU, vI x12, vU]) rfl rfl ?_
        exact pl_X8_back_211 hf hK43 _ _ _ _ _ _ _ _ _ _ _ h
      · have h := ifF c2 h
        refine b_iload dX8_back_130 rfl ?_
        obtain ⟨g3, h⟩ := h
        refine b_if_ne 211 dX8_back_132 g3 (by decide) (fun c3 => ?_) (fun c3 => ?_)
        · have h := ifF c3 h
          refine b_fgt [true, true, true, true, true, true, true, true, true, true, false, false, true, false] (ls' := [vR 378, vI x1, vI x2, vI x3, vI x4, vI x5, vI x6, vI x7, vI x8, vI x9, vU, vU, vI x12, vU]) rfl rfl ?_
          exact pl_X8_back_211 hf hK43 _ _ _ _ _ _ _ _ _ _ _ h
        · have h := ifT (Decidable.of_not_not c3) h
          refine b_iload dX8_back_135 rfl ?_
          refine b_iload dX8_back_137 rfl ?_
          obtain ⟨g4, h⟩ := h
          obtain ⟨g5, h⟩ := h
          refine b_icmp_ge 211 dX8_back_139 g4 g5 (by decide) (fun c4 => ?_) (fun c4 => ?_)
          · have h := ifT c4 h
            refine b_fgt [true, true, true, true, true, true, true, true, true, true, false, false, true, false] (ls' := [vR 378, vI x1, vI x2, vI x3, vI x4, vI x5, vI x6, vI x7, vI x8, vI x9, vU, vU, vI x12, vU]) rfl rfl ?_
            exact pl_X8_back_211 hf hK43 _ _ _ _ _ _ _ _ _ _ _ h
          · have h := ifF c4 h
            refine b_aload_n dX8_back_142 rfl ?_
            refine b_getR dX8_back_143 fk_X8_12 ly_378 gg_378_0 ?_
            refine b_iload dX8_back_146 rfl ?_
            refine b_iconst dX8_back_148 ?_
            refine b_iload dX8_back_149 rfl ?_
            refine b_imul dX8_back_151 ?_
            refine b_iadd dX8_back_152 ?_
            obtain ⟨g6, h⟩ := h
            refine b_iald dX8_back_153 ly_379 g6 ?_
            refine b_aload_n dX8_back_154 rfl ?_
            refine b_getR dX8_back_155 fk_X8_12 ly_378 gg_378_0 ?_
            refine b_iload_n dX8_back_158 rfl ?_
            refine b_iconst dX8_back_159 ?_
            refine b_iload dX8_back_160 rfl ?_
            refine b_imul dX8_back_162 ?_
            refine b_iadd dX8_back_163 ?_
            obtain ⟨g7, h⟩ := h
            refine b_iald dX8_back_164 ly_379 g7 ?_
            obtain ⟨g8, h⟩ := h
            obtain ⟨g9, h⟩ := h
            refine b_icmp_ne 202 dX8_back_165 g8 g9 (by decide) (fun c5 => ?_) (fun c5 => ?_)
            · have h := ifF c5 h
              refine b_iconst dX8_back_202 ?_
              refine b_istore (ls' := [vR 378, vI x1, vI x2, vI x3, vI x4, vI x5, vI x6, vI x7, vI x8, vI x9, vI x10, vI x11, vI 0, vI x13]) dX8_back_203 (Nat.le_of_ble_eq_true rfl) rfl ?_
              refine b_iinc (ls' := [vR 378, vI x1, vI x2, vI x3, vI x4, vI x5, vI x6, vI x7, vI x8, vI x9, vI x10, vI x11, vI 0, vI (x13 + 1)]) dX8_back_205 rfl rfl ?_
              refine b_goto 120 dX8_back_208 (by decide) ?_
              exact ih _ _ _ _ _ _ _ _ _ _ _ _ _ _ h
            · have h := ifT (Decidable.of_not_not c5) h
              refine b_aload_n dX8_back_168 rfl ?_
              refine b_getR dX8_back_169 fk_X8_12 ly_378 gg_378_0 ?_
              refine b_iload dX8_back_172 rfl ?_
              refine b_iconst dX8_back_174 ?_
              refine b_iload dX8_back_175 rfl ?_
              refine b_imul dX8_back_177 ?_
              refine b_iadd dX8_back_178 ?_
              refine b_iconst dX8_back_179 ?_
              refine b_iadd dX8_back_180 ?_
              obtain ⟨g10, h⟩ := h
              refine b_iald dX8_back_181 ly_379 g10 ?_
              refine b_aload_n dX8_back_182 rfl ?_
              refine b_getR dX8_back_183 fk_X8_12 ly_378 gg_378_0 ?_
              refine b_iload_n dX8_back_186 rfl ?_
              refine b_iconst dX8_back_187 ?_
              refine b_iload dX8_back_188 rfl ?_
              refine b_imul dX8_back_190 ?_
              refine b_iadd dX8_back_191 ?_
              refine b_iconst dX8_back_192 ?_
              refine b_iadd dX8_back_193 ?_
              obtain ⟨g11, h⟩ := h
              refine b_iald dX8_back_194 ly_379 g11 ?_
              obtain ⟨g12, h⟩ := h
              obtain ⟨g13, h⟩ := h
              refine b_icmp_ne 202 dX8_back_195 g12 g13 (by decide) (fun c6 => ?_) (fun c6 => ?_)
              · have h := ifF c6 h
                refine b_iconst dX8_back_202 ?_
                refine b_istore (ls' := [vR 378, vI x1, vI x2, vI x3, vI x4, vI x5, vI x6, vI x7, vI x8, vI x9, vI x10, vI x11, vI 0, vI x13]) dX8_back_203 (Nat.le_of_ble_eq_true rfl) rfl ?_
                refine b_iinc (ls' := [vR 378, vI x1, vI x2, vI x3, vI x4, vI x5, vI x6, vI x7, vI x8, vI x9, vI x10, vI x11, vI 0, vI (x13 + 1)]) dX8_back_205 rfl rfl ?_
                refine b_goto 120 dX8_back_208 (by decide) ?_
                exact ih _ _ _ _ _ _ _ _ _ _ _ _ _ _ h
              · have h := ifT (Decidable.of_not_not c6) h
                refine b_iconst dX8_back_198 ?_
                refine b_goto 203 dX8_back_199 (by decide) ?_
                refine b_istore (ls' := [vR 378, vI x1, vI x2, vI x3, vI x4, vI x5, vI x6, vI x7, vI x8, vI x9, vI x10, vI x11, vI 1, vI x13]) dX8_back_203 (Nat.le_of_ble_eq_true rfl) rfl ?_
                refine b_iinc (ls' := [vR 378, vI x1, vI x2, vI x3, vI x4, vI x5, vI x6, vI x7, vI x8, vI x9, vI x10, vI x11, vI 1, vI (x13 + 1)]) dX8_back_205 rfl rfl ?_
                refine b_goto 120 dX8_back_208 (by decide) ?_
                exact ih _ _ _ _ _ _ _ _ _ _ _ _ _ _ h
theorem pl_X8_back_309 {f : Nat} {Q : Int → MM → Prop} {T : MM → Prop} (hf : 3 ≤ f) : ∀ (n : Nat) (x3 : Int) (x6 : Int) (x9 : Int) (x10 : Int) (m : MM), P_X8_back_309 Q n x3 x6 x9 x10 m → B f M_X8_back 309 [vR 378, vU, vU, vI x3, vU, vU, vI x6, vU, vU, vI x9, vI x10, vU, vU, vU] [] m Q T := by
  intro n
  induction n with
  | zero => intro x3 x6 x9 x10 m h; exact h.elim
  | succ n ih =>
    intro x3 x6 x9 x10 m h
    have h : (RI x10) ∧ (RI (x6 * x9)) ∧ (if (x6 * x9) ≤ x10 then Q 0 m else (0 ≤ ((x3 + (2 * x10)) + 1) ∧ ((x3 + (2 * x10)) + 1) < 1159540) ∧ (RI (m 379 ((x3 + (2 * x10)) + 1))) ∧ (if (m 379 ((x3 + (2 * x10)) + 1)) = 1 then P_X8_back_309 Q n x3 x6 x9 (x10 + 1) m else ∀ m1 : MM, m1 = up m 378 2 3 → P_X8_back_309 Q n x3 x6 x9 (x10 + 1) m1)) := h
    refine b_iload dX8_back_309 rfl ?_
    refine b_iload dX8_back_311 rfl ?_
    refine b_iload dX8_back_313 rfl ?_
    refine b_imul dX8_back_315 ?_
    obtain ⟨g1, h⟩ := h
    obtain ⟨g2, h⟩ := h
    refine b_icmp_ge 347 dX8_back_316 g1 g2 (by decide) (fun c1 => ?_) (fun c1 => ?_)
    · have h := ifT c1 h
      exact b_vret dX8_back_347 rfl h
    · have h := ifF c1 h
      refine b_aload_n dX8_back_319 rfl ?_
      refine b_getR dX8_back_320 fk_X8_12 ly_378 gg_378_0 ?_
      refine b_iload_n dX8_back_323 rfl ?_
      refine b_iconst dX8_back_324 ?_
      refine b_iload dX8_back_325 rfl ?_
      refine b_imul dX8_back_327 ?_
      refine b_iadd dX8_back_328 ?_
      refine b_iconst dX8_back_329 ?_
      refine b_iadd dX8_back_330 ?_
      obtain ⟨g3, h⟩ := h
      refine b_iald dX8_back_331 ly_379 g3 ?_
      refine b_iconst dX8_back_332 ?_
      obtain ⟨g4, h⟩ := h
      refine b_icmp_eq 341 dX8_back_333 g4 (by decide) (by decide) (fun c2 => ?_) (fun c2 => ?_)
      · have h := ifT c2 h
        refine b_iinc (ls' := [vR 378, vU, vU, vI x3, vU, vU, vI x6, vU, vU, vI x9, vI (x10 + 1), vU, vU, vU]) dX8_back_341 rfl rfl ?_
        refine b_goto 309 dX8_back_344 (by decide) ?_
        exact ih _ _ _ _ _ h
      · have h := ifF c2 h
        refine b_aload_n dX8_back_336 rfl ?_
        refine b_iconst dX8_back_337 ?_
        refine b_putI dX8_back_338 fk_X8_26 ly_378 (fun m1 em1 => ?_)
        have h := h m1 em1
        refine b_iinc (ls' := [vR 378, vU, vU, vI x3, vU, vU, vI x6, vU, vU, vI x9, vI (x10 + 1), vU, vU, vU]) dX8_back_341 rfl rfl ?_
        refine b_goto 309 dX8_back_344 (by decide) ?_
        exact ih _ _ _ _ _ h
theorem pl_X8_back_282 {f : Nat} {Q : Int → MM → Prop} {T : MM → Prop} (hf : 3 ≤ f) : ∀ (x1 : Int) (x2 : Int) (x3 : Int) (x6 : Int) (x9 : Int) (m : MM), P_X8_back_282 Q x1 x2 x3 x6 x9 m → B f M_X8_back 282 [vR 378, vI x1, vI x2, vI x3, vU, vU, vI x6, vU, vU, vI x9, vU, vU, vU, vU] [] m Q T := by
  intro x1 x2 x3 x6 x9 m h
  have h : P_X8_copy 1155420 x3 (x6 * x9) m (fun r1 m1 => P_X11_base x1 m1 (fun r2 m2 => P_X11_base x2 m2 (fun r3 m3 => (RI r2) ∧ (RI r3) ∧ (if r2 = r3 then Q 0 m3 else ∃ nn, P_X8_back_309 Q nn x3 x6 x9 0 m3)))) := h
  refine b_aload_n dX8_back_282 rfl ?_
  refine b_ldc (1155420) dX8_back_283 q1317 (by decide) ?_
  refine b_iload_n dX8_back_285 rfl ?_
  refine b_iload dX8_back_286 rfl ?_
  refine b_iload dX8_back_288 rfl ?_
  refine b_imul dX8_back_290 ?_
  refine b_cVv (as := [vI 1155420, vI x3, vI (x6 * x9)]) (st := []) dX8_back_291 mf_X8_copy q1320 lk_X8_81 ly_378 rfl (p_X8_copy (f := 2) (Nat.le_refl _) _ _ _ _ h) (by omega) rfl rfl (Nat.le_of_ble_eq_true rfl) (by decide) rfl (fun _ => rfl) (fun r1 m1 h => ?_) (fun _ h => h)
  refine b_iload_n dX8_back_294 rfl ?_
  refine b_cSi (as := [vI x1]) (st := []) dX8_back_295 mf_X11_base lk_X8_108 (p_X11_base (f := 1) (Nat.le_refl _) _ _ h) (by omega) rfl rfl (Nat.le_of_ble_eq_true rfl) (by decide) rfl (fun _ => rfl) (fun r2 m2 h => ?_) (fun _ h => h)
  refine b_iload_n dX8_back_298 rfl ?_
  refine b_cSi (as := [vI x2]) (st := [vI r2]) dX8_back_299 mf_X11_base lk_X8_108 (p_X11_base (f := 1) (Nat.le_refl _) _ _ h) (by omega) rfl rfl (Nat.le_of_ble_eq_true rfl) (by decide) rfl (fun _ => rfl) (fun r3 m3 h => ?_) (fun _ h => h)
  obtain ⟨g1, h⟩ := h
  obtain ⟨g2, h⟩ := h
  refine b_icmp_ne 306 dX8_back_302 g1 g2 (by decide) (fun c1 => ?_) (fun c1 => ?_)
  · have h := ifF c1 h
    refine b_iconst dX8_back_306 ?_
    refine b_istore (ls' := [vR 378, vI x1, vI x2, vI x3, vU, vU, vI x6, vU, vU, vI x9, vI 0, vU, vU, vU]) dX8_back_307 (Nat.le_of_ble_eq_true rfl) rfl ?_
    refine b_fgt [true, false, false, true, false, false, true, false, false, true, true, false, false, false] (ls' := [vR 378, vU, vU, vI x3, vU, vU, vI x6, vU, vU, vI x9, vI 0, vU, vU, vU]) rfl rfl ?_
    obtain ⟨nn, h⟩ := h
    exact pl_X8_back_309 hf nn _ _ _ _ _ h
  · have h := ifT (Decidable.of_not_not c1) h
    exact b_vret dX8_back_305 rfl h
theorem pl_X8_back_244 {f : Nat} {Q : Int → MM → Prop} {T : MM → Prop} (hf : 3 ≤ f) : ∀ (n : Nat) (x1 : Int) (x2 : Int) (x3 : Int) (x4 : Int) (x6 : Int) (x9 : Int) (x10 : Int) (m : MM), P_X8_back_244 Q n x1 x2 x3 x4 x6 x9 x10 m → B f M_X8_back 244 [vR 378, vI x1, vI x2, vI x3, vI x4, vU, vI x6, vU, vU, vI x9, vI x10, vU, vU, vU] [] m Q T := by
  intro n
  induction n with
  | zero => intro x1 x2 x3 x4 x6 x9 x10 m h; exact h.elim
  | succ n ih =>
    intro x1 x2 x3 x4 x6 x9 x10 m h
    have h : (RI x10) ∧ (RI x9) ∧ (if x9 ≤ x10 then P_X8_back_282 Q x1 x2 x3 x6 x9 m else P_X8_copy (x3 + ((2 * x4) * x10)) (1155420 + ((2 * x6) * x10)) x6 m (fun r1 m1 => P_X8_back_244 Q n x1 x2 x3 x4 x6 x9 (x10 + 1) m1)) := h
    refine b_iload dX8_back_244 rfl ?_
    refine b_iload dX8_back_246 rfl ?_
    obtain ⟨g1, h⟩ := h
    obtain ⟨g2, h⟩ := h
    refine b_icmp_ge 282 dX8_back_248 g1 g2 (by decide) (fun c1 => ?_) (fun c1 => ?_)
    · have h := ifT c1 h
      refine b_fgt [true, true, true, true, false, false, true, false, false, true, false, false, false, false] (ls' := [vR 378, vI x1, vI x2, vI x3, vU, vU, vI x6, vU, vU, vI x9, vU, vU, vU, vU]) rfl rfl ?_
      exact pl_X8_back_282 hf _ _ _ _ _ _ h
    · have h := ifF c1 h
      refine b_aload_n dX8_back_251 rfl ?_
      refine b_iload_n dX8_back_252 rfl ?_
      refine b_iconst dX8_back_253 ?_
      refine b_iload dX8_back_254 rfl ?_
      refine b_imul dX8_back_256 ?_
      refine b_iload dX8_back_257 rfl ?_
      refine b_imul dX8_back_259 ?_
      refine b_iadd dX8_back_260 ?_
      refine b_ldc (1155420) dX8_back_261 q1317 (by decide) ?_
      refine b_iconst dX8_back_263 ?_
      refine b_iload dX8_back_264 rfl ?_
      refine b_imul dX8_back_266 ?_
      refine b_iload dX8_back_267 rfl ?_
      refine b_imul dX8_back_269 ?_
      refine b_iadd dX8_back_270 ?_
      refine b_iload dX8_back_271 rfl ?_
      refine b_cVv (as := [vI (x3 + ((2 * x4) * x10)), vI (1155420 + ((2 * x6) * x10)), vI x6]) (st := []) dX8_back_273 mf_X8_copy q1320 lk_X8_81 ly_378 rfl (p_X8_copy (f := 2) (Nat.le_refl _) _ _ _ _ h) (by omega) rfl rfl (Nat.le_of_ble_eq_true rfl) (by decide) rfl (fun _ => rfl) (fun r1 m1 h => ?_) (fun _ h => h)
      refine b_iinc (ls' := [vR 378, vI x1, vI x2, vI x3, vI x4, vU, vI x6, vU, vU, vI x9, vI (x10 + 1), vU, vU, vU]) dX8_back_276 rfl rfl ?_
      refine b_goto 244 dX8_back_279 (by decide) ?_
      exact ih _ _ _ _ _ _ _ _ h
theorem pl_X8_back_227 {f : Nat} {Q : Int → MM → Prop} {T : MM → Prop} (hf : 3 ≤ f) : ∀ (x1 : Int) (x2 : Int) (x3 : Int) (x4 : Int) (x6 : Int) (m : MM), P_X8_back_227 Q x1 x2 x3 x4 x6 m → B f M_X8_back 227 [vR 378, vI x1, vI x2, vI x3, vI x4, vU, vI x6, vU, vU, vU, vU, vU, vU, vU] [] m Q T := by
  intro x1 x2 x3 x4 x6 m h
  have h : (RI (m 378 2)) ∧ (if (m 378 2) = 0 then P_X11_entries x2 m (fun r1 m1 => ∃ nn, P_X8_back_244 Q nn x1 x2 x3 x4 x6 r1 0 m1) else Q 0 m) := h
  refine b_aload_n dX8_back_227 rfl ?_
  refine b_getI dX8_back_228 fk_X8_26 ly_378 ?_
  obtain ⟨g1, h⟩ := h
  refine b_if_eq 235 dX8_back_231 g1 (by decide) (fun c1 => ?_) (fun c1 => ?_)
  · have h := ifT c1 h
    refine b_iload_n dX8_back_235 rfl ?_
    refine b_cSi (as := [vI x2]) (st := []) dX8_back_236 mf_X11_entries lk_X8_119 (p_X11_entries (f := 2) (Nat.le_refl _) _ _ h) (by omega) rfl rfl (Nat.le_of_ble_eq_true rfl) (by decide) rfl (fun _ => rfl) (fun r1 m1 h => ?_) (fun _ h => h)
    refine b_istore (ls' := [vR 378, vI x1, vI x2, vI x3, vI x4, vU, vI x6, vU, vU, vI r1, vU, vU, vU, vU]) dX8_back_239 (Nat.le_of_ble_eq_true rfl) rfl ?_
    refine b_iconst dX8_back_241 ?_
    refine b_istore (ls' := [vR 378, vI x1, vI x2, vI x3, vI x4, vU, vI x6, vU, vU, vI r1, vI 0, vU, vU, vU]) dX8_back_242 (Nat.le_of_ble_eq_true rfl) rfl ?_
    obtain ⟨nn, h⟩ := h
    exact pl_X8_back_244 hf nn _ _ _ _ _ _ _ _ h
  · have h := ifF c1 h
    exact b_vret dX8_back_234 rfl h
theorem pl_X8_back_43 {f : Nat} {Q : Int → MM → Prop} {T : MM → Prop} (hf : 3 ≤ f) : ∀ (n : Nat) (x1 : Int) (x2 : Int) (x3 : Int) (x4 : Int) (x5 : Int) (x6 : Int) (x7 : Int) (x8 : Int) (x9 : Int) (m : MM), P_X8_back_43 Q n x1 x2 x3 x4 x5 x6 x7 x8 x9 m → B f M_X8_back 43 [vR 378, vI x1, vI x2, vI x3, vI x4, vI x5, vI x6, vI x7, vI x8, vI x9, vU, vU, vU, vU] [] m Q T := by
  intro n
  induction n with
  | zero => intro x1 x2 x3 x4 x5 x6 x7 x8 x9 m h; exact h.elim
  | succ n ih =>
    intro x1 x2 x3 x4 x5 x6 x7 x8 x9 m h
    have h : (RI x9) ∧ (RI x5) ∧ (if x5 ≤ x9 then P_X8_back_227 Q x1 x2 x3 x4 x6 m else ((RI x8) ∧ (if x8 = 0 then True else ((RI (x7 + 1)) ∧ ((x7 + 1) ≠ 0) ∧ (RI (Int.tmod x9 (x7 + 1)))))) ∧ (RI (if x8 = 0 then 0 else (if (Int.tmod x9 (x7 + 1)) = 0 then 0 else 1 : Int) : Int)) ∧ (if (if x8 = 0 then 0 else (if (Int.tmod x9 (x7 + 1)) = 0 then 0 else 1 : Int) : Int) = 0 then P_X8_isClear ((x3 + ((2 * x4) * x9)) + (2 * x6)) (x4 - x6) m (fun r1 m1 => ∃ nn, P_X8_back_120 Q (fun z0 z1 z2 z3 z4 z5 z6 z7 z8 z9 => P_X8_back_43 Q n z0 z1 z2 z3 z4 z5 z6 z7 z8 z9) nn x1 x2 x3 x4 x5 x6 x7 x8 x9 (if x8 = 0 then 0 else (if (Int.tmod x9 (x7 + 1)) = 0 then 0 else 1 : Int) : Int) (x3 + ((2 * x4) * x9)) r1 0 m1) else P_X8_isClear (x3 + ((2 * x4) * x9)) x4 m (fun r2 m2 => ∃ nn, P_X8_back_120 Q (fun z0 z1 z2 z3 z4 z5 z6 z7 z8 z9 => P_X8_back_43 Q n z0 z1 z2 z3 z4 z5 z6 z7 z8 z9) nn x1 x2 x3 x4 x5 x6 x7 x8 x9 (if x8 = 0 then 0 else (if (Int.tmod x9 (x7 + 1)) = 0 then 0 else 1 : Int) : Int) (x3 + ((2 * x4) * x9)) r2 0 m2))) := h
    refine b_iload dX8_back_43 rfl ?_
    refine b_iload dX8_back_45 rfl ?_
    obtain ⟨g1, h⟩ := h
    obtain ⟨g2, h⟩ := h
    refine b_icmp_ge 227 dX8_back_47 g1 g2 (by decide) (fun c1 => ?_) (fun c1 => ?_)
    · have h := ifT c1 h
      refine b_fgt [true, true, true, true, true, false, true, false, false, false, false, false, false, false] (ls' := [vR 378, vI x1, vI x2, vI x3, vI x4, vU, vI x6, vU, vU, vU, vU, vU, vU, vU]) rfl rfl ?_
      exact pl_X8_back_227 hf _ _ _ _ _ _ h
    · have h := ifF c1 h
      refine b_iload dX8_back_50 rfl ?_
      obtain ⟨hs, h⟩ := h
      have K : B f M_X8_back 70 [vR 378, vI x1, vI x2, vI x3, vI x4, vI x5, vI x6, vI x7, vI x8, vI x9, vU, vU, vU, vU] [vI (if x8 = 0 then 0 else (if (Int.tmod x9 (x7 + 1)) = 0 then 0 else 1 : Int) : Int)] m Q T := by
        clear hs
        refine b_istore (ls' := [vR 378, vI x1, vI x2, vI x3, vI x4, vI x5, vI x6, vI x7, vI x8, vI x9, vI (if x8 = 0 then 0 else (if (Int.tmod x9 (x7 + 1)) = 0 then 0 else 1 : Int) : Int), vU, vU, vU]) dX8_back_70 (Nat.le_of_ble_eq_true rfl) rfl ?_
        refine b_iload_n dX8_back_72 rfl ?_
        refine b_iconst dX8_back_73 ?_
        refine b_iload dX8_back_74 rfl ?_
        refine b_imul dX8_back_76 ?_
        refine b_iload dX8_back_77 rfl ?_
        refine b_imul dX8_back_79 ?_
        refine b_iadd dX8_back_80 ?_
        refine b_istore (ls' := [vR 378, vI x1, vI x2, vI x3, vI x4, vI x5, vI x6, vI x7, vI x8, vI x9, vI (if x8 = 0 then 0 else (if (Int.tmod x9 (x7 + 1)) = 0 then 0 else 1 : Int) : Int), vI (x3 + ((2 * x4) * x9)), vU, vU]) dX8_back_81 (Nat.le_of_ble_eq_true rfl) rfl ?_
        refine b_iload dX8_back_83 rfl ?_
        obtain ⟨g7, h⟩ := h
        refine b_if_eq 99 dX8_back_85 g7 (by decide) (fun c2 => ?_) (fun c2 => ?_)
        · have h := ifT c2 h
          refine b_aload_n dX8_back_99 rfl ?_
          refine b_iload dX8_back_100 rfl ?_
          refine b_iconst dX8_back_102 ?_
          refine b_iload dX8_back_103 rfl ?_
          refine b_imul dX8_back_105 ?_
          refine b_iadd dX8_back_106 ?_
          refine b_iload dX8_back_107 rfl ?_
          refine b_iload dX8_back_109 rfl ?_
          refine b_isub dX8_back_111 ?_
          refine b_cVi (as := [vI ((x3 + ((2 * x4) * x9)) + (2 * x6)), vI (x4 - x6)]) (st := []) dX8_back_112 mf_X8_isClear q1339 lk_X8_98 ly_378 rfl (p_X8_isClear (f := 1) (Nat.le_refl _) _ _ _ h) (by omega) rfl rfl (Nat.le_of_ble_eq_true rfl) (by decide) rfl (fun _ => rfl) (fun r1 m1 h => ?_) (fun _ h => h)
          refine b_istore (ls' := [vR 378, vI x1, vI x2, vI x3, vI x4, vI x5, vI x6, vI x7, vI x8, vI x9, vI (if x8 = 0 then 0 else (if (Int.tmod x9 (x7 + 1)) = 0 then 0 else 1 : Int) : Int), vI (x3 + ((2 * x4) * x9)), vI r1, vU]) dX8_back_115 (Nat.le_of_ble_eq_true rfl) rfl ?_
          refine b_iconst dX8_back_117 ?_
          refine b_istore (ls' := [vR 378, vI x1, vI x2, vI x3, vI x4, vI x5, vI x6, vI x7, vI x8, vI x9, vI (if x8 = 0 then 0 else (if (Int.tmod x9 (x7 + 1)) = 0 then 0 else 1 : Int) : Int), vI (x3 + ((2 * x4) * x9)), vI r1, vI 0]) dX8_back_118 (Nat.le_of_ble_eq_true rfl) rfl ?_
          obtain ⟨nn, h⟩ := h
          exact pl_X8_back_120 hf (fun _ _ _ _ _ _ _ _ _ _ h => ih _ _ _ _ _ _ _ _ _ _ h) nn _ _ _ _ _ _ _ _ _ _ _ _ _ _ h
        · have h := ifF c2 h
          refine b_aload_n dX8_back_88 rfl ?_
          refine b_iload dX8_back_89 rfl ?_
          refine b_iload dX8_back_91 rfl ?_
          refine b_cVi (as := [vI (x3 + ((2 * x4) * x9)), vI x4]) (st := []) dX8_back_93 mf_X8_isClear q1339 lk_X8_98 ly_378 rfl (p_X8_isClear (f := 1) (Nat.le_refl _) _ _ _ h) (by omega) rfl rfl (Nat.le_of_ble_eq_true rfl) (by decide) rfl (fun _ => rfl) (fun r2 m2 h => ?_) (fun _ h => h)
          refine b_goto 115 dX8_back_96 (by decide) ?_
          refine b_istore (ls' := [vR 378, vI x1, vI x2, vI x3, vI x4, vI x5, vI x6, vI x7, vI x8, vI x9, vI (if x8 = 0 then 0 else (if (Int.tmod x9 (x7 + 1)) = 0 then 0 else 1 : Int) : Int), vI (x3 + ((2 * x4) * x9)), vI r2, vU]) dX8_back_115 (Nat.le_of_ble_eq_true rfl) rfl ?_
          refine b_iconst dX8_back_117 ?_
          refine b_istore (ls' := [vR 378, vI x1, vI x2, vI x3, vI x4, vI x5, vI x6, vI x7, vI x8, vI x9, vI (if x8 = 0 then 0 else (if (Int.tmod x9 (x7 + 1)) = 0 then 0 else 1 : Int) : Int), vI (x3 + ((2 * x4) * x9)), vI r2, vI 0]) dX8_back_118 (Nat.le_of_ble_eq_true rfl) rfl ?_
          obtain ⟨nn, h⟩ := h
          exact pl_X8_back_120 hf (fun _ _ _ _ _ _ _ _ _ _ h => ih _ _ _ _ _ _ _ _ _ _ h) nn _ _ _ _ _ _ _ _ _ _ _ _ _ _ h
      obtain ⟨g3, hs⟩ := hs
      refine b_if_eq 69 dX8_back_52 g3 (by decide) (fun c3 => ?_) (fun c3 => ?_)
      ·
        refine b_iconst dX8_back_69 ?_
        rw [if_pos c3] at K
        exact K
      ·
        have hs := ifF c3 hs
        obtain ⟨g4, g5, g6⟩ := hs
        refine b_iload dX8_back_55 rfl ?_
        refine b_iload dX8_back_57 rfl ?_
        refine b_iconst dX8_back_59 ?_
        refine b_iadd dX8_back_60 ?_
        refine b_irem dX8_back_61 g1 g4 g5 ?_
        refine b_if_eq 69 dX8_back_62 g6 (by decide) (fun c4 => ?_) (fun c4 => ?_)
        ·
          refine b_iconst dX8_back_69 ?_
          rw [if_neg c3, if_pos c4] at K
          exact K
        ·
          refine b_iconst dX8_back_65 ?_
          refine b_goto 70 dX8_back_66 (by decide) ?_
          rw [if_neg c3, if_neg c4] at K
          exact K
theorem p_X8_back {f : Nat} {Q : Int → MM → Prop} {T : MM → Prop} (hf : 3 ≤ f) (x1 : Int) (x2 : Int) (x3 : Int) (m : MM) (h : P_X8_back x1 x2 x3 m Q) : CC f M_X8_back [vR 378, vI x1, vI x2, vI x3] m Q T := by
  refine CC.of (plainFor_of_name (by decide)) (Nat.le_of_ble_eq_true rfl) (ls := [vR 378, vI x1, vI x2, vI x3, vU, vU, vU, vU, vU, vU, vU, vU, vU, vU]) rfl ?_
  have h : P_X11_coefficients x1 m (fun r1 m1 => P_X11_entries x1 m1 (fun r2 m2 => P_X11_coefficients x2 m2 (fun r3 m3 => P_X11_size x1 m3 (fun r4 m4 => P_X11_size x2 m4 (fun r5 m5 => (RI r4) ∧ (RI r5) ∧ (if r4 = r5 then ∃ nn, P_X8_back_43 Q nn x1 x2 x3 r1 r2 r3 r4 0 0 m5 else ∃ nn, P_X8_back_43 Q nn x1 x2 x3 r1 r2 r3 r4 1 0 m5)))))) := h
  refine b_iload_n dX8_back_0 rfl ?_
  refine b_cSi (as := [vI x1]) (st := []) dX8_back_1 mf_X11_coefficients lk_X8_111 (p_X11_coefficients (f := 2) (Nat.le_refl _) _ _ h) (by omega) rfl rfl (Nat.le_of_ble_eq_true rfl) (by decide) rfl (fun _ => rfl) (fun r1 m1 h => ?_) (fun _ h => h)
  refine b_istore (ls' := [vR 378, vI x1, vI x2, vI x3, vI r1, vU, vU, vU, vU, vU, vU, vU, vU, vU]) dX8_back_4 (Nat.le_of_ble_eq_true rfl) rfl ?_
  refine b_iload_n dX8_back_6 rfl ?_
  refine b_cSi (as := [vI x1]) (st := []) dX8_back_7 mf_X11_entries lk_X8_119 (p_X11_entries (f := 2) (Nat.le_refl _) _ _ h) (by omega) rfl rfl (Nat.le_of_ble_eq_true rfl) (by decide) rfl (fun _ => rfl) (fun r2 m2 h => ?_) (fun _ h => h)
  refine b_istore (ls' := [vR 378, vI x1, vI x2, vI x3, vI r1, vI r2, vU, vU, vU, vU, vU, vU, vU, vU]) dX8_back_10 (Nat.le_of_ble_eq_true rfl) rfl ?_
  refine b_iload_n dX8_back_12 rfl ?_
  refine b_cSi (as := [vI x2]) (st := []) dX8_back_13 mf_X11_coefficients lk_X8_111 (p_X11_coefficients (f := 2) (Nat.le_refl _) _ _ h) (by omega) rfl rfl (Nat.le_of_ble_eq_true rfl) (by decide) rfl (fun _ => rfl) (fun r3 m3 h => ?_) (fun _ h => h)
  refine b_istore (ls' := [vR 378, vI x1, vI x2, vI x3, vI r1, vI r2, vI r3, vU, vU, vU, vU, vU, vU, vU]) dX8_back_16 (Nat.le_of_ble_eq_true rfl) rfl ?_
  refine b_iload_n dX8_back_18 rfl ?_
  refine b_cSi (as := [vI x1]) (st := []) dX8_back_19 mf_X11_size lk_X8_102 (p_X11_size (f := 1) (Nat.le_refl _) _ _ h) (by omega) rfl rfl (Nat.le_of_ble_eq_true rfl) (by decide) rfl (fun _ => rfl) (fun r4 m4 h => ?_) (fun _ h => h)
  refine b_istore (ls' := [vR 378, vI x1, vI x2, vI x3, vI r1, vI r2, vI r3, vI r4, vU, vU, vU, vU, vU, vU]) dX8_back_22 (Nat.le_of_ble_eq_true rfl) rfl ?_
  refine b_iload dX8_back_24 rfl ?_
  refine b_iload_n dX8_back_26 rfl ?_
  refine b_cSi (as := [vI x2]) (st := [vI r4]) dX8_back_27 mf_X11_size lk_X8_102 (p_X11_size (f := 1) (Nat.le_refl _) _ _ h) (by omega) rfl rfl (Nat.le_of_ble_eq_true rfl) (by decide) rfl (fun _ => rfl) (fun r5 m5 h => ?_) (fun _ h => h)
  obtain ⟨g1, h⟩ := h
  obtain ⟨g2, h⟩ := h
  refine b_icmp_eq 37 dX8_back_30 g1 g2 (by decide) (fun c1 => ?_) (fun c1 => ?_)
  · have h := ifT c1 h
    refine b_iconst dX8_back_37 ?_
    refine b_istore (ls' := [vR 378, vI x1, vI x2, vI x3, vI r1, vI r2, vI r3, vI r4, vI 0, vU, vU, vU, vU, vU]) dX8_back_38 (Nat.le_of_ble_eq_true rfl) rfl ?_
    refine b_iconst dX8_back_40 ?_
    refine b_istore (ls' := [vR 378, vI x1, vI x2, vI x3, vI r1, vI r2, vI r3, vI r4, vI 0, vI 0, vU, vU, vU, vU]) dX8_back_41 (Nat.le_of_ble_eq_true rfl) rfl ?_
    obtain ⟨nn, h⟩ := h
    exact pl_X8_back_43 hf nn _ _ _ _ _ _ _ _ _ _ h
  · have h := ifF c1 h
    refine b_iconst dX8_back_33 ?_
    refine b_goto 38 dX8_back_34 (by decide) ?_
    refine b_istore (ls' := [vR 378, vI x1, vI x2, vI x3, vI r1, vI r2, vI r3, vI r4, vI 1, vU, vU, vU, vU, vU]) dX8_back_38 (Nat.le_of_ble_eq_true rfl) rfl ?_
    refine b_iconst dX8_back_40 ?_
    refine b_istore (ls' := [vR 378, vI x1, vI x2, vI x3, vI r1, vI r2, vI r3, vI r4, vI 1, vI 0, vU, vU, vU, vU]) dX8_back_41 (Nat.le_of_ble_eq_true rfl) rfl ?_
    obtain ⟨nn, h⟩ := h
    exact pl_X8_back_43 hf nn _ _ _ _ _ _ _ _ _ _ h
