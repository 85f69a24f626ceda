set_option maxRecDepth 100000
/-! what is known of a part by its kind -/
def Kd (F : Int → FnR) (e : JE) (a : PT) (x : R3) (rc : List R3) : Prop :=
  (rgN e a = x ∧ ok3 x ∧ allS (jdS e a.2).1 = some rc ∧ ∀ i, i < lenT a.2 → rgS e (prT a.2 i).1 (prT a.2 i).2 = some (rgN e (prT a.2 i)) ∧ ok3 (rgN e (prT a.2 i)) ∧ rc[i]? = some (rgN e (prT a.2 i))) ∧
  (a.1.1 = 3 → e.2.1 a.1.2.2.1 = some x) ∧
  (a.1.1 = 4 → ∃ i, e.1 a.1.2.2.2 = some (i, x) ∧ nmI e a.1.2.2.2 = i) ∧
  (a.1.1 = 5 → allP a.2 ∧ ∃ f R, clS e a.1.2.2.2 a.2 = (f, R, x) ∧ e.2.2.2.1 a.1.2.2.2 rc = some (f, R, x)) ∧
  (a.1.1 = 6 → allP a.2 ∧ fnS a.1.2.2.1 rc = some x) ∧
  (a.1.1 = 7 → allP a.2 ∧ x.1 ≠ -2 ∧ x.2.2 = a.1.2.2.1 ∧ (1 ≤ a.1.2.2.1 ∧ a.1.2.2.1 ≤ 3) ∧ (lenT a.2 : Int) = a.1.2.2.1 * a.1.2.2.1 ∧ ok3 (x.1, x.2.1, 0)) ∧
  (a.1.1 = 8 → allP a.2 ∧ lenT a.2 = 3 ∧ (rgN e (prT a.2 0)).1 = -2 ∧ jn (rgN e (prT a.2 1)) (rgN e (prT a.2 2)) = some x) ∧
  (a.1.1 = 9 ∨ a.1.1 = 10 → allP a.2 ∧ lenT a.2 = 2 ∧ x = (-2, 0, 0) ∧ rgN e (prT a.2 0) = (-2, 0, 0) ∧ rgN e (prT a.2 1) = (-2, 0, 0)) ∧
  (a.1.1 = 11 → allP a.2 ∧ lenT a.2 = 1 ∧ (rgN e (prT a.2 0)).1 = -2 ∧ x = (-2, 0, 0)) ∧
  (a.1.1 = 22 ∨ a.1.1 = 23 → allP a.2 ∧ lenT a.2 = 1 ∧ rgN e (prT a.2 0) = x ∧ x.1 ≠ -2 ∧ (a.1.1 = 23 → a.1.2.2.1 ≤ 12)) ∧
  (a.1.1 = 24 → lenT a.2 = 2 ∧ (0 ≤ (prT a.2 0).1.1 ∧ (prT a.2 0).1.1 ≤ 25) ∧ gs (rgN e (prT a.2 0)) x) ∧
  (a.1.1 = 25 → lenT a.2 = 2 ∧ (0 ≤ (prT a.2 0).1.1 ∧ (prT a.2 0).1.1 ≤ 25) ∧ gs x (rgN e (prT a.2 0))) ∧
  (12 ≤ a.1.1 ∧ a.1.1 ≤ 21 → allP a.2 ∧ lenT a.2 = 2 ∧ twoS a.1.1 (rgN e (prT a.2 0)) (rgN e (prT a.2 1)) = some x)
section CGK
variable {F : Int → FnR} {e : JE} {a : PT} {x : R3}
theorem nd_kd (he : JEok e) (hk : 0 ≤ a.1.1 ∧ a.1.1 ≤ 25) (w : okN a.1 a.2) (wc : wfT a.2) (hx : rgS e a.1 a.2 = some x) : ∃ rc, Kd F e a x rc := by
  obtain ⟨rc, hA, ho, h5⟩ := nd_inv (by omega) hx
  have hl := rc_at hA
  have eX : rgN e a = x := by
    show (rgS e a.1 a.2).getD (0, 0, 0) = x
    rw [hx]; rfl
  have okc : ∀ k, k < lenT a.2 → ok3 (rgN e (prT a.2 k)) := fun k hk' => by
    have q := prT_wf wc hk'
    exact rgS_ok he q.1 q.2 (hl.2 k hk').1
  have ar := okN_ar2 w
  refine ⟨rc, ⟨eX, rgS_ok he w wc hx, hA, fun i hi => ⟨(hl.2 i hi).1, okc i hi, (hl.2 i hi).2⟩⟩, ?_⟩
  unfold ownS at ho
  have bB : ∀ y : R3, ok3 y → y.1 = -2 → y = (-2, 0, 0) := by
    intro y oy yb
    rcases oy with q | q
    · exact Prod.ext q.1 (Prod.ext q.2.1 q.2.2)
    · have := q.1; unfold okb at this; omega
  by_cases c0 : a.1.1 = 0
  · refine ⟨?_, ?_, ?_, ?_, ?_, ?_, ?_, ?_, ?_, ?_, ?_, ?_⟩ <;> intro q <;> omega
  by_cases c1 : a.1.1 = 1
  · refine ⟨?_, ?_, ?_, ?_, ?_, ?_, ?_, ?_, ?_, ?_, ?_, ?_⟩ <;> intro q <;> omega
  by_cases c2 : a.1.1 = 2
  · refine ⟨?_, ?_, ?_, ?_, ?_, ?_, ?_, ?_, ?_, ?_, ?_, ?_⟩ <;> intro q <;> omega
  rw [if_neg c0, if_neg c1, if_neg c2] at ho
  by_cases c3 : a.1.1 = 3
  · rw [if_pos c3] at ho
    refine ⟨fun _ => ho, ?_, ?_, ?_, ?_, ?_, ?_, ?_, ?_, ?_, ?_, ?_⟩ <;> intro q <;> omega
  rw [if_neg c3] at ho
  by_cases c4 : a.1.1 = 4
  · rw [if_pos c4] at ho
    refine ⟨?_, fun _ => ?_, ?_, ?_, ?_, ?_, ?_, ?_, ?_, ?_, ?_, ?_⟩
    rotate_left
    · cases hn : e.1 a.1.2.2.2 with
      | none => rw [hn] at ho; cases ho
      | some y =>
        rw [hn] at ho
        injection ho with ho
        exact ⟨y.1, by rw [← ho], by unfold nmI; rw [hn]⟩
    all_goals (intro q; omega)
  rw [if_neg c4] at ho
  by_cases c5 : a.1.1 = 5
  · rw [if_pos c5] at ho
    refine ⟨?_, ?_, fun _ => ⟨(ar (by omega)).2, ?_⟩, ?_, ?_, ?_, ?_, ?_, ?_, ?_, ?_, ?_⟩
    rotate_left; rotate_left
    · cases hc : e.2.2.2.1 a.1.2.2.2 rc with
      | none => rw [hc] at ho; cases ho
      | some y =>
        obtain ⟨f, R, z⟩ := y
        rw [hc] at ho
        injection ho with ho
        have ho : z = x := ho
        subst ho
        refine ⟨f, R, ?_, rfl⟩
        unfold clS
        rw [← (allS_get hA).2.2, hc]; rfl
    all_goals (intro q; omega)
  rw [if_neg c5] at ho
  by_cases c6 : a.1.1 = 6
  · rw [if_pos c6] at ho
    refine ⟨?_, ?_, ?_, fun _ => ⟨(ar (by omega)).2, ho⟩, ?_, ?_, ?_, ?_, ?_, ?_, ?_, ?_⟩ <;> (intro q; omega)
  rw [if_neg c6] at ho
  by_cases c7 : a.1.1 = 7
  · rw [if_pos c7] at ho
    refine ⟨?_, ?_, ?_, ?_, fun _ => ⟨(ar (by omega)).2, ?_⟩, ?_, ?_, ?_, ?_, ?_, ?_, ?_⟩
    rotate_left; rotate_left; rotate_left; rotate_left
    · unfold mxS at ho
      cases hr : rc with
      | nil => rw [hr] at ho; cases ho
      | cons b l =>
        rw [hr] at ho
        simp only at ho
        cases hj : jnL b l with
        | none => rw [hj] at ho; cases ho
        | some j =>
          rw [hj] at ho
          simp only at ho
          by_cases cv : 0 < a.1.2.2.1 ∧ j.1 ≠ -2 ∧ j.2.2 = 0
          · rw [if_pos cv] at ho
            injection ho with ho
            have v3 := w.2.2.2.2.2.1 c7
            have xb : x.1 ≠ -2 := by rw [← ho]; exact cv.2.1
            refine ⟨xb, by rw [← ho], by omega, v3.2 (by omega), ?_⟩
            rcases rgS_ok he w wc hx with q | q
            · exact absurd q.1 xb
            · exact .inr ⟨q.1, q.2.1, by show (0 : Int) ≤ 0 ∧ (0 : Int) ≤ 3; decide⟩
          · rw [if_neg cv] at ho; cases ho
    all_goals (intro q; omega)
  rw [if_neg c7] at ho
  by_cases c8 : a.1.1 = 8
  · have aa := ar (by omega)
    have l3 := (ar_len aa.1).2.2.1 c8
    rw [rc_3 hA l3] at ho
    simp only at ho
    by_cases b0 : (rgN e (prT a.2 0)).1 = -2
    · rw [if_pos b0] at ho
      refine ⟨?_, ?_, ?_, ?_, ?_, fun _ => ⟨aa.2, l3, b0, ho⟩, ?_, ?_, ?_, ?_, ?_, ?_⟩ <;> (intro q; omega)
    · rw [if_neg b0] at ho; cases ho
  by_cases c9 : a.1.1 = 9 ∨ a.1.1 = 10
  · have aa := ar (by omega)
    have l2 := (ar_len aa.1).2.2.2.1 (by omega)
    rw [rc_2 hA l2] at ho
    simp only at ho
    rw [if_neg (by omega), if_neg (by omega)] at ho
    refine ⟨?_, ?_, ?_, ?_, ?_, ?_, fun _ => ⟨aa.2, l2, ?_⟩, ?_, ?_, ?_, ?_, ?_⟩
    rotate_left; rotate_left; rotate_left; rotate_left; rotate_left; rotate_left
    · unfold twoS at ho
      cases hj : jn (rgN e (prT a.2 0)) (rgN e (prT a.2 1)) with
      | none => rw [hj] at ho; cases ho
      | some j =>
        rw [hj] at ho
        simp only at ho
        rw [if_pos c9] at ho
        by_cases b : (rgN e (prT a.2 0)).1 = -2 ∧ (rgN e (prT a.2 1)).1 = -2
        · rw [if_pos b] at ho
          injection ho with ho
          exact ⟨ho.symm, bB _ (okc 0 (by omega)) b.1, bB _ (okc 1 (by omega)) b.2⟩
        · rw [if_neg b] at ho; cases ho
    all_goals (intro q; omega)
  by_cases cc : a.1.1 = 11 ∨ a.1.1 = 22 ∨ a.1.1 = 23
  · have aa := ar (by omega)
    have l1 := (ar_len aa.1).2.2.2.2 cc
    rw [rc_1 hA l1] at ho
    simp only at ho
    by_cases c11 : a.1.1 = 11
    · rw [if_pos c11] at ho
      by_cases b : (rgN e (prT a.2 0)).1 = -2
      · rw [if_pos b] at ho
        injection ho with ho
        refine ⟨?_, ?_, ?_, ?_, ?_, ?_, ?_, fun _ => ⟨aa.2, l1, b, ho.symm⟩, ?_, ?_, ?_, ?_⟩ <;> (intro q; omega)
      · rw [if_neg b] at ho; cases ho
    · rw [if_neg c11] at ho
      by_cases c22 : a.1.1 = 22
      · rw [if_pos c22] at ho
        by_cases b : (rgN e (prT a.2 0)).1 = -2
        · rw [if_pos b] at ho; cases ho
        · rw [if_neg b] at ho
          injection ho with ho
          refine ⟨?_, ?_, ?_, ?_, ?_, ?_, ?_, ?_, fun _ => ⟨aa.2, l1, ho, by rw [← ho]; exact b, fun z => by omega⟩, ?_, ?_, ?_⟩ <;> (intro q; omega)
      · rw [if_neg c22] at ho
        by_cases b : (rgN e (prT a.2 0)).1 ≠ -2 ∧ a.1.2.2.1 ≤ 12
        · rw [if_pos b] at ho
          injection ho with ho
          refine ⟨?_, ?_, ?_, ?_, ?_, ?_, ?_, ?_, fun _ => ⟨aa.2, l1, ho, by rw [← ho]; exact b.1, fun _ => b.2⟩, ?_, ?_, ?_⟩ <;> (intro q; omega)
        · rw [if_neg b] at ho; cases ho
  have cv : a.1.1 = 24 ∨ a.1.1 = 25 → lenT a.2 = 2 ∧ (0 ≤ (prT a.2 0).1.1 ∧ (prT a.2 0).1.1 ≤ 25) := by
    intro q
    rcases w.2.2.2.2.2.2.2.2 with u | u | u | u
    · have := (ar_len u.1); unfold arT at u; omega
    · obtain ⟨-, z, d1, uu, ca, st, e, k1, k2, -⟩ := u
      rw [e]
      refine ⟨?_, k1⟩
      show lenT st + 1 = 2
      cases st with
      | leaf => exact k2.elim
      | inner z2 d2 u2 c2 s2 =>
        have e2 := k2.2
        rw [e2]; rfl
    · omega
    · omega
  by_cases c24 : a.1.1 = 24
  · obtain ⟨l2, k0⟩ := cv (.inl c24)
    rw [rc_2 hA l2] at ho
    simp only at ho
    rw [if_pos c24] at ho
    by_cases b : jn (rgN e (prT a.2 0)) (rgN e (prT a.2 1)) = some (rgN e (prT a.2 1))
    · rw [if_pos b] at ho
      injection ho with ho
      rw [ho] at b
      refine ⟨?_, ?_, ?_, ?_, ?_, ?_, ?_, ?_, ?_, fun _ => ⟨l2, k0, b⟩, ?_, ?_⟩ <;> (intro q; omega)
    · rw [if_neg b] at ho; cases ho
  by_cases c25 : a.1.1 = 25
  · obtain ⟨l2, k0⟩ := cv (.inr c25)
    rw [rc_2 hA l2] at ho
    simp only at ho
    rw [if_neg (by omega), if_pos c25] at ho
    by_cases b : jn (rgN e (prT a.2 1)) (rgN e (prT a.2 0)) = some (rgN e (prT a.2 0))
    · rw [if_pos b] at ho
      injection ho with ho
      rw [ho] at b
      refine ⟨?_, ?_, ?_, ?_, ?_, ?_, ?_, ?_, ?_, ?_, fun _ => ⟨l2, k0, b⟩, ?_⟩ <;> (intro q; omega)
    · rw [if_neg b] at ho; cases ho
  have hk2 : 12 ≤ a.1.1 ∧ a.1.1 ≤ 21 := by omega
  have aa := ar (by omega)
  have l2 := (ar_len aa.1).2.2.2.1 (by omega)
  rw [rc_2 hA l2] at ho
  simp only at ho
  rw [if_neg c24, if_neg c25] at ho
  refine ⟨?_, ?_, ?_, ?_, ?_, ?_, ?_, ?_, ?_, ?_, ?_, fun _ => ⟨aa.2, l2, ho⟩⟩ <;> (intro q; omega)
end CGK
