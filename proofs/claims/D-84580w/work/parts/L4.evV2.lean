set_option maxRecDepth 100000
/-! what parts come to: built-in functions' values are of their rings -/
section EVV2
variable {mo : Int} {V W U : VV}
theorem muR_0 : muR 0 mo = 0 := by show (if (0 : Int) = -2 then 0 else if (0 : Int) < 20000 then 0 else mo) = 0; rw [if_neg (by decide), if_pos (by decide)]
theorem muR_1 : muR 1 mo = 1 := by show (if (1 : Int) = -2 then 0 else if (1 : Int) < 20000 then 1 else mo) = 1; rw [if_neg (by decide), if_pos (by decide)]
theorem okMo_lt {b : Int} (h : b < 20000) : okMo b mo := ⟨fun z => by omega, fun z => by omega⟩
theorem fr_mo {a : R3} (h : okMo a.1 mo) : okMo (frac a).1 mo := by
  rcases frac_base a with e | e
  · rw [e]; exact okMo_lt (by decide)
  · rw [e]; exact h
theorem okR_ok {r : EX (Int → PP)} (h : okR r = .ok U) : ∃ w, r = .ok w ∧ U = rvv w := by
  cases r with
  | error e => cases h
  | ok w => exact ⟨w, rfl, by injection h with h; exact h.symm⟩
theorem fn1_VR {f : Int} {a r : R3} (ha : ok3 a) (hm : okMo a.1 mo) (hf : f ≠ 0 ∧ f ≠ 2 ∧ f ≠ 3) (hr : fn1S f a = some r) (nV : VR mo (fnA f a) V) (h : fnV f mo (fnA f a) r V V = .ok U) : VR mo r U := by
  have hM : MU (muR a.1 mo) := muR_MU (ok3_b ha) hm
  have ds := ok3_ds ha
  unfold fn1S at hr
  by_cases b : a.1 = -2
  · rw [if_pos b] at hr; cases hr
  rw [if_neg b] at hr
  have fin : NN (muR a.1 mo) a.2.1 a.2.2 U → VR mo a U := fun n => ⟨n, fun q => absurd q b⟩
  unfold fnV at h
  rw [if_neg hf.1] at h
  by_cases c1 : f = 1
  · rw [if_pos c1] at h hr
    by_cases c : a.2.2 = 0 ∧ a.2.1 ≠ 0
    · rw [if_pos c] at hr
      injection hr with hr
      injection h with h
      rw [← hr, ← h]
      have := odG_bd (c := cof ((fnA f a).2.1 - 1)) (u := V 0 0) 7
      exact VR_num (by omega)
    · rw [if_neg c] at hr; cases hr
  rw [if_neg c1] at h hr
  rw [if_neg hf.2.1, if_neg hf.2.2] at h
  by_cases c4 : f = 4
  · rw [if_pos c4] at h hr
    have ea : fnA f a = a := by unfold fnA; rw [if_neg (by omega)]
    rw [ea] at nV h
    by_cases c : a.2.2 = 0 ∧ a.2.1 ≠ 0
    · rw [if_pos c] at hr
      injection hr with hr
      rw [← hr]
      have nv := nV.1
      rw [c.1] at nv
      have n := derS_NN hM nv.nr h
      refine fin ?_
      rw [c.1]; exact n
    · rw [if_neg c] at hr; cases hr
  rw [if_neg c4] at h hr
  by_cases c5 : f = 5 ∨ f = 6
  · rw [if_pos c5] at hr
    have ea : fnA f a = a := by unfold fnA; rw [if_neg (by omega)]
    rw [ea] at nV h
    by_cases c : a.2.2 ≠ 0
    · rw [if_pos c] at hr
      injection hr with hr
      rw [← hr]
      have key : ∀ w, NR (muR a.1 mo) (cof a.2.1) w → VR mo (a.1, a.2.1, 0) (rvv w) := fun w nw => ⟨rvv_NN hM nw, fun q => absurd q b⟩
      rcases c5 with c5 | c5
      · rw [if_pos c5] at h
        obtain ⟨w, hw, rfl⟩ := okR_ok h
        exact key w (detS_NR hM ds.1 (by omega) nV.1 hw)
      · rw [if_neg (by omega), if_pos c5] at h
        obtain ⟨w, hw, rfl⟩ := okR_ok h
        exact key w (trG_NR hM ds.1 nV.1 _ _ _ w ⟨fun _ => NB_zr hM, fun _ _ => rfl⟩ hw)
    · rw [if_neg c] at hr; cases hr
  rw [if_neg c5] at hr
  rw [if_neg (by omega), if_neg (by omega)] at h
  by_cases c7 : f = 7 ∨ f = 8
  · rw [if_pos c7] at hr
    have ea : fnA f a = a := by unfold fnA; rw [if_neg (by omega)]
    rw [ea] at nV h
    by_cases c : a.2.2 ≠ 0
    · rw [if_pos c] at hr
      injection hr with hr
      rw [← hr]
      rcases c7 with c7 | c7
      · rw [if_pos c7] at h
        injection h with h
        subst h; exact fin (tpV_NN nV.1)
      · rw [if_neg (by omega), if_pos c7] at h
        exact fin (adjS_NN hM ds.1 (by omega) nV.1 h)
    · rw [if_neg c] at hr; cases hr
  rw [if_neg c7] at hr
  rw [if_neg (by omega), if_neg (by omega)] at h
  by_cases c9 : f = 9
  · rw [if_pos c9] at h hr
    have ea : fnA f a = frac a := by unfold fnA; rw [if_pos (by omega)]
    rw [ea] at nV h
    by_cases c : a.2.1 = 0 ∧ (a.1 = 0 ∨ isFb a.1)
    · rw [if_pos c] at hr
      injection hr with hr
      rw [← hr]
      have hMf : MU (muR (frac a).1 mo) := muR_MU (ok3_b (frac_ok ha)) (fr_mo hm)
      have nv := nV.1
      have e1 : (frac a).2.1 = 0 := c.1
      have e2 : (frac a).2.2 = a.2.2 := rfl
      rw [e1] at nv
      have n := invV_NN hMf (by rw [e2]; exact ds.2) nv h
      refine ⟨by rw [e1]; exact n, fun q => ?_⟩
      exfalso
      rcases frac_base a with e | e
      · rw [e] at q; omega
      · rw [e] at q; exact b q
    · rw [if_neg c] at hr; cases hr
  rw [if_neg c9] at h hr
  by_cases c10 : f = 10
  · rw [if_pos c10] at h hr
    have ea : fnA f a = a := by unfold fnA; rw [if_neg (by omega)]
    rw [ea] at nV h
    by_cases c : a.2.2 ≠ 0 ∧ a.2.1 = 0
    · rw [if_pos c] at hr
      injection hr with hr
      rw [← hr]
      have nv := nV.1
      rw [c.2] at nv
      exact ⟨charS_NN hM (by omega) nv h, fun q => absurd q b⟩
    · rw [if_neg c] at hr; cases hr
  rw [if_neg c10] at h hr
  by_cases c11 : f = 11
  · rw [if_pos c11] at h hr
    have ea : fnA f a = a := by unfold fnA; rw [if_neg (by omega)]
    rw [ea] at nV h
    by_cases c : a.2.2 = 0 ∧ a.2.1 = 1 ∧ 1 < a.1 ∧ isPb a.1
    · rw [if_pos c] at hr
      injection hr with hr
      injection h with h
      rw [← hr, ← h]
      have mub : 1 < muR a.1 mo ∧ muR a.1 mo ≤ 9973 := by
        unfold muR
        rw [if_neg b]
        by_cases c2 : a.1 < 20000
        · rw [if_pos c2]
          rcases c.2.2.2 with q | q
          · omega
          · exact ⟨c.2.2.1, q.1⟩
        · rw [if_neg c2]
          rcases c.2.2.2 with q | q
          · have w := hm.1 q
            have := w.1.1
            omega
          · omega
      have nu : ∀ k, 0 ≤ (V 0 0 k).1 ∧ (V 0 0 k).1 < muR a.1 mo := fun k => (nV.1.1 0 0 k).2.2.2.2 mub.1
      have := rtS_bd mub nu
      exact VR_num (by omega)
    · rw [if_neg c] at hr; cases hr
  rw [if_neg c11] at h hr
  by_cases c : a = (0, 0, 0) ∨ a = (1, 0, 0)
  · rw [if_pos c] at hr
    injection hr with hr
    injection h with h
    rw [← hr, ← h]
    have n := nV.1.1 0 0 0
    have p1 := n.p1
    have p2 := n.p2
    refine VR_num ?_
    by_cases c12 : f = 12
    · rw [if_pos c12]; exact p1
    · rw [if_neg c12]; omega
  · rw [if_neg c] at hr; cases hr
theorem fn2_VR {f : Int} {a b r : R3} (ha : ok3 a) (hb : ok3 b) (hma : okMo a.1 mo) (hmb : okMo b.1 mo) (hf : f = 0 ∨ f = 2 ∨ f = 3) (hr : fn2S f a b = some r) (nV : VR mo (if f = 0 then r else fnA f a) V) (nW : VR mo (if f = 2 then b else r) W) (h : fnV f mo (fnA f a) r V W = .ok U) : VR mo r U := by
  have hM : MU (muR a.1 mo) := muR_MU (ok3_b ha) hma
  have ds := ok3_ds ha
  have ea : fnA f a = a := by unfold fnA; rw [if_neg (by omega)]
  rw [ea] at nV h
  unfold fn2S at hr
  unfold fnV at h
  by_cases c : f = 0
  · rw [if_pos c] at hr h nV
    rw [if_neg (by omega)] at nW
    cases hj : jn a b with
    | none => rw [hj] at hr; cases hr
    | some j =>
      rw [hj] at hr
      simp only at hr
      by_cases cd : dvds j
      · rw [if_pos cd] at hr
        injection hr with hr
        subst hr
        have hjm : okMo j.1 mo := by
          rcases jn_base hj with e | e
          · rw [e]; exact hma
          · rw [e]; exact hmb
        have hMj : MU (muR j.1 mo) := muR_MU (ok3_b (jn_ok ha hb hj)) hjm
        unfold gcdV at h
        rcases cd with cd | cd
        · rw [cd] at h nV nW ⊢
          rw [if_pos rfl] at h
          injection h with h
          rw [← h]
          have := gcd_bd (nV.1.1 0 0 0).p1 (nW.1.1 0 0 0).p1
          exact VR_num (by omega)
        · rw [if_neg (by omega)] at h
          have nv := nV.1
          have nw := nW.1
          rw [cd.2.1, cd.2.2.1] at nv nw
          have n := gcdS_NN hMj nv.nr nw.nr h
          refine ⟨?_, fun q => absurd q cd.1⟩
          rw [cd.2.1, cd.2.2.1]; exact n
      · rw [if_neg cd] at hr; cases hr
  rw [if_neg c] at hr h nV
  rw [if_neg (show ¬ f = 1 by omega)] at h
  by_cases c1 : a.1 = -2 ∨ a.2.2 ≠ 0 ∨ a.2.1 = 0
  · rw [if_pos c1] at hr; cases hr
  rw [if_neg c1] at hr
  have b1 : a.1 ≠ -2 := fun z => c1 (.inl z)
  have nv := nV.1
  have s0 : a.2.2 = 0 := by omega
  rw [s0] at nv
  by_cases c2 : f = 2
  · rw [if_pos c2] at hr h nW
    by_cases c3 : b = (0, 0, 0)
    · rw [if_pos c3] at hr
      injection hr with hr
      injection h with h
      rw [← hr, ← h]
      exact ⟨rvv_NN hM (coS_NR hM nv.nr), fun q => absurd q b1⟩
    · rw [if_neg c3] at hr; cases hr
  rw [if_neg c2] at hr h nW
  rw [if_pos (show f = 3 by omega)] at h
  by_cases c3 : b.1 = -2
  · rw [if_pos c3] at hr; cases hr
  rw [if_neg c3] at hr
  have oa : ok3 (a.1, a.2.1 - 1, 0) := by
    rcases ha with w | w
    · exact absurd w.1 b1
    · exact .inr ⟨w.1, by show (0 : Int) ≤ a.2.1 - 1 ∧ a.2.1 - 1 ≤ 2; omega, by show (0 : Int) ≤ 0 ∧ (0 : Int) ≤ 3; decide⟩
  have or' := jn_ok oa hb hr
  have g1 := gs_vals oa or' (jn_gs oa hb hr).1
  have hmr : okMo r.1 mo := by
    rcases jn_base hr with e | e
    · rw [e]; exact hma
    · rw [e]; exact hmb
  have hMr : MU (muR r.1 mo) := muR_MU (ok3_b or') hmr
  have dr := ok3_ds or'
  have rb : r.1 ≠ -2 := fun q => by
    have w := (jn_gs oa hb hr).2.2.2 q
    have e1 : ((a.1, a.2.1 - 1, 0) : R3).1 = r.1 := by rw [w.1]
    exact b1 (e1.trans q)
  have g11 : a.1 = r.1 ∨ a.1 = 0 ∧ r.1 ≠ -2 := g1.1
  have g12 : a.2.1 - 1 ≤ r.2.1 := g1.2.1
  have n := atG_NN (s := r.2.2) (ch := if a.1 = r.1 then 0 else 1) hMr hM dr.1 (by omega) g12 nv.nr nW.1 ⟨fun z => ?_, fun z => ?_⟩ 7 zV U (NN_z hMr) h
  · exact ⟨n, fun q => absurd q rb⟩
  · by_cases e : a.1 = r.1
    · rw [e]
    · rw [if_neg e] at z; omega
  · by_cases e : a.1 = r.1
    · rw [if_pos e] at z; omega
    · have : a.1 = 0 := by omega
      rw [this]; exact muR_0
end EVV2
