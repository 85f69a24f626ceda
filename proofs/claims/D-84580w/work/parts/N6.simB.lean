set_option maxRecDepth 100000
/-! the component's machine: two values, built-in functions -/
theorem fn1_cs {f : Int} {a r : R3} (hf : 0 ≤ f ∧ f ≤ 13) (hn : ¬ (f = 0 ∨ f = 2 ∨ f = 3)) (hr : fn1S f a = some r) : a.1 ≠ -2 ∧ ((f = 1 ∧ a.2.2 = 0 ∧ a.2.1 ≠ 0 ∧ r = (0, 0, 0)) ∨ (f = 4 ∧ a.2.2 = 0 ∧ a.2.1 ≠ 0 ∧ r = a) ∨ ((f = 5 ∨ f = 6) ∧ a.2.2 ≠ 0 ∧ r = (a.1, a.2.1, 0)) ∨ ((f = 7 ∨ f = 8) ∧ a.2.2 ≠ 0 ∧ r = a) ∨ (f = 9 ∧ a.2.1 = 0 ∧ (a.1 = 0 ∨ isFb a.1) ∧ r = frac a) ∨ (f = 10 ∧ a.2.2 ≠ 0 ∧ a.2.1 = 0 ∧ r = (a.1, 1, 0)) ∨ (f = 11 ∧ a.2.2 = 0 ∧ a.2.1 = 1 ∧ (1 < a.1 ∧ isPb a.1) ∧ r = (0, 0, 0)) ∨ ((f = 12 ∨ f = 13) ∧ (a = (0, 0, 0) ∨ a = (1, 0, 0)) ∧ r = (0, 0, 0))) := by
  unfold fn1S at hr
  by_cases b : a.1 = -2
  · rw [if_pos b] at hr; cases hr
  rw [if_neg b] at hr
  refine ⟨b, ?_⟩
  by_cases c1 : f = 1
  · rw [if_pos c1] at hr
    by_cases c : a.2.2 = 0 ∧ a.2.1 ≠ 0
    · rw [if_pos c] at hr
      injection hr with hr
      exact .inl ⟨c1, c.1, c.2, hr.symm⟩
    · rw [if_neg c] at hr; cases hr
  rw [if_neg c1] at hr
  by_cases c4 : f = 4
  · rw [if_pos c4] at hr
    by_cases c : a.2.2 = 0 ∧ a.2.1 ≠ 0
    · rw [if_pos c] at hr
      injection hr with hr
      exact .inr (.inl ⟨c4, c.1, c.2, hr.symm⟩)
    · rw [if_neg c] at hr; cases hr
  rw [if_neg c4] at hr
  by_cases c5 : f = 5 ∨ f = 6
  · rw [if_pos c5] at hr
    by_cases c : a.2.2 ≠ 0
    · rw [if_pos c] at hr
      injection hr with hr
      exact .inr (.inr (.inl ⟨c5, c, hr.symm⟩))
    · rw [if_neg c] at hr; cases hr
  rw [if_neg c5] at hr
  by_cases c7 : f = 7 ∨ f = 8
  · rw [if_pos c7] at hr
    by_cases c : a.2.2 ≠ 0
    · rw [if_pos c] at hr
      injection hr with hr
      exact .inr (.inr (.inr (.inl ⟨c7, c, hr.symm⟩)))
    · rw [if_neg c] at hr; cases hr
  rw [if_neg c7] at hr
  by_cases c9 : f = 9
  · rw [if_pos c9] at hr
    by_cases c : a.2.1 = 0 ∧ (a.1 = 0 ∨ isFb a.1)
    · rw [if_pos c] at hr
      injection hr with hr
      exact .inr (.inr (.inr (.inr (.inl ⟨c9, c.1, c.2, hr.symm⟩))))
    · rw [if_neg c] at hr; cases hr
  rw [if_neg c9] at hr
  by_cases c10 : f = 10
  · rw [if_pos c10] at hr
    by_cases c : a.2.2 ≠ 0 ∧ a.2.1 = 0
    · rw [if_pos c] at hr
      injection hr with hr
      exact .inr (.inr (.inr (.inr (.inr (.inl ⟨c10, c.1, c.2, hr.symm⟩)))))
    · rw [if_neg c] at hr; cases hr
  rw [if_neg c10] at hr
  by_cases c11 : f = 11
  · rw [if_pos c11] at hr
    by_cases c : a.2.2 = 0 ∧ a.2.1 = 1 ∧ 1 < a.1 ∧ isPb a.1
    · rw [if_pos c] at hr
      injection hr with hr
      exact .inr (.inr (.inr (.inr (.inr (.inr (.inl ⟨c11, c.1, c.2.1, c.2.2, hr.symm⟩))))))
    · rw [if_neg c] at hr; cases hr
  rw [if_neg c11] at hr
  by_cases c : a = (0, 0, 0) ∨ a = (1, 0, 0)
  · rw [if_pos c] at hr
    injection hr with hr
    exact .inr (.inr (.inr (.inr (.inr (.inr (.inr ⟨by omega, c, hr.symm⟩))))))
  · rw [if_neg c] at hr; cases hr
theorem fn2_cs {f : Int} {a b r : R3} (hn : f = 0 ∨ f = 2 ∨ f = 3) (hr : fn2S f a b = some r) : (f = 0 ∧ jn a b = some r ∧ dvds r) ∨ (f = 2 ∧ (a.1 ≠ -2 ∧ a.2.2 = 0 ∧ a.2.1 ≠ 0) ∧ b = (0, 0, 0) ∧ r = (a.1, a.2.1 - 1, 0)) ∨ (f = 3 ∧ (a.1 ≠ -2 ∧ a.2.2 = 0 ∧ a.2.1 ≠ 0) ∧ b.1 ≠ -2 ∧ jn (a.1, a.2.1 - 1, 0) b = some r) := by
  unfold fn2S at hr
  by_cases c : f = 0
  · rw [if_pos c] at hr
    cases hj : jn a b with
    | none => rw [hj] at hr; cases hr
    | some j =>
      rw [hj] at hr
      simp only at hr
      by_cases cd : dvds j
      · rw [if_pos cd] at hr
        injection hr with hr
        subst hr
        exact .inl ⟨c, rfl, cd⟩
      · rw [if_neg cd] at hr; cases hr
  rw [if_neg c] at hr
  by_cases c1 : a.1 = -2 ∨ a.2.2 ≠ 0 ∨ a.2.1 = 0
  · rw [if_pos c1] at hr; cases hr
  rw [if_neg c1] at hr
  have b1 : a.1 ≠ -2 ∧ a.2.2 = 0 ∧ a.2.1 ≠ 0 := by omega
  by_cases c2 : f = 2
  · rw [if_pos c2] at hr
    by_cases c3 : b = (0, 0, 0)
    · rw [if_pos c3] at hr
      injection hr with hr
      exact .inr (.inl ⟨c2, b1, c3, hr.symm⟩)
    · rw [if_neg c3] at hr; cases hr
  rw [if_neg c2] at hr
  by_cases c3 : b.1 = -2
  · rw [if_pos c3] at hr; cases hr
  rw [if_neg c3] at hr
  exact .inr (.inr ⟨by omega, b1, c3, hr⟩)
theorem low_ok {a : R3} (ha : ok3 a) (h : a.1 ≠ -2 ∧ a.2.2 = 0 ∧ a.2.1 ≠ 0) : ok3 (a.1, a.2.1 - 1, 0) := by
  rcases ha with w | w
  · exact absurd w.1 h.1
  · exact .inr ⟨w.1, by show (0 : Int) ≤ a.2.1 - 1 ∧ a.2.1 - 1 ≤ 2; omega, by show (0 : Int) ≤ 0 ∧ (0 : Int) ≤ 3; decide⟩
/-- at: the place's ring -/
theorem at_cs {a b r : R3} (ha : ok3 a) (hb : ok3 b) (b1 : a.1 ≠ -2 ∧ a.2.2 = 0 ∧ a.2.1 ≠ 0) (hr : jn (a.1, a.2.1 - 1, 0) b = some r) : ok3 r ∧ r.1 ≠ -2 ∧ a.2.1 - 1 ≤ r.2.1 ∧ (a.1 = r.1 ∨ a.1 = 0) := by
  have oa := low_ok ha b1
  have or' := jn_ok oa hb hr
  have g1 := gs_vals oa or' (jn_gs oa hb hr).1
  have rb : r.1 ≠ -2 := fun q => by
    have w := (jn_gs oa hb hr).2.2.2 q
    have e1 : ((a.1, a.2.1 - 1, 0) : R3).1 = r.1 := by rw [w.1]
    exact b1.1 (e1.trans q)
  have g11 : a.1 = r.1 ∨ a.1 = 0 ∧ r.1 ≠ -2 := g1.1
  exact ⟨or', rb, g1.2.1, by omega⟩
theorem frac_f {a : R3} (ha : ok3 a) (b : a.1 ≠ -2) (c : a.1 = 0 ∨ isFb a.1) : okb (frac a).1 ∧ isFb (frac a).1 := by
  have fo := frac_ok ha
  have f1 : (frac a).1 ≠ -2 := by
    rcases frac_base a with e | e
    · rw [e]; decide
    · rw [e]; exact b
  refine ⟨?_, ?_⟩
  · rcases fo with w | w
    · exact absurd w.1 f1
    · exact w.1
  · have e : (frac a).1 = (if a.1 = 0 then 1 else a.1) := rfl
    rw [e]
    by_cases q : a.1 = 0
    · rw [if_pos q]; exact .inl rfl
    · rw [if_neg q]
      rcases c with w | w
      · exact absurd w q
      · exact w
theorem pri_of {a mo : Int} (hm : okMo a mo) (h : 1 < a ∧ isPb a) : PRI (muR a mo) ∧ muR a mo ≤ 9973 := by
  unfold muR
  rw [if_neg (by omega)]
  by_cases c2 : a < 20000
  · rw [if_pos c2]
    rcases h.2 with q | q
    · omega
    · exact ⟨q.2, q.1⟩
  · rw [if_neg c2]
    rcases h.2 with q | q
    · exact hm.1 q
    · omega
section SIMB
variable {F : Int → FnR} {n : Int} {E : EVm} {fl : Int} {pre l : List SV} {need : Nat} {x z : R3} {s : ES} {fr : List Fr} {m : MM} {V W : VV} {p : Int} {Q : Int → MM → Prop}
theorem perf_719 {op a b : Int} (hop : 15 ≤ op ∧ op ≤ 24 ∨ 28 ≤ op ∧ op ≤ 41) (h : P_X6_perform_719 Q op a b m) : P_X6_perform op a b m Q := by
  unfold P_X6_perform
  refine ⟨by constructor <;> omega, ?_⟩
  rw [if_neg (by omega), if_neg (by omega), if_neg (by omega), if_neg (by omega), if_neg (by omega), if_neg (by omega), if_neg (by omega), if_neg (by omega), if_neg (by omega), if_neg (by omega), if_neg (by omega), if_neg (by omega), if_neg (by omega), if_neg (by omega), if_neg (by omega), if_neg (by omega), if_neg (by omega), if_neg (by omega)]
  exact h
theorem perf_fn {f a b : Int} (hf : 0 ≤ f ∧ f ≤ 13) (h : P_X6_function f a b m (fun _ m2 => Q 0 m2)) : P_X6_perform (28 + f) a b m Q := by
  refine perf_719 (by omega) ?_
  unfold P_X6_perform_719
  refine ⟨by constructor <;> omega, ?_⟩
  rw [if_neg (by omega), show 28 + f - 28 = f by omega]
  exact h
theorem sim_two {op : Int} (hz : ok3 z) (hm : okMo z.1 E.2.1) (hop : opOK op z) (nV : VR E.2.1 z V) (nW : VR E.2.1 (if op = 22 then (z.1, 0, 0) else z) W) : SimG F n E fl (fun _ => [(op, encC z, 0)]) [((if op = 22 then (z.1, 0, 0) else z).2.1, (if op = 22 then (z.1, 0, 0) else z).2.2, W), (z.2.1, z.2.2, V)] need (if op ≤ 18 then (-2, 0, 0) else z) s (binS op (muR z.1 E.2.1) z.2.1 z.2.2 V W, s) := by
  refine SimG.op (fun m1 fr l p Q' S hN hb h => ?_)
  have bd := S.bd hb
  have tp : m1 376 8 = (l.length : Int) + 2 := by
    have q := S.tp
    rw [q, List.length_append, List.length_cons, List.length_cons, List.length_nil]; omega
  have hM := muR_MU (ok3_b hz) hm
  have ho : 15 ≤ op ∧ op ≤ 24 := by rcases hop with c | ⟨c, -⟩ | ⟨c, -⟩ | ⟨c, -⟩ | ⟨c, -⟩ <;> omega
  have st : stG m1 (((if op = 22 then (z.1, 0, 0) else z).2.1, (if op = 22 then (z.1, 0, 0) else z).2.2, W) :: (z.2.1, z.2.2, V) :: l) := S.st
  have nv := nV.1
  refine perf_719 (.inl ho) ?_
  unfold P_X6_perform_719
  refine ⟨by constructor <;> omega, ?_⟩
  rw [if_pos (by omega)]
  by_cases c22 : op = 22
  · rw [if_pos c22] at st nW
    rw [if_neg (by omega)] at h
    have nw := nW.1
    have c' : okb z.1 ∧ isFb z.1 := by
      rcases hop with c | ⟨c, -⟩ | ⟨c, -⟩ | ⟨-, c⟩ | ⟨c, -⟩
      · omega
      · omega
      · omega
      · exact c
      · omega
    exact c_two_div c22 (encC_RG hz (by have := c'.1; omega)) st (by omega) tp S.ar S.er (S.mu hz (by have := c'.1; omega)) hM (muR_FD c'.1 hm c'.2) nv nw h
  rw [if_neg c22] at st nW
  have nw := nW.1
  rcases hop with c | ⟨c, c1, c2, c3⟩ | ⟨c, c1⟩ | ⟨c, -⟩ | ⟨c, c1, c2⟩
  · rw [if_pos (by omega)] at h
    exact c_two_same c (encC_RB hz) st (by omega) tp S.ar S.er nv nw h
  · rw [if_pos (by omega)] at h
    have hR := encC_RG hz (by omega)
    rw [c2, c3] at hR st nv nw h
    exact c_two_less c hR st (by omega) tp S.ar S.er nv nw h
  · rw [if_neg (by omega)] at h
    exact c_two_add c (encC_RG hz c1) st (by omega) tp S.ar S.er (S.mu hz c1) hM nv nw h
  · exact absurd c c22
  · rw [if_neg (by omega)] at h
    have zb : z.1 ≠ -2 := by
      rcases c2 with q | q
      · omega
      · have := q.1; omega
    have hR := encC_RG hz zb
    have hd : z.2.1 = 0 ∧ muR z.1 E.2.1 = 0 ∨ z.2.1 = 1 ∧ FD (muR z.1 E.2.1) := by
      rcases c2 with ⟨q1, q2⟩ | ⟨q1, q2, q3⟩
      · exact .inl ⟨q2, by rw [q1]; exact muR_0⟩
      · exact .inr ⟨q2, muR_FD q1 hm q3⟩
    rw [c1] at hR st nv nw h
    exact c_two_rest c hR st (by omega) tp S.ar S.er (S.mu hz zb) hM hd nv nw h
theorem sim_fn1 {f : Int} {a r : R3} (ha : ok3 a) (hm : okMo a.1 E.2.1) (hf : 0 ≤ f ∧ f ≤ 13) (hn : ¬ (f = 0 ∨ f = 2 ∨ f = 3)) (hr : fn1S f a = some r) (nV : VR E.2.1 (fnA f a) V) : SimG F n E fl (fun _ => [(28 + f, encC (fnA f a), encC r)]) [((fnA f a).2.1, (fnA f a).2.2, V)] need r s (fnV f E.2.1 (fnA f a) r V V, s) := by
  refine SimG.op (fun m1 fr l p Q' S hN hb h => perf_fn hf ?_)
  have bd := S.bd hb
  have tp : m1 376 8 = (l.length : Int) + 1 := by
    have q := S.tp
    rw [q, List.length_append, List.length_cons, List.length_nil]; omega
  have st : stG m1 (((fnA f a).2.1, (fnA f a).2.2, V) :: l) := S.st
  obtain ⟨b, cs⟩ := fn1_cs hf hn hr
  have hM : MU (muR a.1 E.2.1) := muR_MU (ok3_b ha) hm
  have hR := encC_RG ha b
  have ds := ok3_ds ha
  have mu := S.mu ha b
  have rest : ∀ {d' : Int}, (0 ≤ d' ∧ d' ≤ 2) → RG (encC (a.1, d', 0)) a.1 d' 0 := fun hd => by
    rcases ha with w | w
    · exact absurd w.1 b
    · exact encC_RG (x := (a.1, _, 0)) (.inr ⟨w.1, hd, by show (0 : Int) ≤ 0 ∧ (0 : Int) ≤ 3; decide⟩) b
  rcases cs with ⟨c, q1, q2, q3⟩ | ⟨c, q1, q2, q3⟩ | ⟨c, q1, q2⟩ | ⟨c, q1, q2⟩ | ⟨c, q1, q2, q3⟩ | ⟨c, q1, q2, q3⟩ | ⟨c, q1, q2, q3, q4⟩ | ⟨c, q1, q2⟩
  · have ea : fnA f a = a := by unfold fnA; rw [if_neg (by omega)]
    rw [ea] at st nV h ⊢
    subst c q3
    have nv := nV.1
    rw [q1] at st nv hR
    exact c_fn_1 hR (by omega) st (by omega) tp S.ar S.er nv h
  · have ea : fnA f a = a := by unfold fnA; rw [if_neg (by omega)]
    rw [ea] at st nV h ⊢
    subst c q3
    have nv := nV.1
    rw [q1] at st nv hR h
    exact c_fn_4 hR (by omega) st (by omega) tp S.ar S.er mu hM nv h
  · have ea : fnA f a = a := by unfold fnA; rw [if_neg (by omega)]
    rw [ea] at st nV h ⊢
    subst q2
    rcases c with c | c
    · subst c
      exact c_fn_5 hR (by omega) (rest ds.1) st (by omega) tp S.ar S.er mu hM nV.1 h
    · subst c
      exact c_fn_6 hR (by omega) (rest ds.1) st (by omega) tp S.ar S.er mu hM nV.1 h
  · have ea : fnA f a = a := by unfold fnA; rw [if_neg (by omega)]
    rw [ea] at st nV h ⊢
    subst q2
    rcases c with c | c
    · subst c
      exact c_fn_7 hR (by omega) st (by omega) tp S.ar S.er h
    · subst c
      exact c_fn_8 hR (by omega) st (by omega) tp S.ar S.er mu hM nV.1 h
  · have ea : fnA f a = frac a := by unfold fnA; rw [if_pos (by omega)]
    rw [ea] at st nV h ⊢
    subst c q3
    have ff := frac_f ha b q2
    have fo := frac_ok ha
    have fb : (frac a).1 ≠ -2 := by have := ff.1; omega
    have hR' := encC_RG fo fb
    have nv := nV.1
    have e1 : (frac a).2.1 = 0 := q1
    rw [e1] at hR' st nv h
    exact c_fn_9 hR' st (by omega) tp S.ar S.er (S.mu fo fb) (muR_MU (ok3_b fo) (fr_mo hm)) (muR_FD ff.1 (fr_mo hm) ff.2) nv h
  · have ea : fnA f a = a := by unfold fnA; rw [if_neg (by omega)]
    rw [ea] at st nV h ⊢
    subst c q3
    have nv := nV.1
    rw [q2] at st nv hR
    exact c_fn_10 hR (by omega) (rest (by decide)) st (by omega) tp S.ar S.er mu hM nv h
  · have ea : fnA f a = a := by unfold fnA; rw [if_neg (by omega)]
    rw [ea] at st nV h ⊢
    subst c q4
    have nv := nV.1
    have pp := pri_of hm q3
    rw [q1, q2] at st nv hR
    exact c_fn_11 hR st (by omega) tp S.ar S.er mu pp.1 pp.2 nv h
  · have ea : fnA f a = frac a := by unfold fnA; rw [if_pos (by omega)]
    rw [ea] at st nV h ⊢
    subst q2
    have ef : frac a = (1, 0, 0) := by rcases q1 with e | e <;> rw [e] <;> rfl
    rw [ef] at st nV h ⊢
    have hR' : RG (encC (1, 0, 0)) 1 0 0 := encC_RG (x := (1, 0, 0)) (.inr ⟨by decide, by decide, by decide⟩) (by decide)
    have e : fnV f E.2.1 (1, 0, 0) (0, 0, 0) V V = .ok (numV (if f = 12 then (V 0 0 0).1 else (V 0 0 0).2)) := by
      unfold fnV
      rw [if_neg (by omega), if_neg (by omega), if_neg (by omega), if_neg (by omega), if_neg (by omega), if_neg (by omega), if_neg (by omega), if_neg (by omega), if_neg (by omega), if_neg (by omega), if_neg (by omega), if_neg (by omega)]
    rw [e] at h
    exact c_fn_12 c hR' st (by omega) tp S.ar S.er h
theorem sim_fn2 {f : Int} {a b r : R3} (ha : ok3 a) (hb' : ok3 b) (hma : okMo a.1 E.2.1) (hmb : okMo b.1 E.2.1) (hn : f = 0 ∨ f = 2 ∨ f = 3) (hr : fn2S f a b = some r) (nV : VR E.2.1 (if f = 0 then r else a) V) (nW : VR E.2.1 (if f = 2 then b else r) W) : SimG F n E fl (fun _ => [(28 + f, encC a, encC r)]) [((if f = 2 then b else r).2.1, (if f = 2 then b else r).2.2, W), ((if f = 0 then r else a).2.1, (if f = 0 then r else a).2.2, V)] need r s (fnV f E.2.1 a r V W, s) := by
  refine SimG.op (fun m1 fr l p Q' S hN hb h => perf_fn (by omega) ?_)
  have bd := S.bd hb
  have tp : m1 376 8 = (l.length : Int) + 2 := by
    have q := S.tp
    rw [q, List.length_append, List.length_cons, List.length_cons, List.length_nil]; omega
  have st : stG m1 (((if f = 2 then b else r).2.1, (if f = 2 then b else r).2.2, W) :: ((if f = 0 then r else a).2.1, (if f = 0 then r else a).2.2, V) :: l) := S.st
  rcases fn2_cs hn hr with ⟨c, q1, q2⟩ | ⟨c, q1, q2, q3⟩ | ⟨c, q1, q2, q3⟩
  · subst c
    rw [if_pos rfl] at nV
    rw [if_neg (by decide)] at nW
    rw [if_pos rfl, if_neg (by decide)] at st
    have ro := jn_ok ha hb' q1
    have hjm : okMo r.1 E.2.1 := by
      rcases jn_base q1 with e | e
      · rw [e]; exact hma
      · rw [e]; exact hmb
    have rb : r.1 ≠ -2 := by
      rcases q2 with e | e
      · rw [e]; decide
      · exact e.1
    have ab : a.1 ≠ -2 := fun z => by
      have := ((jn_gs ha hb' q1).2.2.1 z).1
      rw [this] at z; exact rb z
    have hd : r.2.1 = 0 ∧ muR r.1 E.2.1 = 0 ∨ r.2.1 = 1 ∧ FD (muR r.1 E.2.1) := by
      rcases q2 with e | e
      · rw [e]; exact .inl ⟨rfl, muR_0⟩
      · refine .inr ⟨e.2.2.1, muR_FD ?_ hjm e.2.2.2⟩
        rcases ro with w | w
        · exact absurd w.1 rb
        · exact w.1
    have r2 : r.2.2 = 0 := by
      rcases q2 with e | e
      · rw [e]
      · exact e.2.1
    have hR := encC_RG ro rb
    have nv := nV.1
    have nw := nW.1
    have mu := S.mu ro rb
    rw [r2] at hR nv nw st h
    exact c_fn_0 (encC_RG ha ab) hR st (by omega) tp S.ar S.er mu (muR_MU (ok3_b ro) hjm) hd nv nw h
  · subst c q2
    rw [if_neg (by decide)] at nV
    rw [if_pos rfl] at nW
    rw [if_pos rfl, if_neg (by decide)] at st
    have nv := nV.1
    have nw := nW.1
    have hR := encC_RG ha q1.1
    have e4 : encC r = encC a - 4 := by
      rw [q3]
      unfold encC
      rw [if_neg q1.1]
      show 16 * a.1 + 4 * (a.2.1 - 1) + 0 = (if a.1 = -2 then -2 else 16 * a.1 + 4 * a.2.1 + a.2.2) - 4
      rw [if_neg q1.1]
      omega
    have nw' : NN 0 0 0 W := by
      have e : muR ((0, 0, 0) : R3).1 E.2.1 = 0 := muR_0
      rw [e] at nw
      exact nw
    have e5 : r.2.1 = a.2.1 - 1 ∧ r.2.2 = 0 := by rw [q3]; exact ⟨rfl, rfl⟩
    rw [e4]
    rw [e5.1, e5.2] at h
    rw [q1.2.1] at hR st nv
    exact c_fn_2 hR (by have := (ok3_ds ha).1; omega) st (by omega) tp S.ar S.er nw' h
  · subst c
    rw [if_neg (by decide)] at nV nW
    rw [if_neg (by decide), if_neg (by decide)] at st
    obtain ⟨ro, rb, rd, rr⟩ := at_cs ha hb' q1 q3
    have hmr : okMo r.1 E.2.1 := by
      rcases jn_base q3 with e | e
      · rw [e]; exact hma
      · rw [e]; exact hmb
    have hR := encC_RG ha q1.1
    have nv := nV.1
    rw [q1.2.1] at hR st nv
    refine c_fn_3 (ch := if a.1 = r.1 then 0 else 1) hR (by have := (ok3_ds ha).1; omega) (encC_RG ro rb) rd rfl st (by omega) tp S.ar S.er (S.mu ro rb) (muR_MU (ok3_b ro) hmr) (muR_MU (ok3_b ha) hma) ⟨fun z => ?_, fun z => ?_⟩ nv nW.1 h
    · by_cases e : a.1 = r.1
      · rw [e]
      · rw [if_neg e] at z; omega
    · by_cases e : a.1 = r.1
      · rw [if_pos e] at z; omega
      · have : a.1 = 0 := by omega
        rw [this]; exact muR_0
end SIMB
