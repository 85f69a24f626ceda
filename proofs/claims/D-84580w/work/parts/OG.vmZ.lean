set_option maxRecDepth 100000
/-! the model's tasks: all kinds of parts -/
section VMZ
variable {F : Int → FnR} {n : Int} {S : SGm} {ms : MM} {E : EVm} {h : Int} {rec : EVm → PT → ES → ER} {a : PT} {x : R3} {s : ES}
theorem simRK (hRg : RgO S n) (hFs : FsM F n) (hrec : SimQ F n S ms rec) (hV : VrO F n rec) (hE : EvO F n E) (hk : 0 ≤ a.1.1 ∧ a.1.1 ≤ 25) (w : okN a.1 a.2) (wc : wfT a.2) (hx : rgS E.1 a.1 a.2 = some x) : SimR F n S ms E h a s (evK F rec E a s) := by
  obtain ⟨rc, K, Kf'⟩ := nd_kf hE hk w wc hx
  have nb := nb_of K Kf'
  have wp := wT_pa nb
  have eX' : rgN E.1 a = x := K.1.1
  have x3 := K.1.2.1
  have xm := Kf'.1.1
  have part : ∀ (i : Nat) (s : ES), i < lenT a.2 → (0 ≤ (prT a.2 i).1.1 ∧ (prT a.2 i).1.1 ≤ 25) → SimE F n S ms E h (prT a.2 i) s (rec E (prT a.2 i) s) := by
    intro i s hi hkd
    have q := (Kf'.1.2.2 i hi).1
    exact hrec E h (prT a.2 i) s _ hE hkd q.1 q.2 (K.1.2.2.2 i hi).1
  have pV : ∀ {i : Nat} {s : ES} {V : VV} {s1 : ES}, i < lenT a.2 → (0 ≤ (prT a.2 i).1.1 ∧ (prT a.2 i).1.1 ≤ 25) → rec E (prT a.2 i) s = (.ok V, s1) → VR E.2.1 (rgN E.1 (prT a.2 i)) V := by
    intro i s V s1 hi hkd h
    have q := (Kf'.1.2.2 i hi).1
    exact hV E _ s V s1 _ hE hkd q.1 q.2 (K.1.2.2.2 i hi).1 h
  have left : ∀ (m : MM) (Q : Int → MM → Prop) (k : Int) (cs : List Int) (c0 : Int), isLf a.1.1 → NdM m E.1 (roM h) a k cs → cs[0]? = some c0 → (∀ Q' : Int → MM → Prop, (∀ m1, (∀ c i, ¬ (c = 582 ∧ i = 99) → ¬ (636 ≤ c ∧ c ≤ 640) → m1 c i = m c i) → P_X10_later c0 m1 (fun _ m2 => Q 0 m2) → Q' 0 m1) → P_X10_later_2 1 k 0 0 0 m Q') → RestM k Q m := by
    intro m Q k cs c0 lf' N hc0 hL
    have kk := N.kind hk
    have kl := (kM_left hk).2 lf'
    refine rstM_left N.1 (by rw [kk]; exact kl) (hL _ (fun m1 f1 q => ?_))
    have e : m 591 k = c0 := by
      have L := N.2.2.1
      unfold isLf at lf'
      by_cases c1 : a.1.1 = 9 ∨ a.1.1 = 10 ∨ 12 ≤ a.1.1 ∧ a.1.1 ≤ 21
      · rw [(L.2.2.2.1 c1).1] at hc0; injection hc0
      by_cases c2 : a.1.1 = 23
      · rw [(L.2.2.2.2.2.1 c2).1] at hc0; injection hc0
      · rw [(L.2.2.2.2.2.2.1 (by omega)).1] at hc0; injection hc0
    rw [e]; exact q
  have other : ∀ (wt : Int) (m : MM) (Q : Int → MM → Prop) (k : Int) (cs : List Int) (c0 : Int), (a.1.1 = 8 ∧ wt = 3 ∨ a.1.1 = 11 ∧ wt = 5 ∨ a.1.1 = 22 ∧ wt = 6) → NdM m E.1 (roM h) a k cs → cs[0]? = some c0 → (∀ Q' : Int → MM → Prop, (∀ m1, (∀ c i, ¬ (c = 582 ∧ i = 99) → ¬ (636 ≤ c ∧ c ≤ 640) → m1 c i = m c i) → P_X10_later c0 m1 (fun _ m2 => Q 0 m2) → Q' 0 m1) → P_X10_later_2 wt k 0 0 0 m Q') → RestM k Q m := by
    intro wt m Q k cs c0 hw N hc0 hL
    have kk := N.kind hk
    have kc := kM_cs hk
    have e : m 591 k = c0 := by
      have L := N.2.2.1
      by_cases c1 : a.1.1 = 8
      · rw [L.2.2.1 c1] at hc0; injection hc0
      · rw [L.2.2.2.2.1 (by omega)] at hc0; injection hc0
    refine rstM_8 (w := wt) N.1 ?_ (hL _ (fun m1 f1 q => by rw [e]; exact q))
    rw [kk]
    rcases hw with ⟨q1, q2⟩ | ⟨q1, q2⟩ | ⟨q1, q2⟩
    · exact .inl ⟨by rw [kc.2.2.1 (by omega)]; exact q1, q2⟩
    · exact .inr (.inl ⟨kc.2.2.2.2.2.1 q1, q2⟩)
    · exact .inr (.inr ⟨kc.2.2.2.2.2.2.2.1 q1, q2⟩)
  unfold evK
  by_cases c0 : a.1.1 = 0
  · rw [if_pos c0]; exact simR_0 c0
  by_cases c1 : a.1.1 = 1
  · rw [if_neg c0, if_pos c1]; exact simR_12 (.inl ⟨c1, rfl⟩)
  by_cases c2 : a.1.1 = 2
  · rw [if_neg c0, if_neg c1, if_pos c2]; exact simR_12 (.inr ⟨c2, rfl⟩)
  by_cases c3 : a.1.1 = 3
  · rw [if_neg c0, if_neg c1, if_neg c2, if_pos c3]; exact simR_3 c3 w hx (K.2.1 c3)
  by_cases c4 : a.1.1 = 4
  · obtain ⟨i, k1, k2⟩ := K.2.2.1 c4
    rw [if_neg c0, if_neg c1, if_neg c2, if_neg c3, if_pos c4, k2]
    exact simR_4 c4 hx k1
  by_cases c5 : a.1.1 = 5
  · obtain ⟨al, f', R', e1', hc'⟩ := K.2.2.2.1 c5
    obtain ⟨f, R, KC⟩ := Kf'.2.1 c5
    have ecl := KC.1
    have ee : (f', R', x) = (f, R, x) := by rw [← e1', ← ecl]
    injection ee with ef eR
    injection eR with eR _
    subst ef eR
    have np : (F f').2.1.toNat = lenT a.2 := by rw [KC.2.2.1]; omega
    rw [if_neg c0, if_neg c1, if_neg c2, if_neg c3, if_neg c4, if_pos c5]
    have e : evCall F rec E a s = mtE (evN (fun k => evP rec E a.2 ((instS (F f') ((k : Int) + 1) R').getD (0, 0, 0)) k) (lenT a.2) 0 (fun _ => zV) s) (fun g s1 => if E.2.2.1 = 20 then (.error 7, s1) else andE (rec (JEf F f' (nrmR R'), ownM E.2.1 R', E.2.2.1 + 1, (fun i => g i.toNat), E.2.2.2.2) (rootF (F f')) (s1.1, max s1.2 (E.2.2.1 + 1))) (fun V s2 => (.ok (conv (ownM E.2.1 R') (rgN (JEf F f' (nrmR R')) (rootF (F f'))) ((instS (F f') 0 (nrmR R')).getD (0, 0, 0)) V), s2))) := by
      unfold evCall
      rw [ecl]
      simp only
      rw [np]
      generalize evN (fun k => evP rec E a.2 ((instS (F f') ((k : Int) + 1) R').getD (0, 0, 0)) k) (lenT a.2) 0 (fun _ => zV) s = rr
      rcases rr with ⟨o, s1⟩
      cases o <;> rfl
    rw [e]
    exact simR_call hRg hFs hE c5 w wc al hx K KC hc' hrec hV (wp.2.2.2.1 (by omega) (by omega) (by omega))
  by_cases c6 : a.1.1 = 6
  · have al := (K.2.2.2.2.1 c6).1
    have wi := wp.2.2.2.1 (by omega) (by omega) (by omega)
    have f13 : 0 ≤ a.1.2.2.1 ∧ a.1.2.2.1 ≤ 13 := ⟨w.2.1.1, w.2.2.2.2.1 c6⟩
    rw [if_neg c0, if_neg c1, if_neg c2, if_neg c3, if_neg c4, if_neg c5, if_pos c6]
    have rest6 : ∀ (m : MM) (Q : Int → MM → Prop) (k : Int) (cs : List Int) (c0 : Int), NdM m E.1 (roM h) a k cs → cs[0]? = some c0 → (∀ Q' : Int → MM → Prop, (∀ m1, (∀ c i, ¬ (c = 582 ∧ i = 99) → ¬ (636 ≤ c ∧ c ≤ 640) → m1 c i = m c i) → P_X10_later c0 m1 (fun _ m2 => Q 0 m2) → Q' 0 m1) → P_X10_later_2 10 k 0 0 0 m Q') → RestM k Q m := by
      intro m Q k cs cc N hc0 hL
      have hit := N.2.2.1.1 (.inr c6)
      have hl : 0 < cs.length := by
        cases cs with
        | nil => cases hc0
        | cons c cs => rw [List.length_cons]; omega
      obtain ⟨c', q1, q2, q3, -⟩ := hit.first hl
      rw [q1] at hc0
      injection hc0 with hc0
      refine rstM_6 N.1 (by rw [N.kind hk, c6]; rfl) (hL _ (fun m1 f1 q => ⟨q2, ?_⟩))
      rw [f1 591 _ (by omega) (by omega), q3, hc0]
      exact q
    rcases Kf'.2.2.1 c6 with ⟨l1, l2, l3, l4, l5, l6⟩ | ⟨l1, l2, l3, l4, l5, l6⟩
    · have o0 := K.1.2.2.2 0 (by omega)
      have m0 := (Kf'.1.2.2 0 (by omega)).2
      have ab := (fn1_cs f13 l2 l3).1
      have cid : ∀ V, conv E.2.1 (rgN E.1 (prT a.2 0)) (fnA a.1.2.2.1 (rgN E.1 (prT a.2 0))) V = V := by
        intro V
        unfold fnA
        by_cases q : a.1.2.2.1 = 9 ∨ 11 < a.1.2.2.1
        · rw [if_pos q]; exact conv_frac ab
        · rw [if_neg q]; exact conv_self
      have e : evFun rec E a s = andE (rec E (prT a.2 0) s) (fun V s1 => (fnV a.1.2.2.1 E.2.1 (fnA a.1.2.2.1 (rgN E.1 (prT a.2 0))) x V V, s1)) := by
        unfold evFun evP
        rw [if_neg (show ¬ a.1.2.2.1 = 0 from fun z => l2 (.inl z)), eX', andE_as]
        simp only [if_neg l2]
        congr 1
        funext V s1
        show andE (.ok (conv E.2.1 (rgN E.1 (prT a.2 0)) (fnA a.1.2.2.1 (rgN E.1 (prT a.2 0))) V), s1) _ = _
        rw [cid]
        rfl
      rw [e]
      refine SimR.first (w := 10) hk w (by omega) (by have := wi 0 (by omega); omega) rest6 (part 0 s (by omega) (prT_kd al (by omega))) (fun V s1 h1 => ?_)
      exact simT_fn1 c6 w l1 l2 hx o0.1 o0.2.1 m0 l3 (pV (by omega) (prT_kd al (by omega)) h1)
    · have o0 := K.1.2.2.2 0 (by omega)
      have o1 := K.1.2.2.2 1 (by omega)
      have m0 := (Kf'.1.2.2 0 (by omega)).2
      have m1 := (Kf'.1.2.2 1 (by omega)).2
      have e : evFun rec E a s = andE (rec E (prT a.2 0) s) (fun V s1 => andE (rec E (prT a.2 1) s1) (fun W s2 => (fnV a.1.2.2.1 E.2.1 (rgN E.1 (prT a.2 0)) x (if a.1.2.2.1 = 0 then conv E.2.1 (rgN E.1 (prT a.2 0)) x V else V) (if a.1.2.2.1 = 2 then W else conv E.2.1 (rgN E.1 (prT a.2 1)) x W), s2))) := by
        unfold evFun evP
        rw [eX', l4, andE_as]
        simp only [if_pos l2]
        congr 1
        funext V s1
        have eV : conv E.2.1 (rgN E.1 (prT a.2 0)) (if a.1.2.2.1 = 0 then x else rgN E.1 (prT a.2 0)) V = (if a.1.2.2.1 = 0 then conv E.2.1 (rgN E.1 (prT a.2 0)) x V else V) := by
          by_cases q : a.1.2.2.1 = 0
          · rw [if_pos q, if_pos q]
          · rw [if_neg q, if_neg q]; exact conv_self
        show andE (andE (rec E (prT a.2 1) s1) _) _ = _
        rw [andE_as]
        congr 1
        funext W s2
        have eW : conv E.2.1 (rgN E.1 (prT a.2 1)) (if a.1.2.2.1 = 2 then rgN E.1 (prT a.2 1) else x) W = (if a.1.2.2.1 = 2 then W else conv E.2.1 (rgN E.1 (prT a.2 1)) x W) := by
          by_cases q : a.1.2.2.1 = 2
          · rw [if_pos q, if_pos q]; exact conv_self
          · rw [if_neg q, if_neg q]
        show (fnV a.1.2.2.1 E.2.1 (rgN E.1 (prT a.2 0)) x (conv E.2.1 (rgN E.1 (prT a.2 0)) (if a.1.2.2.1 = 0 then x else rgN E.1 (prT a.2 0)) V) (conv E.2.1 (rgN E.1 (prT a.2 1)) (if a.1.2.2.1 = 2 then rgN E.1 (prT a.2 1) else x) W), s2) = _
        rw [eV, eW]
      rw [e]
      refine SimR.first (w := 10) hk w (by omega) (by have := wi 0 (by omega); omega) rest6 (part 0 s (by omega) (prT_kd al (by omega))) (fun V s1 h1 => ?_)
      refine simT_fn2 c6 w l1 (by have := wi 1 (by omega); omega) l2 hx x3 xm o0.1 o1.1 o0.2.1 o1.2.1 m0 m1 l3 (fun q => (l5 q).1) (fun q => ?_) (pV (by omega) (prT_kd al (by omega)) h1) (part 1 s1 (by omega) (prT_kd al (by omega))) (fun W s2 h2 => pV (by omega) (prT_kd al (by omega)) h2)
      by_cases q0 : a.1.2.2.1 = 0
      · exact (l5 q0).2
      · exact l6 (by omega)
  by_cases c7 : a.1.1 = 7
  · obtain ⟨al, k1, k2, k3, k4, k5⟩ := K.2.2.2.2.2.1 c7
    have gg := Kf'.2.2.2.1 c7
    rw [if_neg c0, if_neg c1, if_neg c2, if_neg c3, if_neg c4, if_neg c5, if_neg c6, if_pos c7]
    have e : evMat rec E a s = mtE (evN (fun k => evP rec E a.2 (x.1, x.2.1, 0) k) (lenT a.2) 0 (fun _ => zV) s) (fun g s1 => (.ok (matV x.2.2 g), s1)) := by
      unfold evMat
      rw [eX']
      generalize evN (fun k => evP rec E a.2 (x.1, x.2.1, 0) k) (lenT a.2) 0 (fun _ => zV) s = rr
      rcases rr with ⟨o, s1⟩
      cases o <;> rfl
    rw [e]
    exact simR_mat c7 w k3 k2 k4 hx k5 xm (wp.2.2.1 c7) (fun i s hi => part i s hi (prT_kd al hi)) (fun i hi => ⟨(K.1.2.2.2 i hi).1, (K.1.2.2.2 i hi).2.1, (Kf'.1.2.2 i hi).2, gg i hi⟩) (fun i s W s1 hi q => pV hi (prT_kd al hi) q)
  by_cases c8 : a.1.1 = 8
  · obtain ⟨al, l3, b0, hj⟩ := K.2.2.2.2.2.2.1 c8
    have gg := Kf'.2.2.2.2.1 c8
    have wi := wp.1 (by omega)
    have r0 := B_eq (K.1.2.2.2 0 (by omega)).2.1 b0
    rw [if_neg c0, if_neg c1, if_neg c2, if_neg c3, if_neg c4, if_neg c5, if_neg c6, if_neg c7, if_pos c8, eX']
    refine SimR.first (w := 3) hk w (by omega) (wi 0 (by omega)) (fun m Q k cs c0 N q1 q2 => other 3 m Q k cs c0 (.inl ⟨c8, rfl⟩) N q1 q2) (part 0 s (by omega) (prT_kd al (by omega))) (fun V s1 h1 => ?_)
    have v := pV (by omega) (prT_kd al (by omega)) h1
    rw [r0] at v
    exact simT_if c8 w l3 (fun i hi => wi i (by omega)) hx x3 xm v (fun i hi => ⟨part i s1 (by omega) (prT_kd al (by omega)), ⟨(K.1.2.2.2 i (by omega)).1, (K.1.2.2.2 i (by omega)).2.1, (Kf'.1.2.2 i (by omega)).2⟩, fun W s2 q => pV (by omega) (prT_kd al (by omega)) q⟩) gg
  by_cases c9 : a.1.1 = 9
  · obtain ⟨al, l2, e1, e2, e3⟩ := K.2.2.2.2.2.2.2.1 (.inl c9)
    have wi := wp.1 (by omega)
    rw [if_neg c0, if_neg c1, if_neg c2, if_neg c3, if_neg c4, if_neg c5, if_neg c6, if_neg c7, if_neg c8, if_pos c9]
    refine SimR.first (w := 1) hk w (by omega) (wi 0 (by omega)) (fun m Q k cs c0 N q1 q2 => left m Q k cs c0 (.inl c9) N q1 q2) (part 0 s (by omega) (prT_kd al (by omega))) (fun V s1 h1 => ?_)
    have v := pV (by omega) (prT_kd al (by omega)) h1
    rw [e2] at v
    exact simT_bool (.inl ⟨c9, rfl⟩) w l2 (wi 1 (by omega)) v (part 1 s1 (by omega) (prT_kd al (by omega)))
  by_cases c10 : a.1.1 = 10
  · obtain ⟨al, l2, e1, e2, e3⟩ := K.2.2.2.2.2.2.2.1 (.inr c10)
    have wi := wp.1 (by omega)
    rw [if_neg c0, if_neg c1, if_neg c2, if_neg c3, if_neg c4, if_neg c5, if_neg c6, if_neg c7, if_neg c8, if_neg c9, if_pos c10]
    refine SimR.first (w := 1) hk w (by omega) (wi 0 (by omega)) (fun m Q k cs c0 N q1 q2 => left m Q k cs c0 (.inr (.inl c10)) N q1 q2) (part 0 s (by omega) (prT_kd al (by omega))) (fun V s1 h1 => ?_)
    have v := pV (by omega) (prT_kd al (by omega)) h1
    rw [e2] at v
    exact simT_bool (.inr ⟨c10, rfl⟩) w l2 (wi 1 (by omega)) v (part 1 s1 (by omega) (prT_kd al (by omega)))
  by_cases c11 : a.1.1 = 11
  · obtain ⟨al, l1, b0, e1⟩ := K.2.2.2.2.2.2.2.2.1 c11
    have wi := wp.2.2.2.1 (by omega) (by omega) (by omega)
    have r0 := B_eq (K.1.2.2.2 0 (by omega)).2.1 b0
    rw [if_neg c0, if_neg c1, if_neg c2, if_neg c3, if_neg c4, if_neg c5, if_neg c6, if_neg c7, if_neg c8, if_neg c9, if_neg c10, if_pos c11]
    refine SimR.first (w := 5) hk w (by omega) (by have := wi 0 (by omega); omega) (fun m Q k cs c0 N q1 q2 => other 5 m Q k cs c0 (.inr (.inl ⟨c11, rfl⟩)) N q1 q2) (part 0 s (by omega) (prT_kd al (by omega))) (fun V s1 h1 => ?_)
    have v := pV (by omega) (prT_kd al (by omega)) h1
    rw [r0] at v
    exact simT_not c11 v
  by_cases c22 : a.1.1 = 22
  · obtain ⟨al, l1, e1, xb, -⟩ := K.2.2.2.2.2.2.2.2.2.1 (.inl c22)
    have wi := wp.2.2.2.1 (by omega) (by omega) (by omega)
    rw [if_neg c0, if_neg c1, if_neg c2, if_neg c3, if_neg c4, if_neg c5, if_neg c6, if_neg c7, if_neg c8, if_neg c9, if_neg c10, if_neg c11, if_pos c22, eX']
    refine SimR.first (w := 6) hk w (by omega) (by have := wi 0 (by omega); omega) (fun m Q k cs c0 N q1 q2 => other 6 m Q k cs c0 (.inr (.inr ⟨c22, rfl⟩)) N q1 q2) (part 0 s (by omega) (prT_kd al (by omega))) (fun V s1 h1 => ?_)
    have v := pV (by omega) (prT_kd al (by omega)) h1
    rw [e1] at v
    exact simT_neg c22 hx x3 xb xm v
  by_cases c23 : a.1.1 = 23
  · obtain ⟨al, l1, e1, xb, v12⟩ := K.2.2.2.2.2.2.2.2.2.1 (.inr c23)
    have wi := wp.2.2.2.1 (by omega) (by omega) (by omega)
    rw [if_neg c0, if_neg c1, if_neg c2, if_neg c3, if_neg c4, if_neg c5, if_neg c6, if_neg c7, if_neg c8, if_neg c9, if_neg c10, if_neg c11, if_neg c22, if_pos c23, eX']
    refine SimR.first (w := 1) hk w (by omega) (by have := wi 0 (by omega); omega) (fun m Q k cs c0 N q1 q2 => left m Q k cs c0 (by unfold isLf; omega) N q1 q2) (part 0 s (by omega) (prT_kd al (by omega))) (fun V s1 h1 => ?_)
    have v := pV (by omega) (prT_kd al (by omega)) h1
    rw [e1] at v
    exact simT_pow c23 ⟨w.2.1.1, v12 c23⟩ hx x3 xb xm v
  by_cases c24 : a.1.1 = 24
  · obtain ⟨l2, k0, gg⟩ := K.2.2.2.2.2.2.2.2.2.2.1 c24
    have wi := wp.2.1 (by omega) (by omega)
    rw [if_neg c0, if_neg c1, if_neg c2, if_neg c3, if_neg c4, if_neg c5, if_neg c6, if_neg c7, if_neg c8, if_neg c9, if_neg c10, if_neg c11, if_neg c22, if_neg c23, if_pos c24, eX']
    unfold evP
    refine SimR.first (w := 1) hk w (by omega) wi (fun m Q k cs c0 N q1 q2 => left m Q k cs c0 (by unfold isLf; omega) N q1 q2) (part 0 s (by omega) k0) (fun V s1 h1 => ?_)
    exact simT_goes c24 hx x3 xm (K.1.2.2.2 0 (by omega)).1 (K.1.2.2.2 0 (by omega)).2.1 (Kf'.1.2.2 0 (by omega)).2 gg (pV (by omega) k0 h1)
  by_cases c25 : a.1.1 = 25
  · obtain ⟨l2, k0, gg⟩ := K.2.2.2.2.2.2.2.2.2.2.2.1 c25
    have wi := wp.2.1 (by omega) (by omega)
    rw [if_neg c0, if_neg c1, if_neg c2, if_neg c3, if_neg c4, if_neg c5, if_neg c6, if_neg c7, if_neg c8, if_neg c9, if_neg c10, if_neg c11, if_neg c22, if_neg c23, if_neg c24, if_pos c25, eX']
    refine SimR.first (w := 1) hk w (by omega) wi (fun m Q k cs c0 N q1 q2 => left m Q k cs c0 (by unfold isLf; omega) N q1 q2) (part 0 s (by omega) k0) (fun V s1 h1 => ?_)
    exact simT_back c25 hx x3 (K.1.2.2.2 0 (by omega)).1 (K.1.2.2.2 0 (by omega)).2.1 (Kf'.1.2.2 0 (by omega)).2 gg (pV (by omega) k0 h1)
  have c2' : 12 ≤ a.1.1 ∧ a.1.1 ≤ 21 := by omega
  obtain ⟨al, l2, ht⟩ := K.2.2.2.2.2.2.2.2.2.2.2.2 c2'
  obtain ⟨t1, t2, t3, t4, t5, t6, t7⟩ := Kf'.2.2.2.2.2 c2'
  have wi := wp.2.2.2.1 (by omega) (by omega) (by omega)
  rw [if_neg c0, if_neg c1, if_neg c2, if_neg c3, if_neg c4, if_neg c5, if_neg c6, if_neg c7, if_neg c8, if_neg c9, if_neg c10, if_neg c11, if_neg c22, if_neg c23, if_neg c24, if_neg c25]
  have e : evTwo rec E a s = andE (rec E (prT a.2 0) s) (fun V s1 => andE (rec E (prT a.2 1) s1) (fun W s2 => (binS (a.1.1 + 3) (muR (twJ E.1 a).1 E.2.1) (twJ E.1 a).2.1 (twJ E.1 a).2.2 (conv E.2.1 (rgN E.1 (prT a.2 0)) (twJ E.1 a) V) (conv E.2.1 (rgN E.1 (prT a.2 1)) (if a.1.1 = 19 then ((twJ E.1 a).1, 0, 0) else twJ E.1 a) W), s2))) := by
    unfold evTwo evP
    rw [andE_as]
    congr 1
    funext V s1
    show andE (andE (rec E (prT a.2 1) s1) _) _ = _
    rw [andE_as]
    rfl
  rw [e]
  refine SimR.first (w := 1) hk w (by omega) (by have := wi 0 (by omega); omega) (fun m Q k cs c0 N q1 q2 => left m Q k cs c0 (by unfold isLf; omega) N q1 q2) (part 0 s (by omega) (prT_kd al (by omega))) (fun V s1 h1 => ?_)
  refine simT_two c2' w l2 (by have := wi 1 (by omega); omega) (K.1.2.2.2 0 (by omega)).1 (K.1.2.2.2 1 (by omega)).1 (K.1.2.2.2 0 (by omega)).2.1 (K.1.2.2.2 1 (by omega)).2.1 (Kf'.1.2.2 0 (by omega)).2 (Kf'.1.2.2 1 (by omega)).2 ht ?_ t1 t2 t3 t4 t5 t6 (pV (by omega) (prT_kd al (by omega)) h1) (part 1 s1 (by omega) (prT_kd al (by omega))) (fun W s2 q => pV (by omega) (prT_kd al (by omega)) q)
  unfold twJ
  by_cases c19 : a.1.1 = 19
  · rw [if_pos c19, if_pos c19]; exact eX'
  · rw [if_neg c19, if_neg c19]
theorem simM (hRg : RgO S n) (hFs : FsM F n) : ∀ m : Nat, SimQ F n S ms (ev F m) := by
  intro m
  induction m with
  | zero =>
    intro E h a s x _ _ _ _ _ ne
    exact absurd rfl ne
  | succ m ih =>
    intro E h a s x hE hk w wc hx
    exact SimE.step hE hk w wc hx (fun _ => simRK hRg hFs ih (ev_VR m) hE hk w wc hx)
end VMZ
