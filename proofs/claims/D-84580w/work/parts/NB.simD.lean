set_option maxRecDepth 100000
/-! the component's machine: all kinds of parts -/
theorem ns_at : ∀ (t : TT) (i : Nat), i < lenT t → i + vT (prT t i) ≤ (nsT t).1 ∧ vT (prT t i) ≤ (nsT t).2.1 ∧ (i = 0 → vT (prT t i) = (nsT t).2.2) := by
  intro t
  induction t with
  | leaf => intro i h; exact absurd h (Nat.not_lt_zero _)
  | inner z d u c s ihc ihs =>
    intro i h
    cases i with
    | zero =>
      show 0 + vT (d, c) ≤ max (vND d (lenT c) (nsT c)) (1 + (nsT s).1) ∧ vT (d, c) ≤ max (vND d (lenT c) (nsT c)) (nsT s).2.1 ∧ (0 = 0 → vT (d, c) = vND d (lenT c) (nsT c))
      have e : vT (d, c) = vND d (lenT c) (nsT c) := rfl
      rw [e]
      omega
    | succ i =>
      have h : i + 1 < lenT s + 1 := h
      obtain ⟨q1, q2, q3⟩ := ihs i (by omega)
      show i + 1 + vT (prT s i) ≤ max (vND d (lenT c) (nsT c)) (1 + (nsT s).1) ∧ vT (prT s i) ≤ max (vND d (lenT c) (nsT c)) (nsT s).2.1 ∧ (i + 1 = 0 → _)
      exact ⟨by omega, by omega, fun z => by omega⟩
theorem vT_pa {a : PT} (nb : ¬ badA a.1 (lenT a.2)) : ((a.1.1 = 8 ∨ a.1.1 = 9 ∨ a.1.1 = 10) → ∀ i, i < lenT a.2 → vT (prT a.2 i) ≤ vT a) ∧ ((a.1.1 = 24 ∨ a.1.1 = 25) → 0 < lenT a.2 → vT (prT a.2 0) ≤ vT a) ∧ (¬ (a.1.1 = 8 ∨ a.1.1 = 9 ∨ a.1.1 = 10) → ¬ (a.1.1 = 24 ∨ a.1.1 = 25) → ∀ i, i < lenT a.2 → i + vT (prT a.2 i) ≤ vT a) := by
  have e : vT a = max 1 (if a.1.1 = 8 ∨ a.1.1 = 9 ∨ a.1.1 = 10 then (nsT a.2).2.1 else if a.1.1 = 24 ∨ a.1.1 = 25 then (nsT a.2).2.2 else (nsT a.2).1) := by
    unfold vT vND
    rw [if_neg nb]
  refine ⟨fun c i hi => ?_, fun c hi => ?_, fun c c2 i hi => ?_⟩
  · rw [e, if_pos c]
    have := ns_at a.2 i hi
    omega
  · rw [e, if_neg (by omega), if_pos c]
    have := (ns_at a.2 0 hi).2.2 rfl
    omega
  · rw [e, if_neg c, if_neg c2]
    have := ns_at a.2 i hi
    omega
section SIMD
variable {F : Int → FnR} {n : Int} {E : EVm} {fl : Int} {rec : EVm → PT → ES → ER} {a : PT} {x : R3} {s : ES}
theorem nd_lo (h : EvO F n E) (hk : 0 ≤ a.1.1 ∧ a.1.1 ≤ 25) (w : okN a.1 a.2) (wc : wfT a.2) (hx : rgS E.1 a.1 a.2 = some x) : (a.1.1 = 0 → x = (0, 0, 0)) ∧ (a.1.1 = 1 → x = (0, 1, 0)) ∧ (a.1.1 = 2 → x = (0, 2, 0)) := by
  obtain ⟨rc', hA, ho, -⟩ := ndc h hk w wc hx
  unfold ownS at ho
  refine ⟨fun c => ?_, fun c => ?_, fun c => ?_⟩
  · rw [if_pos c] at ho; injection ho with ho; exact ho.symm
  · rw [if_neg (by omega), if_pos c] at ho; injection ho with ho; exact ho.symm
  · rw [if_neg (by omega), if_neg (by omega), if_pos c] at ho; injection ho with ho; exact ho.symm
theorem nb_of {rc : List R3} (K : Kd F E.1 a x rc) (Kf' : Kf F n E a x) : ¬ badA a.1 (lenT a.2) := by
  intro h
  rcases h with ⟨h1, h2⟩ | ⟨h1, h2⟩ | ⟨h1, h2⟩
  · obtain ⟨f, R, k1, k2, k3, k4, -⟩ := Kf'.2.1 h1
    have := k4.1
    omega
  · rcases Kf'.2.2.1 h1 with q | q
    · have := q.1; omega
    · have := q.1; omega
  · have := (K.2.2.2.2.2.1 h1).2.2.2.1
    omega
theorem wtS_bd {rc : List R3} (K : Kd F E.1 a x rc) (w : okN a.1 a.2) (hk : 0 ≤ a.1.1 ∧ a.1.1 ≤ 25) (Kf' : Kf F n E a x) : 0 ≤ wtS E.1 a ∧ wtS E.1 a ≤ 6000 := by
  have b := wtR_bd K.1.2.1
  unfold wtS
  rw [K.1.1]
  by_cases c1 : a.1.1 = 18 ∨ a.1.1 = 20 ∨ a.1.1 = 21
  · rw [if_pos c1]; omega
  rw [if_neg c1]
  by_cases c2 : a.1.1 = 23
  · rw [if_pos c2]
    have v := (K.2.2.2.2.2.2.2.2.2.1 (.inr c2)).2.2.2.2 c2
    have v0 := w.2.1
    have m1 : max 1 a.1.2.2.1 ≤ 12 := by omega
    have m0 : 1 ≤ max 1 a.1.2.2.1 := by omega
    generalize max 1 a.1.2.2.1 = t at m1 m0
    have h1 := Int.mul_le_mul (show wtR x ≤ 441 by omega) m1 (by omega) (by omega)
    have h2 := Int.mul_nonneg (show 0 ≤ wtR x by omega) (show 0 ≤ t by omega)
    omega
  rw [if_neg c2]
  by_cases c3 : a.1.1 = 6
  · rw [if_pos c3]
    have b0 : 1 ≤ wtR (rgN E.1 (prT a.2 0)) ∧ wtR (rgN E.1 (prT a.2 0)) ≤ 441 := by
      refine wtR_bd (K.1.2.2.2 0 ?_).2.1
      rcases Kf'.2.2.1 c3 with q | q
      · have := q.1; omega
      · have := q.1; omega
    split
    · omega
    · split <;> omega
  rw [if_neg c3]
  omega
theorem simK (hrec : SimP F n rec) (hV : VrO F n rec) (hE : EvO F n E) (hk : 0 ≤ a.1.1 ∧ a.1.1 ≤ 25) (w : okN a.1 a.2) (wc : wfT a.2) (hx : rgS E.1 a.1 a.2 = some x) : SimG F n E fl (fun p => cgK E.1 a.2 (cgC F E.1 fl a.2) F fl a.1 p) [] (vT a) x s (evK F rec E a s) := by
  obtain ⟨rc, K, Kf'⟩ := nd_kf hE hk w wc hx
  have lo := nd_lo hE hk w wc hx
  have nb := nb_of K Kf'
  have vp := vT_pa nb
  have eX : rgN E.1 (a.1, a.2) = x := K.1.1
  have eX' : rgN E.1 a = x := K.1.1
  have x3 := K.1.2.1
  have xm := Kf'.1.1
  have part : ∀ (i : Nat) (s : ES), i < lenT a.2 → (0 ≤ (prT a.2 i).1.1 ∧ (prT a.2 i).1.1 ≤ 25) → SimG F n E fl (cgC F E.1 fl a.2 i) [] (vT (prT a.2 i)) (rgN E.1 (prT a.2 i)) s (rec E (prT a.2 i) s) := by
    intro i s hi hkd
    have e : cgC F E.1 fl a.2 i = cg F E.1 fl (prT a.2 i) := funext (fun p => cgC_at hi)
    rw [e]
    have q := (Kf'.1.2.2 i hi).1
    exact hrec E fl (prT a.2 i) s _ hE hkd q.1 q.2 (K.1.2.2.2 i hi).1
  have pV : ∀ {i : Nat} {s : ES} {V : VV} {s1 : ES}, i < lenT a.2 → (0 ≤ (prT a.2 i).1.1 ∧ (prT a.2 i).1.1 ≤ 25) → rec E (prT a.2 i) s = (.ok V, s1) → VR E.2.1 (rgN E.1 (prT a.2 i)) V := by
    intro i s V s1 hi hkd h
    have q := (Kf'.1.2.2 i hi).1
    exact hV E _ s V s1 _ hE hkd q.1 q.2 (K.1.2.2.2 i hi).1 h
  have partZ : ∀ (i : Nat) (s : ES) (z : R3), i < lenT a.2 → (0 ≤ (prT a.2 i).1.1 ∧ (prT a.2 i).1.1 ≤ 25) → ok3 z → okMo z.1 E.2.1 → gs (rgN E.1 (prT a.2 i)) z → SimG F n E fl (cgT E.1 a.2 (cgC F E.1 fl a.2) z i) [] (vT (prT a.2 i)) z s (evP rec E a.2 z i s) := by
    intro i s z hi hkd hz hm hg
    exact SimG.bind (pre := []) (code2 := fun _ => cgTn (rgN E.1 (prT a.2 i)) z) (k := fun V s1 => (.ok (conv E.2.1 (rgN E.1 (prT a.2 i)) z V), s1)) (part i s hi hkd) (fun V s1 h1 => sim_conv (K.1.2.2.2 i hi).2.1 hz hm hg (pV hi hkd h1)) (by rw [List.length_nil]; omega)
  have pZV : ∀ {i : Nat} {s : ES} {z : R3} {V : VV} {s1 : ES}, i < lenT a.2 → (0 ≤ (prT a.2 i).1.1 ∧ (prT a.2 i).1.1 ≤ 25) → ok3 z → okMo z.1 E.2.1 → gs (rgN E.1 (prT a.2 i)) z → evP rec E a.2 z i s = (.ok V, s1) → VR E.2.1 z V := by
    intro i s z V s1 hi hkd hz hm hg h
    obtain ⟨U, h1, h2⟩ := evP_ok h
    rw [h2]
    exact conv_VR (K.1.2.2.2 i hi).2.1 hz hm hg (pV hi hkd h1)
  have cK : ∀ {cd : Int → List Ins} {r : ER}, (∀ p, cgK E.1 a.2 (cgC F E.1 fl a.2) F fl a.1 p = cd p) → evK F rec E a s = r → SimG F n E fl cd [] (vT a) x s r → SimG F n E fl (fun p => cgK E.1 a.2 (cgC F E.1 fl a.2) F fl a.1 p) [] (vT a) x s (evK F rec E a s) := by
    intro cd r h1 h2 h3
    rw [show (fun p => cgK E.1 a.2 (cgC F E.1 fl a.2) F fl a.1 p) = cd from funext h1, h2]
    exact h3
  by_cases c0 : a.1.1 = 0
  · refine cK (cd := fun _ => [(1, a.1.2.2.1, 0)]) (fun p => by unfold cgK; rw [if_pos c0]) (by unfold evK; rw [if_pos c0]) ?_
    rw [lo.1 c0]
    exact sim_num
  by_cases c1 : a.1.1 = 1
  · refine cK (cd := fun _ => [(2, 1, 0)]) (fun p => by unfold cgK; rw [if_neg c0, if_pos c1]) (by unfold evK; rw [if_neg c0, if_pos c1]) ?_
    rw [lo.2.1 c1]
    exact sim_unk (.inl ⟨rfl, rfl⟩)
  by_cases c2 : a.1.1 = 2
  · refine cK (cd := fun _ => [(2, 2, 0)]) (fun p => by unfold cgK; rw [if_neg c0, if_neg c1, if_pos c2]) (by unfold evK; rw [if_neg c0, if_neg c1, if_pos c2]) ?_
    rw [lo.2.2 c2]
    exact sim_unk (.inr ⟨rfl, rfl⟩)
  by_cases c3 : a.1.1 = 3
  · refine cK (cd := fun _ => [(3, a.1.2.2.1, encC x)]) (fun p => by unfold cgK; rw [if_neg c0, if_neg c1, if_neg c2, if_pos c3, eX]) (by unfold evK; rw [if_neg c0, if_neg c1, if_neg c2, if_pos c3]) ?_
    exact sim_res w.2.1.1 (K.2.1 c3) x3
  by_cases c4 : a.1.1 = 4
  · obtain ⟨i, k1, k2⟩ := K.2.2.1 c4
    refine cK (cd := fun _ => [(if fl = 2 then 5 else 4, i, encC x)]) (fun p => by unfold cgK; rw [if_neg c0, if_neg c1, if_neg c2, if_neg c3, if_pos c4, eX, k2]) (by unfold evK; rw [if_neg c0, if_neg c1, if_neg c2, if_neg c3, if_pos c4, k2]) ?_
    exact sim_name k1 x3
  by_cases c5 : a.1.1 = 5
  · obtain ⟨f, R, KC⟩ := Kf'.2.1 c5
    have al := (K.2.2.2.1 c5).1
    have ecl := KC.1
    have np : (F f).2.1.toNat = lenT a.2 := by rw [KC.2.2.1]; omega
    have np3 := KC.2.2.2.1.1
    have vi := vp.2.2 (by omega) (by omega)
    have la : lenT a.2 ≤ vT a := by
      have l1 := np3.1
      have e1 := KC.2.2.1
      have := vi (lenT a.2 - 1) (by omega)
      have := vT_pos (prT a.2 (lenT a.2 - 1))
      omega
    refine cK (cd := fun p => cgN (fun k => cgT E.1 a.2 (cgC F E.1 fl a.2) ((instS (F f) ((k : Int) + 1) R).getD (0, 0, 0)) k) (lenT a.2) 0 p ++ (fun _ => [(8, f, encO R)]) (p + ((cgN (fun k => cgT E.1 a.2 (cgC F E.1 fl a.2) ((instS (F f) ((k : Int) + 1) R).getD (0, 0, 0)) k) (lenT a.2) 0 p).length : Int))) (r := mtE (evN (fun k => evP rec E a.2 ((instS (F f) ((k : Int) + 1) R).getD (0, 0, 0)) k) (lenT a.2) 0 (fun _ => zV) s) (fun g s1 => if E.2.2.1 = 20 then (.error 7, s1) else andE (rec (JEf F f (nrmR R), ownM E.2.1 R, E.2.2.1 + 1, (fun i => g i.toNat), E.2.2.2.2) (rootF (F f)) (s1.1, max s1.2 (E.2.2.1 + 1))) (fun V s2 => (.ok (conv (ownM E.2.1 R) (rgN (JEf F f (nrmR R)) (rootF (F f))) ((instS (F f) 0 (nrmR R)).getD (0, 0, 0)) V), s2)))) (fun p => ?_) ?_ ?_
    · unfold cgK
      rw [if_neg c0, if_neg c1, if_neg c2, if_neg c3, if_neg c4, if_pos c5]
      unfold cgCall
      rw [ecl]
      simp only
      rw [np]
    · unfold evK
      rw [if_neg c0, if_neg c1, if_neg c2, if_neg c3, if_neg c4, if_pos c5]
      unfold evCall
      rw [ecl]
      simp only
      rw [np]
      generalize evN (fun k => evP rec E a.2 ((instS (F f) ((k : Int) + 1) R).getD (0, 0, 0)) k) (lenT a.2) 0 (fun _ => zV) s = rr
      rcases rr with ⟨o, s1⟩
      cases o <;> rfl
    · have gd : ∀ i, i < lenT a.2 → ok3 ((instS (F f) ((i : Int) + 1) R).getD (0, 0, 0)) ∧ okMo ((instS (F f) ((i : Int) + 1) R).getD (0, 0, 0)).1 E.2.1 ∧ gs (rgN E.1 (prT a.2 i)) ((instS (F f) ((i : Int) + 1) R).getD (0, 0, 0)) := by
        intro i hi
        obtain ⟨y, u1, u2, u3, u4⟩ := KC.2.2.2.2.2.2.2.1 i hi
        rw [u1]
        exact ⟨u2, u3, u4⟩
      refine SimG.many (f := fun k => cgT E.1 a.2 (cgC F E.1 fl a.2) ((instS (F f) ((k : Int) + 1) R).getD (0, 0, 0)) k) (ev1 := fun k => evP rec E a.2 ((instS (F f) ((k : Int) + 1) R).getD (0, 0, 0)) k) (rest := fun _ => [(8, f, encO R)]) (zz := fun i => (instS (F f) ((i : Int) + 1) R).getD (0, 0, 0)) (nd := fun i => vT (prT a.2 i)) (lenT a.2) 0 (fun _ => zV) s (fun k _ hk' s => ?_) (fun k _ hk' => vi k (by omega)) (fun g s1 h1 => ?_)
      · have q := gd k (by omega)
        exact partZ k s _ (by omega) (prT_kd al (by omega)) q.1 q.2.1 q.2.2
      · rw [Nat.zero_add]
        obtain ⟨g1, -⟩ := evN_ok _ _ _ _ _ _ h1
        refine sim_call hE KC hrec hV (fun i hi y hy => ?_) la
        obtain ⟨s2, s3, h2⟩ := g1 i (Nat.zero_le _) (by omega)
        have q := gd i hi
        have e1 : (instS (F f) ((i : Int) + 1) R).getD (0, 0, 0) = y := by rw [hy]; rfl
        have v := pZV hi (prT_kd al hi) q.1 q.2.1 q.2.2 h2
        rw [e1] at v
        exact v
  by_cases c6 : a.1.1 = 6
  · have al := (K.2.2.2.2.1 c6).1
    have vi := vp.2.2 (by omega) (by omega)
    have f13 : 0 ≤ a.1.2.2.1 ∧ a.1.2.2.1 ≤ 13 := ⟨w.2.1.1, w.2.2.2.2.1 c6⟩
    rcases Kf'.2.2.1 c6 with ⟨l1, l2, l3, l4, l5, l6⟩ | ⟨l1, l2, l3, l4, l5, l6⟩
    · refine cK (cd := fun p => cgT E.1 a.2 (cgC F E.1 fl a.2) (fnA a.1.2.2.1 (rgN E.1 (prT a.2 0))) 0 p ++ (fun _ => [(28 + a.1.2.2.1, encC (fnA a.1.2.2.1 (rgN E.1 (prT a.2 0))), encC x)]) (p + ((cgT E.1 a.2 (cgC F E.1 fl a.2) (fnA a.1.2.2.1 (rgN E.1 (prT a.2 0))) 0 p).length : Int))) (r := andE (evP rec E a.2 (fnA a.1.2.2.1 (rgN E.1 (prT a.2 0))) 0 s) (fun V s1 => (fnV a.1.2.2.1 E.2.1 (fnA a.1.2.2.1 (rgN E.1 (prT a.2 0))) x V V, s1))) (fun p => ?_) ?_ ?_
      · unfold cgK
        rw [if_neg c0, if_neg c1, if_neg c2, if_neg c3, if_neg c4, if_neg c5, if_pos c6]
        unfold cgFun cgF1 cgF2
        rw [if_neg (show ¬ a.1.2.2.1 = 0 from fun z => l2 (.inl z)), if_neg l2, eX]
        rfl
      · unfold evK
        rw [if_neg c0, if_neg c1, if_neg c2, if_neg c3, if_neg c4, if_neg c5, if_pos c6]
        unfold evFun
        rw [if_neg (show ¬ a.1.2.2.1 = 0 from fun z => l2 (.inl z)), eX']
        simp only [if_neg l2]
      · refine SimG.bind (pre := []) (code2 := fun _ => [(28 + a.1.2.2.1, encC (fnA a.1.2.2.1 (rgN E.1 (prT a.2 0))), encC x)]) (partZ 0 s _ (by omega) (prT_kd al (by omega)) l4 l5 l6) (fun V s1 h1 => ?_) (by rw [List.length_nil]; exact vi 0 (by omega))
        exact sim_fn1 (K.1.2.2.2 0 (by omega)).2.1 (Kf'.1.2.2 0 (by omega)).2 f13 l2 l3 (pZV (by omega) (prT_kd al (by omega)) l4 l5 l6 h1)
    · have o0 := (K.1.2.2.2 0 (by omega)).2.1
      have o1 := (K.1.2.2.2 1 (by omega)).2.1
      have m0 := (Kf'.1.2.2 0 (by omega)).2
      have m1 := (Kf'.1.2.2 1 (by omega)).2
      have g0 : ok3 (if a.1.2.2.1 = 0 then x else rgN E.1 (prT a.2 0)) ∧ okMo (if a.1.2.2.1 = 0 then x else rgN E.1 (prT a.2 0)).1 E.2.1 ∧ gs (rgN E.1 (prT a.2 0)) (if a.1.2.2.1 = 0 then x else rgN E.1 (prT a.2 0)) := by
        by_cases q : a.1.2.2.1 = 0
        · rw [if_pos q]; exact ⟨x3, xm, (l5 q).1⟩
        · rw [if_neg q]; exact ⟨o0, m0, jn_self⟩
      have g1 : ok3 (if a.1.2.2.1 = 2 then rgN E.1 (prT a.2 1) else x) ∧ okMo (if a.1.2.2.1 = 2 then rgN E.1 (prT a.2 1) else x).1 E.2.1 ∧ gs (rgN E.1 (prT a.2 1)) (if a.1.2.2.1 = 2 then rgN E.1 (prT a.2 1) else x) := by
        by_cases q : a.1.2.2.1 = 2
        · rw [if_pos q]; exact ⟨o1, m1, jn_self⟩
        · rw [if_neg q]
          refine ⟨x3, xm, ?_⟩
          by_cases q0 : a.1.2.2.1 = 0
          · exact (l5 q0).2
          · exact l6 (by omega)
      refine cK (cd := fun p => cgT E.1 a.2 (cgC F E.1 fl a.2) (if a.1.2.2.1 = 0 then x else rgN E.1 (prT a.2 0)) 0 p ++ (fun q => cgT E.1 a.2 (cgC F E.1 fl a.2) (if a.1.2.2.1 = 2 then rgN E.1 (prT a.2 1) else x) 1 q ++ (fun _ => [(28 + a.1.2.2.1, encC (rgN E.1 (prT a.2 0)), encC x)]) (q + ((cgT E.1 a.2 (cgC F E.1 fl a.2) (if a.1.2.2.1 = 2 then rgN E.1 (prT a.2 1) else x) 1 q).length : Int))) (p + ((cgT E.1 a.2 (cgC F E.1 fl a.2) (if a.1.2.2.1 = 0 then x else rgN E.1 (prT a.2 0)) 0 p).length : Int))) (r := andE (evP rec E a.2 (if a.1.2.2.1 = 0 then x else rgN E.1 (prT a.2 0)) 0 s) (fun V s1 => andE (evP rec E a.2 (if a.1.2.2.1 = 2 then rgN E.1 (prT a.2 1) else x) 1 s1) (fun W s2 => (fnV a.1.2.2.1 E.2.1 (rgN E.1 (prT a.2 0)) x V W, s2)))) (fun p => ?_) ?_ ?_
      · unfold cgK
        rw [if_neg c0, if_neg c1, if_neg c2, if_neg c3, if_neg c4, if_neg c5, if_pos c6]
        unfold cgFun cgF1 cgF2
        rw [if_pos l2, eX, l4]
      · unfold evK
        rw [if_neg c0, if_neg c1, if_neg c2, if_neg c3, if_neg c4, if_neg c5, if_pos c6]
        unfold evFun
        rw [eX', l4]
        simp only [if_pos l2]
      · refine SimG.bind (pre := []) (code2 := fun q => cgT E.1 a.2 (cgC F E.1 fl a.2) (if a.1.2.2.1 = 2 then rgN E.1 (prT a.2 1) else x) 1 q ++ (fun _ => [(28 + a.1.2.2.1, encC (rgN E.1 (prT a.2 0)), encC x)]) (q + ((cgT E.1 a.2 (cgC F E.1 fl a.2) (if a.1.2.2.1 = 2 then rgN E.1 (prT a.2 1) else x) 1 q).length : Int))) (partZ 0 s _ (by omega) (prT_kd al (by omega)) g0.1 g0.2.1 g0.2.2) (fun V s1 h1 => ?_) (by rw [List.length_nil]; exact vi 0 (by omega))
        refine SimG.bind (code2 := fun _ => [(28 + a.1.2.2.1, encC (rgN E.1 (prT a.2 0)), encC x)]) (partZ 1 s1 _ (by omega) (prT_kd al (by omega)) g1.1 g1.2.1 g1.2.2) (fun W s2 h2 => ?_) (by have := vi 1 (by omega); exact this)
        exact sim_fn2 o0 o1 m0 m1 l2 l3 (pZV (by omega) (prT_kd al (by omega)) g0.1 g0.2.1 g0.2.2 h1) (pZV (by omega) (prT_kd al (by omega)) g1.1 g1.2.1 g1.2.2 h2)
  by_cases c7 : a.1.1 = 7
  · obtain ⟨al, k1, k2, k3, k4, k5⟩ := K.2.2.2.2.2.1 c7
    have vi := vp.2.2 (by omega) (by omega)
    have gg := Kf'.2.2.2.1 c7
    refine cK (cd := fun p => cgN (fun k => cgT E.1 a.2 (cgC F E.1 fl a.2) (x.1, x.2.1, 0) k) (lenT a.2) 0 p ++ (fun _ => [(27, encC x, 0)]) (p + ((cgN (fun k => cgT E.1 a.2 (cgC F E.1 fl a.2) (x.1, x.2.1, 0) k) (lenT a.2) 0 p).length : Int))) (r := mtE (evN (fun k => evP rec E a.2 (x.1, x.2.1, 0) k) (lenT a.2) 0 (fun _ => zV) s) (fun g s1 => (.ok (matV x.2.2 g), s1))) (fun p => ?_) ?_ ?_
    · unfold cgK
      rw [if_neg c0, if_neg c1, if_neg c2, if_neg c3, if_neg c4, if_neg c5, if_neg c6, if_pos c7]
      unfold cgMat
      rw [eX]
    · unfold evK
      rw [if_neg c0, if_neg c1, if_neg c2, if_neg c3, if_neg c4, if_neg c5, if_neg c6, if_pos c7]
      unfold evMat
      rw [eX']
      generalize evN (fun k => evP rec E a.2 (x.1, x.2.1, 0) k) (lenT a.2) 0 (fun _ => zV) s = rr
      rcases rr with ⟨o, s1⟩
      cases o <;> rfl
    · refine SimG.many (f := fun k => cgT E.1 a.2 (cgC F E.1 fl a.2) (x.1, x.2.1, 0) k) (ev1 := fun k => evP rec E a.2 (x.1, x.2.1, 0) k) (rest := fun _ => [(27, encC x, 0)]) (zz := fun _ => (x.1, x.2.1, 0)) (nd := fun i => vT (prT a.2 i)) (lenT a.2) 0 (fun _ => zV) s (fun k _ hk' s => partZ k s _ (by omega) (prT_kd al (by omega)) k5 xm (gg k (by omega))) (fun k _ hk' => vi k (by omega)) (fun g s1 h1 => ?_)
      rw [Nat.zero_add]
      refine SimG.opo (fun m1 fr l p Q' S hN hb h => ?_)
      have bd := S.bd hb
      have est : ∀ j : Nat, stkZ (fun _ => (x.1, x.2.1, 0)) g j ++ l = stkN x.2.1 g j l := by
        intro j
        induction j with
        | zero => rfl
        | succ j ih =>
          show (x.2.1, (0 : Int), g j) :: (stkZ (fun _ => (x.1, x.2.1, 0)) g j ++ l) = (x.2.1, (0 : Int), g j) :: stkN x.2.1 g j l
          rw [ih]
      have en : (enn x.2.2).toNat = lenT a.2 := by
        unfold enn
        rw [k2, if_neg (by omega)]
        omega
      have en2 : enn x.2.2 = (lenT a.2 : Int) := by
        unfold enn
        rw [k2, if_neg (by omega)]
        omega
      have st := S.st
      have tp := S.tp
      rw [est] at st tp
      have lv : lenT a.2 ≤ vT a := by
        by_cases q : lenT a.2 = 0
        · omega
        · have := vi (lenT a.2 - 1) (by omega)
          have := vT_pos (prT a.2 (lenT a.2 - 1))
          omega
      rw [stkN_len] at tp
      exact c_pf_matrix (encC_RG x3 k1) (by omega) (by rw [en]; exact st) (by omega) (by rw [tp, en2]; omega) S.ar h
  by_cases c8 : a.1.1 = 8
  · obtain ⟨al, l3, b0, hj⟩ := K.2.2.2.2.2.2.1 c8
    have gg := Kf'.2.2.2.2.1 c8
    have vi := vp.1 (by omega)
    have r0 := B_eq (K.1.2.2.2 0 (by omega)).2.1 b0
    refine cK (cd := fun p => cgC F E.1 fl a.2 0 p ++ (fun q => (11, q + 1 + ((cgT E.1 a.2 (cgC F E.1 fl a.2) x 1 (q + 1)).length : Int) + 1, 0) :: (cgT E.1 a.2 (cgC F E.1 fl a.2) x 1 (q + 1) ++ ((10, q + 1 + ((cgT E.1 a.2 (cgC F E.1 fl a.2) x 1 (q + 1)).length : Int) + 1 + ((cgT E.1 a.2 (cgC F E.1 fl a.2) x 2 (q + 1 + ((cgT E.1 a.2 (cgC F E.1 fl a.2) x 1 (q + 1)).length : Int) + 1)).length : Int), 0) :: cgT E.1 a.2 (cgC F E.1 fl a.2) x 2 (q + 1 + ((cgT E.1 a.2 (cgC F E.1 fl a.2) x 1 (q + 1)).length : Int) + 1)))) (p + ((cgC F E.1 fl a.2 0 p).length : Int))) (r := andE (rec E (prT a.2 0) s) (fun V s1 => if (V 0 0 0).1 = 0 then evP rec E a.2 x 2 s1 else evP rec E a.2 x 1 s1)) (fun p => ?_) ?_ ?_
    · unfold cgK
      rw [if_neg c0, if_neg c1, if_neg c2, if_neg c3, if_neg c4, if_neg c5, if_neg c6, if_neg c7, if_pos c8]
      unfold cgIf
      rw [eX]
    · unfold evK
      rw [if_neg c0, if_neg c1, if_neg c2, if_neg c3, if_neg c4, if_neg c5, if_neg c6, if_neg c7, if_pos c8, eX']
    · refine SimG.bind (pre := []) (code2 := fun q => (11, q + 1 + ((cgT E.1 a.2 (cgC F E.1 fl a.2) x 1 (q + 1)).length : Int) + 1, 0) :: (cgT E.1 a.2 (cgC F E.1 fl a.2) x 1 (q + 1) ++ ((10, q + 1 + ((cgT E.1 a.2 (cgC F E.1 fl a.2) x 1 (q + 1)).length : Int) + 1 + ((cgT E.1 a.2 (cgC F E.1 fl a.2) x 2 (q + 1 + ((cgT E.1 a.2 (cgC F E.1 fl a.2) x 1 (q + 1)).length : Int) + 1)).length : Int), 0) :: cgT E.1 a.2 (cgC F E.1 fl a.2) x 2 (q + 1 + ((cgT E.1 a.2 (cgC F E.1 fl a.2) x 1 (q + 1)).length : Int) + 1)))) (part 0 s (by omega) (prT_kd al (by omega))) (fun V s1 h1 => ?_) (by rw [List.length_nil]; have := vi 0 (by omega); omega)
      obtain ⟨v, v01, ev⟩ := VR_num_of (pV (by omega) (prT_kd al (by omega)) h1) b0
      rw [r0]
      exact SimG.choose v01 ev (fun _ => (partZ 1 s1 x (by omega) (prT_kd al (by omega)) x3 xm gg.1).ned (vi 1 (by omega))) (fun _ => (partZ 2 s1 x (by omega) (prT_kd al (by omega)) x3 xm gg.2).ned (vi 2 (by omega)))
  have bool : ∀ (op t : Int), (op = 12 ∧ t = 1 ∧ a.1.1 = 9 ∨ op = 13 ∧ t = 0 ∧ a.1.1 = 10) → SimG F n E fl (fun p => cgBool (cgC F E.1 fl a.2) op p) [] (vT a) x s (andE (rec E (prT a.2 0) s) (fun V s1 => if (V 0 0 0).1 = t then (.ok V, s1) else rec E (prT a.2 1) s1)) := by
    intro op t ho
    obtain ⟨al, l2, e1, e2, e3⟩ := K.2.2.2.2.2.2.2.1 (by omega)
    have vi := vp.1 (by omega)
    have et : t = (if op = 12 then 1 else 0) := by
      rcases ho with q | q
      · rw [if_pos q.1]; exact q.2.1
      · rw [if_neg (by omega)]; exact q.2.1
    rw [et]
    refine SimG.bind (pre := []) (code2 := fun q => (op, q + 1 + ((cgC F E.1 fl a.2 1 (q + 1)).length : Int), 0) :: cgC F E.1 fl a.2 1 (q + 1)) (part 0 s (by omega) (prT_kd al (by omega))) (fun V s1 h1 => ?_) (by rw [List.length_nil]; have := vi 0 (by omega); omega)
    obtain ⟨v, v01, ev⟩ := VR_num_of (pV (by omega) (prT_kd al (by omega)) h1) (by rw [e2])
    have q1 := (part 1 s1 (by omega) (prT_kd al (by omega))).ned (vi 1 (by omega))
    rw [e3] at q1
    rw [e2, e1]
    exact SimG.both (by omega) v01 ev (fun _ => q1)
  by_cases c9 : a.1.1 = 9
  · exact cK (fun p => by unfold cgK; rw [if_neg c0, if_neg c1, if_neg c2, if_neg c3, if_neg c4, if_neg c5, if_neg c6, if_neg c7, if_neg c8, if_pos c9]) (by unfold evK; rw [if_neg c0, if_neg c1, if_neg c2, if_neg c3, if_neg c4, if_neg c5, if_neg c6, if_neg c7, if_neg c8, if_pos c9]) (bool 12 1 (.inl ⟨rfl, rfl, c9⟩))
  by_cases c10 : a.1.1 = 10
  · exact cK (fun p => by unfold cgK; rw [if_neg c0, if_neg c1, if_neg c2, if_neg c3, if_neg c4, if_neg c5, if_neg c6, if_neg c7, if_neg c8, if_neg c9, if_pos c10]) (by unfold evK; rw [if_neg c0, if_neg c1, if_neg c2, if_neg c3, if_neg c4, if_neg c5, if_neg c6, if_neg c7, if_neg c8, if_neg c9, if_pos c10]) (bool 13 0 (.inr ⟨rfl, rfl, c10⟩))
  by_cases c11 : a.1.1 = 11
  · obtain ⟨al, l1, b0, e1⟩ := K.2.2.2.2.2.2.2.2.1 c11
    have vi := vp.2.2 (by omega) (by omega)
    refine cK (cd := fun p => cgC F E.1 fl a.2 0 p ++ (fun _ => [(14, encC x, 0)]) (p + ((cgC F E.1 fl a.2 0 p).length : Int))) (fun p => by unfold cgK; rw [if_neg c0, if_neg c1, if_neg c2, if_neg c3, if_neg c4, if_neg c5, if_neg c6, if_neg c7, if_neg c8, if_neg c9, if_neg c10, if_pos c11, eX]) (by unfold evK; rw [if_neg c0, if_neg c1, if_neg c2, if_neg c3, if_neg c4, if_neg c5, if_neg c6, if_neg c7, if_neg c8, if_neg c9, if_neg c10, if_pos c11]) ?_
    refine SimG.bind (pre := []) (code2 := fun _ => [(14, encC x, 0)]) (part 0 s (by omega) (prT_kd al (by omega))) (fun V s1 h1 => ?_) (by rw [List.length_nil]; exact vi 0 (by omega))
    have q := sim_not (F := F) (n := n) (fl := fl) (need := vT a) (s := s1) (y := encC x) (pV (by omega) (prT_kd al (by omega)) h1) (K.1.2.2.2 0 (by omega)).2.1 b0
    rw [← e1] at q
    exact q
  by_cases c22 : a.1.1 = 22
  · obtain ⟨al, l1, e1, xb, -⟩ := K.2.2.2.2.2.2.2.2.2.1 (.inl c22)
    have vi := vp.2.2 (by omega) (by omega)
    refine cK (cd := fun p => cgC F E.1 fl a.2 0 p ++ (fun _ => [(25, encC x, 0)]) (p + ((cgC F E.1 fl a.2 0 p).length : Int))) (fun p => by unfold cgK; rw [if_neg c0, if_neg c1, if_neg c2, if_neg c3, if_neg c4, if_neg c5, if_neg c6, if_neg c7, if_neg c8, if_neg c9, if_neg c10, if_neg c11, if_pos c22, eX]) (by unfold evK; rw [if_neg c0, if_neg c1, if_neg c2, if_neg c3, if_neg c4, if_neg c5, if_neg c6, if_neg c7, if_neg c8, if_neg c9, if_neg c10, if_neg c11, if_pos c22, eX']) ?_
    refine SimG.bind (pre := []) (code2 := fun _ => [(25, encC x, 0)]) (part 0 s (by omega) (prT_kd al (by omega))) (fun V s1 h1 => ?_) (by rw [List.length_nil]; exact vi 0 (by omega))
    have v := pV (by omega) (prT_kd al (by omega)) h1
    rw [e1] at v ⊢
    exact sim_minus x3 xb xm v
  by_cases c23 : a.1.1 = 23
  · obtain ⟨al, l1, e1, xb, v12⟩ := K.2.2.2.2.2.2.2.2.2.1 (.inr c23)
    have vi := vp.2.2 (by omega) (by omega)
    refine cK (cd := fun p => cgC F E.1 fl a.2 0 p ++ (fun _ => [(26, encC x, a.1.2.2.1)]) (p + ((cgC F E.1 fl a.2 0 p).length : Int))) (fun p => by unfold cgK; rw [if_neg c0, if_neg c1, if_neg c2, if_neg c3, if_neg c4, if_neg c5, if_neg c6, if_neg c7, if_neg c8, if_neg c9, if_neg c10, if_neg c11, if_neg c22, if_pos c23, eX]) (by unfold evK; rw [if_neg c0, if_neg c1, if_neg c2, if_neg c3, if_neg c4, if_neg c5, if_neg c6, if_neg c7, if_neg c8, if_neg c9, if_neg c10, if_neg c11, if_neg c22, if_pos c23, eX']) ?_
    refine SimG.bind (pre := []) (code2 := fun _ => [(26, encC x, a.1.2.2.1)]) (part 0 s (by omega) (prT_kd al (by omega))) (fun V s1 h1 => ?_) (by rw [List.length_nil]; exact vi 0 (by omega))
    have v := pV (by omega) (prT_kd al (by omega)) h1
    rw [e1] at v ⊢
    exact sim_power ⟨w.2.1.1, v12 c23⟩ x3 xb xm v
  by_cases c24 : a.1.1 = 24
  · obtain ⟨l2, k0, gg⟩ := K.2.2.2.2.2.2.2.2.2.2.1 c24
    have vi := vp.2.1 (by omega) (by omega)
    refine cK (fun p => by unfold cgK; rw [if_neg c0, if_neg c1, if_neg c2, if_neg c3, if_neg c4, if_neg c5, if_neg c6, if_neg c7, if_neg c8, if_neg c9, if_neg c10, if_neg c11, if_neg c22, if_neg c23, if_pos c24, eX]) (by unfold evK; rw [if_neg c0, if_neg c1, if_neg c2, if_neg c3, if_neg c4, if_neg c5, if_neg c6, if_neg c7, if_neg c8, if_neg c9, if_neg c10, if_neg c11, if_neg c22, if_neg c23, if_pos c24, eX']) ((partZ 0 s x (by omega) k0 x3 xm gg).ned vi)
  by_cases c25 : a.1.1 = 25
  · obtain ⟨l2, k0, gg⟩ := K.2.2.2.2.2.2.2.2.2.2.2.1 c25
    have vi := vp.2.1 (by omega) (by omega)
    refine cK (cd := fun p => cgC F E.1 fl a.2 0 p ++ (fun _ => [(7, encC (rgN E.1 (prT a.2 0)), encC x)]) (p + ((cgC F E.1 fl a.2 0 p).length : Int))) (fun p => by unfold cgK; rw [if_neg c0, if_neg c1, if_neg c2, if_neg c3, if_neg c4, if_neg c5, if_neg c6, if_neg c7, if_neg c8, if_neg c9, if_neg c10, if_neg c11, if_neg c22, if_neg c23, if_neg c24, if_pos c25, eX]) (by unfold evK; rw [if_neg c0, if_neg c1, if_neg c2, if_neg c3, if_neg c4, if_neg c5, if_neg c6, if_neg c7, if_neg c8, if_neg c9, if_neg c10, if_neg c11, if_neg c22, if_neg c23, if_neg c24, if_pos c25, eX']) ?_
    refine SimG.bind (pre := []) (code2 := fun _ => [(7, encC (rgN E.1 (prT a.2 0)), encC x)]) (part 0 s (by omega) k0) (fun V s1 h1 => ?_) (by rw [List.length_nil]; omega)
    exact sim_back (K.1.2.2.2 0 (by omega)).2.1 x3 gg (pV (by omega) k0 h1)
  have c2' : 12 ≤ a.1.1 ∧ a.1.1 ≤ 21 := by omega
  obtain ⟨al, l2, ht⟩ := K.2.2.2.2.2.2.2.2.2.2.2.2 c2'
  obtain ⟨t1, t2, t3, t4, t5, t6, t7⟩ := Kf'.2.2.2.2.2 c2'
  have vi := vp.2.2 (by omega) (by omega)
  have tm : okMo (if a.1.1 = 19 then ((twJ E.1 a).1, 0, 0) else twJ E.1 a).1 E.2.1 := by
    by_cases q : a.1.1 = 19
    · rw [if_pos q]; exact t2
    · rw [if_neg q]; exact t2
  refine cK (cd := fun p => cgT E.1 a.2 (cgC F E.1 fl a.2) (twJ E.1 a) 0 p ++ (fun q => cgT E.1 a.2 (cgC F E.1 fl a.2) (if a.1.1 = 19 then ((twJ E.1 a).1, 0, 0) else twJ E.1 a) 1 q ++ (fun _ => [(a.1.1 + 3, encC (twJ E.1 a), 0)]) (q + ((cgT E.1 a.2 (cgC F E.1 fl a.2) (if a.1.1 = 19 then ((twJ E.1 a).1, 0, 0) else twJ E.1 a) 1 q).length : Int))) (p + ((cgT E.1 a.2 (cgC F E.1 fl a.2) (twJ E.1 a) 0 p).length : Int))) (fun p => by unfold cgK; rw [if_neg c0, if_neg c1, if_neg c2, if_neg c3, if_neg c4, if_neg c5, if_neg c6, if_neg c7, if_neg c8, if_neg c9, if_neg c10, if_neg c11, if_neg c22, if_neg c23, if_neg c24, if_neg c25]; rfl) (by unfold evK; rw [if_neg c0, if_neg c1, if_neg c2, if_neg c3, if_neg c4, if_neg c5, if_neg c6, if_neg c7, if_neg c8, if_neg c9, if_neg c10, if_neg c11, if_neg c22, if_neg c23, if_neg c24, if_neg c25]) ?_
  unfold evTwo
  refine SimG.bind (pre := []) (code2 := fun q => cgT E.1 a.2 (cgC F E.1 fl a.2) (if a.1.1 = 19 then ((twJ E.1 a).1, 0, 0) else twJ E.1 a) 1 q ++ (fun _ => [(a.1.1 + 3, encC (twJ E.1 a), 0)]) (q + ((cgT E.1 a.2 (cgC F E.1 fl a.2) (if a.1.1 = 19 then ((twJ E.1 a).1, 0, 0) else twJ E.1 a) 1 q).length : Int))) (partZ 0 s _ (by omega) (prT_kd al (by omega)) t1 t2 t4) (fun V s1 h1 => ?_) (by rw [List.length_nil]; exact vi 0 (by omega))
  refine SimG.bind (code2 := fun _ => [(a.1.1 + 3, encC (twJ E.1 a), 0)]) (partZ 1 s1 _ (by omega) (prT_kd al (by omega)) t3 tm t5) (fun W s2 h2 => ?_) (by have := vi 1 (by omega); exact this)
  have v1 := pZV (by omega) (prT_kd al (by omega)) t1 t2 t4 h1
  have v2 := pZV (by omega) (prT_kd al (by omega)) t3 tm t5 h2
  have e19 : (if a.1.1 + 3 = 22 then ((twJ E.1 a).1, (0 : Int), (0 : Int)) else twJ E.1 a) = (if a.1.1 = 19 then ((twJ E.1 a).1, 0, 0) else twJ E.1 a) := by
    by_cases q : a.1.1 = 19
    · rw [if_pos q, if_pos (by omega)]
    · rw [if_neg q, if_neg (by omega)]
  have q := sim_two (F := F) (n := n) (fl := fl) (need := vT a) (s := s2) t1 t2 t6 v1 (W := W) (by rw [e19]; exact v2)
  rw [e19, ← t7] at q
  exact q
theorem simS : ∀ m : Nat, SimP F n (ev F m) := by
  intro m
  induction m with
  | zero =>
    intro E fl a s x _ _ _ _ _ ne
    exact absurd rfl ne
  | succ m ih =>
    intro E fl a s x hE hk w wc hx
    obtain ⟨rc, K, Kf'⟩ := nd_kf hE hk w wc hx
    have b := wtS_bd K w hk Kf'
    exact SimG.step b (fun _ => simK ih (ev_VR m) hE hk w wc hx)
end SIMD
