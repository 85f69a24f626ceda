set_option maxRecDepth 100000
/-! the model's tasks: parts of what is built in -/
section VMF
variable {Q : Int → MM → Prop} {m m' m0 m1 ms : MM} {F : Int → FnR} {n : Int} {S : SGm} {E : EVm} {h pb : Int} {T T' : List Tk} {l l' pre : List VV} {s s' : ES} {R r NB r' : Nat} {a b : PT} {k cl lo : Int} {e : JE} {x z y r0 r1 : R3} {V U W : VV} {res : EX VV} {ro : Int} {cs : List Int} {rc : List R3} {rA rB rr : ER}
theorem VmS.bms (H : VmS m F n S ms E h pb T l s) : ∀ b, okb b → okMo b E.2.1 → BM m (bM b) (muR b E.2.1) := fun _ hb hm => H.bm hb hm
theorem okFr.bm (f : okFr m m') {b mu : Int} (h : BM m b mu) : BM m' b mu := by
  obtain ⟨q1, q2, q3, q4, q5⟩ := h
  refine ⟨q1, q2, ?_, q4, q5⟩
  unfold muM at q3 ⊢
  rw [f 582 89 (by decide) (by decide) (by decide)]
  exact q3
theorem task10 {s0 : Int} (K : P_X10_evalFirst k m (fun _ m2 => Q 0 m2)) : P_X10_task_20 Q 10 k 0 0 0 s0 m := by
  unfold P_X10_task_20
  refine ⟨by decide, ?_⟩
  rw [if_neg (by decide), if_neg (by decide), if_neg (by decide), if_neg (by decide), if_neg (by decide), if_neg (by decide), if_neg (by decide), if_neg (by decide), if_neg (by decide), if_neg (by decide), if_pos rfl]
  exact K
theorem task11 {s0 : Int} (K : P_X10_evalSecond k m (fun _ m2 => Q 0 m2)) : P_X10_task_20 Q 11 k 0 0 0 s0 m := by
  unfold P_X10_task_20
  refine ⟨by decide, ?_⟩
  rw [if_neg (by decide), if_neg (by decide), if_neg (by decide), if_neg (by decide), if_neg (by decide), if_neg (by decide), if_neg (by decide), if_neg (by decide), if_neg (by decide), if_neg (by decide), if_neg (by decide)]
  exact K
theorem fin1b (hO : OutZ F n S ms Q E h pb T l m R (res, s)) (H : VmS m F n S ms E h pb T (V :: l) s) (hT : T.length ≤ 12000) (hr : R ≤ r') : OutB m res (882 * (l.length : Int)) (fun _ m2 => P_X10_eval_10 Q r' m2) := by
  have tp := H.tp
  rw [List.length_cons] at tp
  exact ⟨fun U m' e f g e84 e86 vm => hO.ok (pre := [V]) H Fvm.refl e f g e84 (by rw [e86]; omega) vm hr, fun e m' e' f e84 => hO.er H Fvm.refl hT e' f e84 hr⟩
/-- of one value -/
theorem simT_fn1 (hk : a.1.1 = 6) (w : okN a.1 a.2) (l1 : lenT a.2 = 1) (hn : ¬ (a.1.2.2.1 = 0 ∨ a.1.2.2.1 = 2 ∨ a.1.2.2.1 = 3)) (hx : rgS E.1 a.1 a.2 = some x) (hr0 : rgS E.1 (prT a.2 0).1 (prT a.2 0).2 = some r0) (o0 : ok3 r0) (m0' : okMo r0.1 E.2.1) (hr : fn1S a.1.2.2.1 r0 = some x) (v : VR E.2.1 r0 V) : SimT F n S ms E h 10 a V s (fnV a.1.2.2.1 E.2.1 (fnA a.1.2.2.1 r0) x V V, s) := by
  refine fun _ => ⟨0, fun k Q m pb T l R H hN hS hb hO r' hr' => task10 ?_⟩
  obtain ⟨cs, N⟩ := H.node hS
  have b1 := hb.1
  have b2 := hb.2
  have hc := H.2.2.2.2.1
  obtain ⟨t1, t2, t3⟩ := top_at H (by omega)
  have A6 := (N.2.2.2.1.ring hx).2.2.2.2 hk
  have hit := N.2.2.1.1 (.inr hk)
  obtain ⟨c, cc, ci, ca, ct⟩ := hit.first (by rw [N.2.2.2.2.1, l1]; decide)
  have sb := N.sub cc hr0
  have f13 := w.2.2.2.2.1 hk
  have f0 := w.2.1.1
  have tl : cs.tail = [] := by
    have := N.2.2.2.2.1
    rw [l1] at this
    cases cs with
    | nil => rfl
    | cons c cs => rw [List.length_cons] at this; exact List.length_eq_zero_iff.1 (show cs.length = 0 by omega)
  rw [tl] at ct
  have ct : m 594 (m 591 k) = -1 := ct
  unfold P_X10_evalFirst
  rw [A6]
  refine ⟨N.1, ci, by constructor <;> omega, ?_⟩
  rw [if_neg (fun z => hn (.inl z)), ca, ct]
  unfold P_X10_evalFirst_56
  rw [H.er]
  refine ⟨by decide, ?_⟩
  rw [if_pos (by decide)]
  refine ⟨by decide, ?_⟩
  rw [if_neg (by decide), A6]
  refine ⟨N.1, ?_⟩
  unfold P_X10_valueAt
  dsimp only
  rw [t3]
  exact c_built1 ⟨f0, f13⟩ hn hr o0 m0' H.bms H.er t2 sb.1 sb.2 t1 v (fin1b hO H (by omega) (by omega))
/-- of two values: the second was worked -/
theorem c_second (hk : a.1.1 = 6) (w : okN a.1 a.2) (l2 : lenT a.2 = 2) (hn : a.1.2.2.1 = 0 ∨ a.1.2.2.1 = 2 ∨ a.1.2.2.1 = 3) (hx : rgS E.1 a.1 a.2 = some x) (x3 : ok3 x) (xm : okMo x.1 E.2.1) (hr0 : rgS E.1 (prT a.2 0).1 (prT a.2 0).2 = some r0) (hr1 : rgS E.1 (prT a.2 1).1 (prT a.2 1).2 = some r1) (o0 : ok3 r0) (o1 : ok3 r1) (m0' : okMo r0.1 E.2.1) (m1' : okMo r1.1 E.2.1) (hr : fn2S a.1.2.2.1 r0 r1 = some x) (g1 : a.1.2.2.1 ≠ 2 → gs r1 x) (H : VmS m F n S ms E h pb T (W :: V :: l) s) (hl : l.length + 1 ≤ 1800) (hS : SbM F S ms E.1 h a k) (vV : VR E.2.1 (if a.1.2.2.1 = 0 then x else r0) V) (vW : VR E.2.1 r1 W) (hT : T.length ≤ 12000) (hO : OutZ F n S ms Q E h pb T l m R (fnV a.1.2.2.1 E.2.1 r0 x V (if a.1.2.2.1 = 2 then W else conv E.2.1 r1 x W), s)) (hr' : R ≤ r') : P_X10_evalSecond k m (fun _ m2 => P_X10_eval_10 Q r' m2) := by
  obtain ⟨cs, N⟩ := H.node hS
  have A := N.2.2.2.1.ring hx
  have A6 := A.2.2.2.2 hk
  have hit := N.2.2.1.1 (.inr hk)
  obtain ⟨c, cc, ci, ca, ct⟩ := hit.first (by rw [N.2.2.2.2.1, l2]; decide)
  obtain ⟨c', cc', ci', ca', -⟩ := ct.first (by rw [List.length_tail, N.2.2.2.2.1, l2]; decide)
  have cc1 : cs[1]? = some c' := by rw [List.getElem?_tail] at cc'; exact cc'
  have sb0 := N.sub cc hr0
  have sb1 := N.sub cc1 hr1
  have f0 := w.2.1.1
  have h61 : ∀ (m2 : MM) (W' : VV), VmS m2 F n S ms E h pb T (W' :: V :: l) s → okFr m m2 → Fvm E.2.2.1 S.2.2.2.1 m m2 → VR E.2.1 (if a.1.2.2.1 = 2 then r1 else x) W' → OutZ F n S ms Q E h pb T l m2 R (fnV a.1.2.2.1 E.2.1 r0 x V W', s) → P_X10_evalSecond_61 (fun _ m2 => P_X10_eval_10 Q r' m2) k a.1.2.2.1 (l.length : Int) m2 := by
    intro m2 W' H2 f2 F2 vW' hO2
    unfold P_X10_evalSecond_61
    rw [H2.er]
    refine ⟨by decide, ?_⟩
    rw [if_pos (by decide)]
    have e591 : ∀ i, m2 591 i = m 591 i := fun i => f2 _ _ (by omega) (by decide) (by decide)
    rw [e591, e591, ca]
    refine ⟨N.1, ci, ?_⟩
    unfold P_X10_valueAt
    dsimp only
    have st := H2.st
    have v1 : VM (m2 635) (882 * (l.length : Int)) V := st.1.2
    have v2 : VM (m2 635) (882 * ((l.length : Int) + 1)) W' := by
      have := st.2
      rw [List.length_cons] at this
      rw [show 882 * ((l.length : Int) + 1) = 882 * ((l.length + 1 : Nat) : Int) by omega]
      exact this
    refine c_built2 hn hr o0 o1 m0' m1' H2.bms H2.er (by omega) (by omega) (by omega) N.1 (f2.rg A.1) sb0.1 (f2.rg sb0.2) v1 v2 vV vW' ⟨fun U m' e f g e84 e86 vm m4 e4 => ?_, fun e m' e' f e84 m4 e4 => ?_⟩
    · have f4 : ∀ c i, ¬ (c = 582 ∧ i = 86) → m4 c i = m' c i := fun c i q => by rw [e4, up_ne q]
      refine hO2.ok (pre := [W', V]) H2 Fvm.refl e (fun c i q1 q2 q3 => (f4 c i (by omega)).trans (f c i q1 q2 q3)) (fun q q0 q1 => by rw [f4 _ _ (by omega)]; exact g q q0 q1) (by rw [f4 _ _ (by decide)]; exact e84) (by rw [e4, up_at]) ?_ hr'
      have e6 : m4 635 = m' 635 := funext (fun q => f4 _ _ (by omega))
      rw [e6]; exact vm
    · have f4 : ∀ c i, ¬ (c = 582 ∧ i = 86) → m4 c i = m' c i := fun c i q => by rw [e4, up_ne q]
      exact hO2.er H2 Fvm.refl hT e' (fun c i q1 q2 q3 => (f4 c i (by omega)).trans (f c i q1 q2 q3)) (by rw [f4 _ _ (by decide)]; exact e84) hr'
  have tp := H.tp
  rw [List.length_cons, List.length_cons] at tp
  have h23 : a.1.2.2.1 ≠ 2 → P_X10_evalSecond_23 (fun _ m2 => P_X10_eval_10 Q r' m2) k a.1.2.2.1 (l.length : Int) m := by
    intro n2
    rw [if_neg n2] at hO
    unfold P_X10_evalSecond_23
    obtain ⟨A1, A2, A3⟩ := A.1
    rw [ca', A1, A2, A3]
    refine ⟨N.1, ci, ci', c_goL H (by rw [List.length_cons]; omega) sb1.1 sb1.2 o1 m1' x3 xm (g1 n2) vW (fun m2 H2 f2 F2 => ?_)⟩
    have vv := conv_VR o1 x3 xm (g1 n2) vW
    exact h61 m2 _ H2 f2 F2 (by rw [if_neg n2]; exact vv) (hO.fm F2 H.2.2.2.2.1.1)
  unfold P_X10_evalSecond
  rw [A6, show m 582 86 - 2 = (l.length : Int) by omega]
  refine ⟨N.1, by constructor <;> omega, ?_⟩
  by_cases c0 : a.1.2.2.1 = 0
  · rw [if_pos c0]; exact h23 (by omega)
  rw [if_neg c0]
  by_cases c3 : a.1.2.2.1 = 3
  · rw [if_pos c3]; exact h23 (by omega)
  rw [if_neg c3]
  have c2 : a.1.2.2.1 = 2 := by omega
  rw [if_pos c2] at hO
  exact h61 m W H okFr.refl Fvm.refl (by rw [if_pos c2]; exact vW) hO
theorem simT_fn2 (hk : a.1.1 = 6) (w : okN a.1 a.2) (l2 : lenT a.2 = 2) (wB : 1 + wT (prT a.2 1) ≤ wT a) (hn : a.1.2.2.1 = 0 ∨ a.1.2.2.1 = 2 ∨ a.1.2.2.1 = 3) (hx : rgS E.1 a.1 a.2 = some x) (x3 : ok3 x) (xm : okMo x.1 E.2.1) (hr0 : rgS E.1 (prT a.2 0).1 (prT a.2 0).2 = some r0) (hr1 : rgS E.1 (prT a.2 1).1 (prT a.2 1).2 = some r1) (o0 : ok3 r0) (o1 : ok3 r1) (m0' : okMo r0.1 E.2.1) (m1' : okMo r1.1 E.2.1) (hr : fn2S a.1.2.2.1 r0 r1 = some x) (g0 : a.1.2.2.1 = 0 → gs r0 x) (g1 : a.1.2.2.1 ≠ 2 → gs r1 x) (vV : VR E.2.1 r0 V) (hB : SimE F n S ms E h (prT a.2 1) s rB) (vB : ∀ W s1, rB = (.ok W, s1) → VR E.2.1 r1 W) : SimT F n S ms E h 10 a V s (andE rB (fun W s2 => (fnV a.1.2.2.1 E.2.1 r0 x (if a.1.2.2.1 = 0 then conv E.2.1 r0 x V else V) (if a.1.2.2.1 = 2 then W else conv E.2.1 r1 x W), s2))) := by
  intro ne
  have vV' : VR E.2.1 (if a.1.2.2.1 = 0 then x else r0) (if a.1.2.2.1 = 0 then conv E.2.1 r0 x V else V) := by
    by_cases c : a.1.2.2.1 = 0
    · rw [if_pos c, if_pos c]; exact conv_VR o0 x3 xm (g0 c) vV
    · rw [if_neg c, if_neg c]; exact vV
  have go : ∀ (NB : Nat) (R' : Nat → Nat) (HB : ∀ (k : Int) (Q : Int → MM → Prop) (m : MM) (pb : Int) (T : List Tk) (l : List VV) (R : Nat), VmS m F n S ms E h pb ((0, k, 0, 0, 0) :: T) l s → NmM E h pb l → SbM F S ms E.1 h (prT a.2 1) k → bdM E l T (wT (prT a.2 1)) (szT (prT a.2 1).2) → OutZ F n S ms Q E h pb T l m R rB → GoM Q (R + NB) m) (k : Int) (Q : Int → MM → Prop) (m : MM) (pb : Int) (T : List Tk) (l : List VV) (R : Nat), VmS m F n S ms E h pb T (V :: l) s → NmM E h pb l → SbM F S ms E.1 h a k → bdM E l T (wT a) (szT a.2) → (∀ m1, Fvm E.2.2.1 S.2.2.2.1 m m1 → OutZ F n S ms Q E h pb ((11, k, 0, 0, 0) :: T) ((if a.1.2.2.1 = 0 then conv E.2.1 r0 x V else V) :: l) m1 (R' R) rB) → ∀ r', R' R + NB ≤ r' → P_X10_task_20 (fun _ m2 => P_X10_eval_10 Q r' m2) 10 k 0 0 0 (882 * (l.length : Int)) m := by
    intro NB R' HB k Q m pb T l R H hN hS hb hO r' hr'
    obtain ⟨cs, N⟩ := H.node hS
    have b1 := hb.1
    have b2 := hb.2
    have hc := H.2.2.2.2.1
    have A := N.2.2.2.1.ring hx
    have A6 := A.2.2.2.2 hk
    have f0 := w.2.1.1
    have hit := N.2.2.1.1 (.inr hk)
    obtain ⟨c, cc, ci, ca, ct⟩ := hit.first (by rw [N.2.2.2.2.1, l2]; decide)
    obtain ⟨c', cc', ci', ca', -⟩ := ct.first (by rw [List.length_tail, N.2.2.2.2.1, l2]; decide)
    have cc1 : cs[1]? = some c' := by rw [List.getElem?_tail] at cc'; exact cc'
    have sb0 := N.sub cc hr0
    refine task10 ?_
    have h56 : ∀ (m2 : MM), VmS m2 F n S ms E h pb T ((if a.1.2.2.1 = 0 then conv E.2.1 r0 x V else V) :: l) s → okFr m m2 → Fvm E.2.2.1 S.2.2.2.1 m m2 → P_X10_evalFirst_56 (fun _ m2 => P_X10_eval_10 Q r' m2) k c (m 594 (m 591 k)) m2 := by
      intro m2 H2 f2 F2
      unfold P_X10_evalFirst_56
      rw [H2.er]
      refine ⟨by decide, ?_⟩
      rw [if_pos (by decide)]
      refine ⟨by constructor <;> omega, ?_⟩
      rw [if_pos ci'.1]
      refine c_later (t := (11, k, 0, 0, 0)) H2 (by omega) (fun m3 H3 F3 f3 => ⟨ci', ?_⟩)
      have e3 : m3 591 (m 594 (m 591 k)) = c' := by rw [f3 _ _ (by omega) (by omega), f2 _ _ (by omega) (by decide) (by decide)]; exact ca'
      rw [e3]
      refine c_laterP H3 (by rw [List.length_cons]; omega) (fun m4 H4 F4 => ?_)
      exact HB c' Q m4 pb ((11, k, 0, 0, 0) :: T) _ (R' R) H4 hN.cons (hS.part (by omega) w H.1.2.2.2.2.1 N cc1) (hb.part1 (by omega) wB) ((hO m2 F2).fm' (F3.trans F4) hc.1) r' hr'
    unfold P_X10_evalFirst
    rw [A6]
    refine ⟨N.1, ci, by constructor <;> omega, ?_⟩
    rw [ca]
    by_cases c0 : a.1.2.2.1 = 0
    · rw [if_pos c0]
      rw [if_pos c0] at h56
      obtain ⟨A1, A2, A3⟩ := A.1
      rw [A1, A2, A3]
      exact c_goL H (by omega) sb0.1 sb0.2 o0 m0' x3 xm (g0 c0) vV (fun m2 H2 f2 F2 => h56 m2 H2 f2 F2)
    · rw [if_neg c0]
      rw [if_neg c0] at h56
      exact h56 m H okFr.refl Fvm.refl
  obtain ⟨o, s1⟩ := rB
  cases o with
  | error e =>
    obtain ⟨NB, HB⟩ := hB ne
    exact ⟨NB, fun k Q m pb T l R H hN hS hb hO r' hr => go NB (fun R => R) HB k Q m pb T l R H hN hS hb (fun m1 F1 => hO.fm' F1 H.2.2.2.2.1.1) r' hr⟩
  | ok W =>
    obtain ⟨NB, HB⟩ := hB (fun z => by cases z)
    refine ⟨1 + NB, fun k Q m pb T l R H hN hS hb hO r' hr2 => go NB (fun R => R + 1) HB k Q m pb T l R H hN hS hb (fun m1 F1 => ?_) r' (by omega)⟩
    intro m3 H3 F3
    have b1 := hb.1
    have b2 := hb.2
    have hc := H.2.2.2.2.1
    refine runT H3 (by omega) (by rw [List.length_cons, List.length_cons]; omega) (fun m4 H4 F4 r4 hr4 => task11 ?_)
    exact c_second hk w l2 hn hx x3 xm hr0 hr1 o0 o1 m0' m1' hr g1 H4 (by omega) hS vV' (vB W s1 rfl) (by omega) (OutZ.fm hO (F1.trans (F3.trans F4)) hc.1) hr4
end VMF
