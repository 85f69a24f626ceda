set_option maxRecDepth 100000
/-! the model's tasks: two parts, choices -/
theorem andE_as {r : ER} {k1 k2 : VV → ES → ER} : andE (andE r k1) k2 = andE r (fun V s => andE (k1 V s) k2) := by
  obtain ⟨o, s⟩ := r
  cases o <;> rfl
def OutB (m : MM) (res : EX VV) (p : Int) (Q : Int → MM → Prop) : Prop := (∀ U m', res = .ok U → okFr m m' → (∀ q, 0 ≤ q → q < p → m' 635 q = m 635 q) → m' 582 84 = 0 → m' 582 86 = m 582 86 → VM (m' 635) p U → Q 0 m') ∧ (∀ e m', res = .error e → okFr m m' → m' 582 84 = e → Q 0 m')
section VMT
variable {Q : Int → MM → Prop} {m m' m0 m1 ms : MM} {F : Int → FnR} {n : Int} {S : SGm} {E : EVm} {h pb : Int} {T T' : List Tk} {l l' pre : List VV} {s s' : ES} {R r NB r' : Nat} {a b : PT} {k cl lo : Int} {e : JE} {x z y y0 y1 zb : R3} {V U W : VV} {res : EX VV} {ro : Int} {cs : List Int} {rc : List R3} {rA rB rr : ER}
theorem okFr.rg {c : Int} (f : okFr m m') (hr : rgM m c (some x)) : rgM m' c (some x) := by
  obtain ⟨r1, r2, r3⟩ := hr
  exact ⟨by rw [f _ _ (by omega) (by decide) (by decide)]; exact r1, by rw [f _ _ (by omega) (by decide) (by decide)]; exact r2, by rw [f _ _ (by omega) (by decide) (by decide)]; exact r3⟩
theorem OutB.of {X : Int → Prop} {p : Int} (f0 : okFr m m1) (g0 : ∀ q, 0 ≤ q → q < p → m1 635 q = m 635 q) (e86 : m1 582 86 = m 582 86) (K : OutB m res p Q) (hX : ∀ q, X q → p ≤ q) : OutW X m1 res p Q := by
  refine ⟨fun U m' e f e84 vm => K.1 U m' e (f0.trans f.okf) (fun q q0 q1 => ?_) e84 ?_ vm, fun e m' e' f e84 => K.2 e m' e' (f0.trans f.okf) e84⟩
  · rw [f.2 q (fun z => by have := hX q z; omega)]; exact g0 q q0 q1
  · rw [f.1 _ _ (by decide) (by decide)]; exact e86
theorem fin2 (hO : OutZ F n S ms Q E h pb T l m R (res, s)) (H : VmS m F n S ms E h pb T (W :: V :: l) s) (hT : T.length ≤ 12000) (hr : R ≤ r') : OutB m res (882 * (l.length : Int)) (fun _ m2 => ∀ m5 : MM, m5 = up m2 582 86 (m2 582 86 - 1) → P_X10_eval_10 Q r' m5) := by
  have tp := H.tp
  rw [List.length_cons, List.length_cons] at tp
  refine ⟨fun U m' e f g e84 e86 vm m5 e5 => ?_, fun e m' e' f e84 m5 e5 => ?_⟩
  · have f5 : ∀ c i, ¬ (c = 582 ∧ i = 86) → m5 c i = m' c i := fun c i q => by rw [e5, up_ne q]
    refine hO.ok (pre := [W, V]) H Fvm.refl e (fun c i q1 q2 q3 => (f5 c i (by omega)).trans (f c i q1 q2 q3)) (fun q q0 q1 => by rw [f5 _ _ (by omega)]; exact g q q0 q1) (by rw [f5 _ _ (by decide)]; exact e84) (by rw [e5, up_at, e86, tp]; omega) ?_ hr
    have e6 : m5 635 = m' 635 := funext (fun q => f5 _ _ (by omega))
    rw [e6]; exact vm
  · have f5 : ∀ c i, ¬ (c = 582 ∧ i = 86) → m5 c i = m' c i := fun c i q => by rw [e5, up_ne q]
    exact hO.er H Fvm.refl hT e' (fun c i q1 q2 q3 => (f5 c i (by omega)).trans (f c i q1 q2 q3)) (by rw [f5 _ _ (by decide)]; exact e84) hr
/-- an operation of two values -/
theorem c_ev2 (hk : 12 ≤ a.1.1 ∧ a.1.1 ≤ 21) (N : NdM m E.1 (roM h) a k cs) (H : VmS m F n S ms E h pb T (W :: V :: l) s) (hl : l.length + 1 ≤ 1800) (c0 : (0 ≤ m 591 k ∧ m 591 k < 12000) ∧ rgM m (m 591 k) (some y0)) (c1 : (0 ≤ m 592 k ∧ m 592 k < 12000) ∧ rgM m (m 592 k) (some y1)) (o0 : ok3 y0) (o1 : ok3 y1) (m0' : okMo y0.1 E.2.1) (m1' : okMo y1.1 E.2.1) (ht : twoS a.1.1 y0 y1 = some x) (ez : z = if a.1.1 = 19 then x else (jn y0 y1).getD (0, 0, 0)) (z3 : ok3 z) (zm : okMo z.1 E.2.1) (zb3 : ok3 (if a.1.1 = 19 then (z.1, 0, 0) else z)) (g0 : gs y0 z) (g1 : gs y1 (if a.1.1 = 19 then (z.1, 0, 0) else z)) (hop : opOK (a.1.1 + 3) z) (vV : VR E.2.1 y0 V) (vW : VR E.2.1 y1 W) (K : OutB m (binS (a.1.1 + 3) (muR z.1 E.2.1) z.2.1 z.2.2 (conv E.2.1 y0 z V) (conv E.2.1 y1 (if a.1.1 = 19 then (z.1, 0, 0) else z) W)) (882 * (l.length : Int)) Q) : P_X10_evalTwo k (882 * (l.length : Int)) (882 * ((l.length : Int) + 1)) m Q := by
  obtain ⟨⟨c01, c02⟩, r01, r02, r03⟩ := c0
  obtain ⟨⟨c11, c12⟩, r11, r12, r13⟩ := c1
  have kk : m 590 k = a.1.1 + 1 := by rw [N.kind (by omega)]; exact (kM_cs (d := a.1.1) (by omega)).2.2.2.2.2.2.1 hk
  obtain ⟨j, hj, t1, t2⟩ := two_cs hk o0 o1 ht
  have jo := jn_ok o0 o1 hj
  obtain ⟨j1, j2, j3⟩ := jn_vals o0 o1 hj
  have zj : z.2 = j.2 ∧ z.1 = (if a.1.1 = 19 ∧ j.1 = 0 then 1 else j.1) := by
    by_cases c : a.1.1 = 19
    · rw [ez, if_pos c, (t2 c).1]
      refine ⟨rfl, ?_⟩
      show (if j.1 = 0 then (1 : Int) else j.1) = _
      by_cases c2 : j.1 = 0
      · rw [if_pos c2, if_pos ⟨c, c2⟩]
      · rw [if_neg c2, if_neg (fun z => c2 z.2)]
    · rw [ez, if_neg c, hj, if_neg (fun z => c z.1)]
      exact ⟨rfl, rfl⟩
  have jb := bM_bd (ok3_b jo)
  have stV := H.st
  have vV0 : VM (m 635) (882 * (l.length : Int)) V := stV.1.2
  have vW0 : VM (m 635) (882 * ((l.length : Int) + 1)) W := by
    have := stV.2
    rw [List.length_cons] at this
    rw [show 882 * ((l.length : Int) + 1) = 882 * ((l.length + 1 : Nat) : Int) by omega]
    exact this
  obtain ⟨mx1, mx2⟩ := H.mo (ok3_b o0) m0'
  obtain ⟨my1, my2⟩ := H.mo (ok3_b o1) m1'
  obtain ⟨mz1, mz2⟩ := H.mo (ok3_b z3) zm
  unfold P_X10_evalTwo P_X10_joinsParts
  refine ⟨N.1, ⟨c01, c02⟩, ⟨c11, c12⟩, ?_⟩
  rw [r01, r02, r03, r11, r12, r13, kk]
  refine c_joins o0 o1 ⟨by split <;> omega, ?_⟩
  obtain ⟨m1, hm1⟩ : ∃ m1, m1 = jm m (bM y0.1) y0.2.1 y0.2.2 (bM y1.1) y1.2.1 y1.2.2 := ⟨_, rfl⟩
  rw [← hm1]
  have f1 : okFr m m1 := fun c i q1 q2 q3 => by rw [hm1]; exact jm_o (by omega)
  have g635 : ∀ q, m1 635 q = m 635 q := fun q => by rw [hm1]; exact jm_o (by omega)
  have e65 : m1 582 65 = bM j.1 := by rw [hm1, jm_65]; exact j1
  have e66 : m1 582 66 = z.2.1 := by rw [hm1, jm_66, zj.1]; exact j2
  have e67 : m1 582 67 = z.2.2 := by rw [hm1, jm_67, zj.1]; exact j3
  have e89 : m1 582 89 = m 582 89 := f1 _ _ (by decide) (by decide) (by decide)
  have eb : (if a.1.1 + 1 = 20 then (if m1 582 65 = 0 then 1 else m1 582 65 : Int) else m1 582 65 : Int) = bM z.1 := by
    rw [e65, zj.2]
    by_cases c : a.1.1 = 19
    · rw [if_pos (by omega)]
      by_cases c2 : j.1 = 0
      · rw [if_pos (jb.2.2.2.1.2 c2), if_pos ⟨c, c2⟩]; rfl
      · rw [if_neg (fun z => c2 (jb.2.2.2.1.1 z)), if_neg (fun z => c2 z.2)]
    · rw [if_neg (by omega), if_neg (fun z => c z.1)]
  refine ⟨⟨by constructor <;> omega, ?_⟩, ⟨c01, c02⟩, ?_⟩
  · rw [e65]
    by_cases c : a.1.1 + 1 = 20
    · rw [if_pos c]; exact (by constructor <;> omega)
    · rw [if_neg c]; trivial
  rw [eb, e66, e67, f1 598 _ (by omega) (by decide) (by decide), f1 599 _ (by omega) (by decide) (by decide), f1 600 _ (by omega) (by decide) (by decide), r01, r02, r03]
  refine c_convM o0 z3 (by rw [e89]; exact mz1) g0 rfl (by omega) (VM_of vV0 (fun i i0 i1 => g635 _)) (by rw [e89]; exact VR_mo mx2.symm vV) (fun m2 f2 e2 v2 => ?_)
  rw [e89, conv_mo mz2] at v2
  have f12 : okFr m m2 := f1.trans f2.okf
  have e89' : m2 582 89 = m 582 89 := by rw [f2.1 _ _ (by decide) (by decide)]; exact e89
  have vW2 : VM (m2 635) (882 * ((l.length : Int) + 1)) W := VM_of vW0 (fun i i0 i1 => by rw [f2.2 _ (by unfold SX; omega)]; exact g635 _)
  have last : ∀ m3, okFr m m3 → m3 582 89 = m 582 89 → m3 582 84 = 0 → m3 582 86 = m 582 86 → (∀ q, 0 ≤ q → q < 882 * (l.length : Int) → m3 635 q = m 635 q) → VM (m3 635) (882 * (l.length : Int)) (conv E.2.1 y0 z V) → VM (m3 635) (882 * ((l.length : Int) + 1)) (conv E.2.1 y1 (if a.1.1 = 19 then (z.1, 0, 0) else z) W) → P_X10_evalTwo_162 Q (882 * (l.length : Int)) (882 * ((l.length : Int) + 1)) (a.1.1 + 1) (bM z.1) z.2.1 z.2.2 m3 := by
    intro m3 f3 e3 er3 e86 g3 va vb
    have zbm : okMo (if a.1.1 = 19 then (z.1, 0, 0) else z).1 E.2.1 := by
      by_cases c : a.1.1 = 19
      · rw [if_pos c]; exact zm
      · rw [if_neg c]; exact zm
    have va' := conv_VR o0 z3 zm g0 vV
    have vb' := conv_VR o1 zb3 zbm g1 vW
    have e20 : (if a.1.1 + 1 = 20 then ((z.1, 0, 0) : R3) else z) = (if a.1.1 = 19 then (z.1, 0, 0) else z) := by
      by_cases c : a.1.1 = 19
      · rw [if_pos c, if_pos (by omega)]
      · rw [if_neg c, if_neg (by omega)]
    have emb : muR (if a.1.1 = 19 then (z.1, 0, 0) else z).1 (m 582 89) = muR (if a.1.1 = 19 then (z.1, 0, 0) else z).1 E.2.1 := by
      by_cases c : a.1.1 = 19
      · rw [if_pos c]; exact mz2
      · rw [if_neg c]; exact mz2
    refine c_evalTwo_162 (mo := m 582 89) z3 mz1 (by rw [show a.1.1 + 1 + 2 = a.1.1 + 3 by omega]; exact hop) e3 er3 (by omega) (by omega) (by left; omega) va vb (VR_mo mz2.symm va') (by rw [e20]; exact VR_mo emb.symm vb') ?_
    rw [show a.1.1 + 1 + 2 = a.1.1 + 3 by omega, mz2]
    have := OutB.of (X := S2M (882 * (l.length : Int)) (882 * ((l.length : Int) + 1))) f3 g3 e86 K (fun q hq => by unfold S2M at hq; omega)
    exact this
  have e84 : m2 582 84 = 0 := by rw [e2, hm1, jm_o (by omega)]; exact H.er
  have e86 : m2 582 86 = m 582 86 := by rw [f2.1 _ _ (by decide) (by decide)]; rw [hm1]; exact jm_o (by omega)
  have g2 : ∀ q, 0 ≤ q → q < 882 * (l.length : Int) → m2 635 q = m 635 q := fun q q0 q1 => by rw [f2.2 q (by unfold SX; omega)]; exact g635 q
  refine ⟨by constructor <;> omega, ?_⟩
  have g1v := gs_vals o1 zb3 g1
  by_cases c : a.1.1 = 19
  · rw [if_pos (by omega)]
    refine ⟨⟨c11, c12⟩, ?_⟩
    rw [if_pos c] at zb3 g1 g1v
    have d0 : y1.2.1 = 0 := by
      have q : y1.2.1 ≤ 0 := g1v.2.1
      have := (ok3_ds o1).1
      omega
    have s0 : y1.2.2 = 0 := by
      rcases g1v.2.2.1 with q | q
      · exact q
      · exact q
    rw [f2.1 598 _ (by decide) (by omega), f1 598 _ (by omega) (by decide) (by decide), r11]
    have cv := c_convM (Q := fun _ m4 => P_X10_evalTwo_162 Q (882 * (l.length : Int)) (882 * ((l.length : Int) + 1)) (a.1.1 + 1) (bM z.1) z.2.1 z.2.2 m4) (m := m2) (p := 882 * ((l.length : Int) + 1)) (x := y1) (z := (z.1, 0, 0)) (mo := m 582 89) o1 zb3 (by exact mz1) g1 e89' (by omega) vW2 (VR_mo my2.symm vW) (fun m3 f3 e3 v3 => ?_)
    · rw [d0, s0] at cv
      exact cv
    · rw [conv_mo (z := (z.1, 0, 0)) mz2] at v3
      rw [if_pos c] at last
      exact last m3 (f12.trans f3.okf) (by rw [f3.1 _ _ (by decide) (by decide)]; exact e89') (by rw [e3]; exact e84) (by rw [f3.1 _ _ (by decide) (by decide)]; exact e86) (fun q q0 q1 => by rw [f3.2 q (by unfold SX; omega)]; exact g2 q q0 q1) (v2.fm f3 (fun i i0 i1 => by unfold SX; omega)) v3
  · rw [if_neg (by omega)]
    refine ⟨⟨c11, c12⟩, ?_⟩
    rw [if_neg c] at zb3 g1 g1v last
    rw [f2.1 598 _ (by decide) (by omega), f1 598 _ (by omega) (by decide) (by decide), f2.1 599 _ (by decide) (by omega), f1 599 _ (by omega) (by decide) (by decide), f2.1 600 _ (by decide) (by omega), f1 600 _ (by omega) (by decide) (by decide), r11, r12, r13]
    refine c_convM o1 z3 mz1 g1 e89' (by omega) vW2 (VR_mo my2.symm vW) (fun m3 f3 e3 v3 => ?_)
    rw [conv_mo mz2] at v3
    exact last m3 (f12.trans f3.okf) (by rw [f3.1 _ _ (by decide) (by decide)]; exact e89') (by rw [e3]; exact e84) (by rw [f3.1 _ _ (by decide) (by decide)]; exact e86) (fun q q0 q1 => by rw [f3.2 q (by unfold SX; omega)]; exact g2 q q0 q1) (v2.fm f3 (fun i i0 i1 => by unfold SX; omega)) v3
/-- two parts -/
theorem simT_two (hk : 12 ≤ a.1.1 ∧ a.1.1 ≤ 21) (w : okN a.1 a.2) (l2 : lenT a.2 = 2) (wB : 1 + wT (prT a.2 1) ≤ wT a) (hr0 : rgS E.1 (prT a.2 0).1 (prT a.2 0).2 = some y0) (hr1 : rgS E.1 (prT a.2 1).1 (prT a.2 1).2 = some y1) (o0 : ok3 y0) (o1 : ok3 y1) (m0' : okMo y0.1 E.2.1) (m1' : okMo y1.1 E.2.1) (ht : twoS a.1.1 y0 y1 = some x) (ez : z = if a.1.1 = 19 then x else (jn y0 y1).getD (0, 0, 0)) (z3 : ok3 z) (zm : okMo z.1 E.2.1) (zb3 : ok3 (if a.1.1 = 19 then (z.1, 0, 0) else z)) (g0 : gs y0 z) (g1 : gs y1 (if a.1.1 = 19 then (z.1, 0, 0) else z)) (hop : opOK (a.1.1 + 3) z) (vV : VR E.2.1 y0 V) (hB : SimE F n S ms E h (prT a.2 1) s rB) (vB : ∀ W s1, rB = (.ok W, s1) → VR E.2.1 y1 W) : SimT F n S ms E h 1 a V s (andE rB (fun W s2 => (binS (a.1.1 + 3) (muR z.1 E.2.1) z.2.1 z.2.2 (conv E.2.1 y0 z V) (conv E.2.1 y1 (if a.1.1 = 19 then (z.1, 0, 0) else z) W), s2))) := by
  intro ne
  have kc := (kM_cs (d := a.1.1) (by omega)).2.2.2.2.2.2.1 hk
  have go : ∀ (NB : Nat) (R' : Nat → Nat) (HB : ∀ (k : Int) (Q : Int → MM → Prop) (m : MM) (pb : Int) (T : List Tk) (l : List VV) (R : Nat), VmS m F n S ms E h pb ((0, k, 0, 0, 0) :: T) l s → NmM E h pb l → SbM F S ms E.1 h (prT a.2 1) k → bdM E l T (wT (prT a.2 1)) (szT (prT a.2 1).2) → OutZ F n S ms Q E h pb T l m R rB → GoM Q (R + NB) m) (k : Int) (Q : Int → MM → Prop) (m : MM) (pb : Int) (T : List Tk) (l : List VV) (R : Nat), VmS m F n S ms E h pb T (V :: l) s → NmM E h pb l → SbM F S ms E.1 h a k → bdM E l T (wT a) (szT a.2) → OutZ F n S ms Q E h pb ((2, k, 0, 0, 0) :: T) (V :: l) m (R' R) rB → ∀ r', R' R + NB ≤ r' → P_X10_task_20 (fun _ m2 => P_X10_eval_10 Q r' m2) 1 k 0 0 0 (882 * (l.length : Int)) m := by
    intro NB R' HB k Q m pb T l R H hN hS hb hO r' hr
    obtain ⟨cs, N⟩ := H.node hS
    have b2 := hb.2
    have hc := H.2.2.2.2.1
    have kk : m 590 k = a.1.1 + 1 := by rw [N.kind (by omega)]; exact kc
    have ec : cs = [m 591 k, m 592 k] := (N.2.2.1.2.2.2.1 (by omega)).1
    have hc1 : cs[1]? = some (m 592 k) := by rw [ec]; rfl
    refine task1 ?_
    unfold P_X10_evalLeft
    refine ⟨N.1, by rw [kk]; constructor <;> omega, ?_⟩
    rw [if_neg (by omega), if_neg (by omega), if_neg (by omega), if_neg (by omega), if_neg (by omega)]
    unfold P_X10_evalLeft_230
    refine c_later (t := (2, k, 0, 0, 0)) H (by omega) (fun m1 H1 F1 f1 => ⟨N.1, ?_⟩)
    rw [f1 592 k (by omega) (by omega)]
    refine c_laterP H1 (by rw [List.length_cons]; omega) (fun m2 H2 F2 => ?_)
    exact HB (m 592 k) Q m2 pb ((2, k, 0, 0, 0) :: T) (V :: l) (R' R) H2 hN.cons (hS.part (by omega) w H.1.2.2.2.2.1 N hc1) (hb.part1 (by omega) wB) (hO.fm' (F1.trans F2) hc.1) r' hr
  obtain ⟨o, s1⟩ := rB
  cases o with
  | error e =>
    obtain ⟨NB, HB⟩ := hB ne
    exact ⟨NB, fun k Q m pb T l R H hN hS hb hO r' hr => go NB (fun R => R) HB k Q m pb T l R H hN hS hb hO r' hr⟩
  | ok W =>
    obtain ⟨NB, HB⟩ := hB (fun z => by cases z)
    refine ⟨1 + NB, fun k Q m pb T l R H hN hS hb hO r' hr => go NB (fun R => R + 1) HB k Q m pb T l R H hN hS hb ?_ r' (by omega)⟩
    intro m3 H3 F3
    have b1 := hb.1
    have b2 := hb.2
    have hc := H.2.2.2.2.1
    refine runT H3 (by omega) (by rw [List.length_cons, List.length_cons]; omega) (fun m4 H4 F4 r4 hr4 => ?_)
    have e0 : (if (W :: V :: l).length = 0 then (0 : Int) else 882 * (((W :: V :: l).length : Int) - 1)) = 882 * ((l.length : Int) + 1) := by
      rw [List.length_cons, List.length_cons, if_neg (by omega)]; omega
    rw [e0]
    obtain ⟨cs, N⟩ := H4.node hS
    have ec : cs = [m4 591 k, m4 592 k] := (N.2.2.1.2.2.2.1 (by omega)).1
    have tp := H4.tp
    rw [List.length_cons, List.length_cons] at tp
    unfold P_X10_task_20
    refine ⟨by show RI 2; decide, ?_⟩
    rw [if_neg (by show ¬ ((2 : Int) = 0); decide), if_neg (by show ¬ ((2 : Int) = 1); decide), if_pos rfl]
    unfold P_X10_valueAt
    dsimp only
    rw [show m4 582 86 - 2 = (l.length : Int) by omega]
    have hO' := hO.fm' (F3.trans F4) hc.1
    exact c_ev2 hk N H4 (by omega) (N.sub (i := 0) (by rw [ec]; rfl) hr0) (N.sub (i := 1) (by rw [ec]; rfl) hr1) o0 o1 m0' m1' ht ez z3 zm zb3 g0 g1 hop vV (vB W s1 rfl) (fin2 hO' H4 (by omega) hr4)
/-- the value goes to the choice's ring -/
theorem task4 {c s0 : Int} (H : VmS m F n S ms E h pb T (V :: l) s) (hl : l.length ≤ 1800) (N : NdM m E.1 (roM h) a k cs) (hx : rgS E.1 a.1 a.2 = some x) (x3 : ok3 x) (xm : okMo x.1 E.2.1) (hc : (0 ≤ c ∧ c < 12000) ∧ rgM m c (some y)) (y3 : ok3 y) (ym : okMo y.1 E.2.1) (hg : gs y x) (v : VR E.2.1 y V) (hO : OutZ F n S ms Q E h pb T l m R (.ok (conv E.2.1 y x V), s)) (hr : R ≤ r') : P_X10_task_20 (fun _ m2 => P_X10_eval_10 Q r' m2) 4 k c 0 0 s0 m := by
  obtain ⟨⟨A1, A2, A3⟩, -⟩ := N.2.2.2.1.ring hx
  unfold P_X10_task_20
  refine ⟨by decide, ?_⟩
  rw [if_neg (by decide), if_neg (by decide), if_neg (by decide), if_neg (by decide), if_pos rfl, A1, A2, A3]
  refine ⟨N.1, c_goL H hl hc.1 hc.2 y3 ym x3 xm hg v (fun m' H' f' F' => ?_)⟩
  have hO : ∀ m', VmS m' F n S ms E h pb T (conv E.2.1 y x V :: l) s → Fvm E.2.2.1 S.2.2.2.1 m m' → GoM Q R m' := hO
  exact hO m' H' F' r' hr
/-- if -/
theorem simT_if {rec : EVm → PT → ES → ER} (hk : a.1.1 = 8) (w : okN a.1 a.2) (l3 : lenT a.2 = 3) (wB : ∀ i, i < 3 → wT (prT a.2 i) ≤ wT a) (hx : rgS E.1 a.1 a.2 = some x) (x3 : ok3 x) (xm : okMo x.1 E.2.1) (v : VR E.2.1 (-2, 0, 0) V) (hp : ∀ i, i < 3 → SimE F n S ms E h (prT a.2 i) s (rec E (prT a.2 i) s) ∧ (rgS E.1 (prT a.2 i).1 (prT a.2 i).2 = some (rgN E.1 (prT a.2 i)) ∧ ok3 (rgN E.1 (prT a.2 i)) ∧ okMo (rgN E.1 (prT a.2 i)).1 E.2.1) ∧ (∀ W s1, rec E (prT a.2 i) s = (.ok W, s1) → VR E.2.1 (rgN E.1 (prT a.2 i)) W)) (hg : gs (rgN E.1 (prT a.2 1)) x ∧ gs (rgN E.1 (prT a.2 2)) x) : SimT F n S ms E h 3 a V s (if (V 0 0 0).1 = 0 then evP rec E a.2 x 2 s else evP rec E a.2 x 1 s) := by
  obtain ⟨b, b01, eb⟩ := VR_num_of v rfl
  rw [eb]
  have key : ∀ i : Nat, (b = 0 ∧ i = 2 ∨ b = 1 ∧ i = 1) → SimT F n S ms E h 3 a V s (evP rec E a.2 x i s) := by
    intro i hi ne
    obtain ⟨hB, ⟨q1, q2, q3⟩, q4⟩ := hp i (by omega)
    have gi : gs (rgN E.1 (prT a.2 i)) x := by
      rcases hi with ⟨-, rfl⟩ | ⟨-, rfl⟩
      · exact hg.2
      · exact hg.1
    have go : ∀ (NB : Nat) (R' : Nat → Nat) (HB : ∀ (k : Int) (Q : Int → MM → Prop) (m : MM) (pb : Int) (T : List Tk) (l : List VV) (R : Nat), VmS m F n S ms E h pb ((0, k, 0, 0, 0) :: T) l s → NmM E h pb l → SbM F S ms E.1 h (prT a.2 i) k → bdM E l T (wT (prT a.2 i)) (szT (prT a.2 i).2) → OutZ F n S ms Q E h pb T l m R (rec E (prT a.2 i) s) → GoM Q (R + NB) m) (k : Int) (Q : Int → MM → Prop) (m : MM) (pb : Int) (T : List Tk) (l : List VV) (R : Nat), VmS m F n S ms E h pb T (V :: l) s → NmM E h pb l → SbM F S ms E.1 h a k → bdM E l T (wT a) (szT a.2) → (∀ c m1, Fvm E.2.2.1 S.2.2.2.1 m m1 → SbM F S ms E.1 h (prT a.2 i) c → OutZ F n S ms Q E h pb ((4, k, c, 0, 0) :: T) l m1 (R' R) (rec E (prT a.2 i) s)) → ∀ r', R' R + NB ≤ r' → P_X10_task_20 (fun _ m2 => P_X10_eval_10 Q r' m2) 3 k 0 0 0 (882 * (l.length : Int)) m := by
      intro NB R' HB k Q m pb T l R H hN hS hb hO r' hr
      obtain ⟨cs, N⟩ := H.node hS
      have b1 := hb.1
      have b2 := hb.2
      have hc := H.2.2.2.2.1
      have ec : cs = [m 591 k, m 592 k, m 593 k] := N.2.2.1.2.2.1 hk
      obtain ⟨t1, t2, t3⟩ := top_at H (by omega)
      have tb := top_bit H eb
      unfold P_X10_task_20
      refine ⟨by decide, ?_⟩
      rw [if_neg (by decide), if_neg (by decide), if_neg (by decide), if_pos rfl]
      intro m6 e6
      have f6 : ∀ c i, ¬ (c = 582 ∧ i = 86) → m6 c i = m c i := fun c i q => by rw [e6, up_ne q]
      obtain ⟨H6, F6⟩ := H.pop f6 (by rw [e6, up_at]; omega)
      have ei : (if m6 635 (882 * (l.length : Int)) = 1 then m6 592 k else m6 593 k : Int) = (if b = 1 then m 592 k else m 593 k) := by
        rw [f6 635 _ (by omega), f6 592 _ (by omega), f6 593 _ (by omega), tb]
      rw [ei, f6 635 _ (by omega), tb]
      obtain ⟨c, hc', hcs⟩ : ∃ c, (if b = 1 then m 592 k else m 593 k) = c ∧ cs[i]? = some c := by
        rcases hi with ⟨q, rfl⟩ | ⟨q, rfl⟩
        · exact ⟨m 593 k, by rw [if_neg (by omega)], by rw [ec]; rfl⟩
        · exact ⟨m 592 k, by rw [if_pos q], by rw [ec]; rfl⟩
      rw [hc']
      have hSc := hS.part (by omega) w H.1.2.2.2.2.1 N hcs
      refine ⟨by omega, ⟨by constructor <;> omega, by split <;> exact N.1⟩, ?_⟩
      exact go_two (t := (4, k, c, 0, 0)) HB H6 hN hSc (hb.part (by omega) (wB i (by omega))) (hO c m6 F6 hSc) hr
    unfold evP at ne ⊢
    obtain ⟨rr, hrr⟩ : ∃ rr, rr = rec E (prT a.2 i) s := ⟨_, rfl⟩
    rw [← hrr] at ne hB go q4 ⊢
    obtain ⟨o, s1⟩ := rr
    cases o with
    | error e =>
      obtain ⟨NB, HB⟩ := hB ne
      exact ⟨NB, fun k Q m pb T l R H hN hS hb hO r' hr => go NB (fun R => R) HB k Q m pb T l R H hN hS hb (fun c m1 F1 _ => hO.fm' F1 H.2.2.2.2.1.1) r' hr⟩
    | ok W =>
      obtain ⟨NB, HB⟩ := hB (fun z => by cases z)
      refine ⟨1 + NB, fun k Q m pb T l R H hN hS hb hO r' hr => go NB (fun R => R + 1) HB k Q m pb T l R H hN hS hb (fun c m1 F1 hSc => ?_) r' (by omega)⟩
      intro m3 H3 F3
      have b1 := hb.1
      have b2 := hb.2
      have hc := H.2.2.2.2.1
      refine runT H3 (by omega) (by rw [List.length_cons]; omega) (fun m4 H4 F4 r4 hr4 => ?_)
      obtain ⟨cs, N⟩ := H4.node hS
      obtain ⟨cs', N'⟩ := H4.node hSc
      have rg := (N'.2.2.2.1.ring q1).1
      exact task4 H4 (by omega) N hx x3 xm ⟨N'.1, rg⟩ q2 q3 gi (q4 W s1 rfl) (hO.fm' (F1.trans (F3.trans F4)) hc.1) hr4
  by_cases c : b = 0
  · rw [if_pos c]; exact key 2 (.inl ⟨c, rfl⟩)
  · rw [if_neg c]; exact key 1 (.inr ⟨by omega, rfl⟩)
end VMT
