set_option maxRecDepth 100000
/-! the model's tasks: a call ends -/
section VME
variable {Q : Int → MM → Prop} {m m' m0 m1 ms : MM} {F : Int → FnR} {n : Int} {S : SGm} {E : EVm} {h pb pb' : Int} {T T' : List Tk} {l l' pre : List VV} {s s' : ES} {R : Option R3} {a b : PT} {k cl lo f : Int} {rc : List R3} {x y z z' x' : R3} {V : VV} {Rn r' : Nat} {nm : Int → VV}
theorem HdE.rd (hd : HdE F n E h) : h = -1 ∨ RdE F n h E.1.2.2.2.2 := by
  rcases hd with ⟨q, -⟩ | ⟨R, q1, q2, q3, q4, q5⟩
  · exact .inl q
  · right
    have e : E.1.2.2.2.2 = R := by rw [q1]; rfl
    rw [e]
    exact ⟨q2, q3, q4, q5⟩
theorem HdE.je (hd : HdE F n E h) (h0 : 0 ≤ h) : E.1 = JEf F h E.1.2.2.2.2 := by
  rcases hd with ⟨q, -⟩ | ⟨R, q1, -⟩
  · omega
  · have e : E.1.2.2.2.2 = R := by rw [q1]; rfl
    rw [e]; exact q1
theorem c_leave (hRg : RgO S n) (hFs : FsM F n) (hE : FOK F n) (rd : RdE F n f (nrmR R)) (H : VmS m F n S ms (JEf F f (nrmR R), ownM E.2.1 R, E.2.2.1 + 1, nm, E.2.2.2.2) f pb' T (V :: (pre ++ l)) s) (hpre : 1 ≤ pre.length) (hl : (pre ++ l).length ≤ 1800) (q1 : rgS (JEf F f (nrmR R)) (rootF (F f)).1 (rootF (F f)).2 = some x') (q2 : instS (F f) 0 (nrmR R) = some z') (x3 : ok3 x') (z3 : ok3 z') (xm : okMo x'.1 (ownM E.2.1 R)) (zm : okMo z'.1 (ownM E.2.1 R)) (hg : gs x' z') (v : VR (ownM E.2.1 R) x' V) (hd : HdE F n E h) (hc : 0 ≤ E.2.2.1 ∧ E.2.2.1 ≤ 19) (VO : VvO m E h) (hm0 : RM m0 E.1.2.2.2.2) (hmo : 2 ≤ E.2.1 → m0 582 89 = E.2.1) (sv : SvM m E.2.2.1 f pb h (m0 582 62) (m0 582 63) (m0 582 64) (m0 582 89)) (hH : h < 0 → TNM m (AnP m E.1 1) S.2.2.1.1 S.2.2.1.2 S.2.2.2.1 S.2.2.2.2.1 S.2.2.2.2.2) (K : ∀ m', VmS m' F n S ms E h pb T (conv (ownM E.2.1 R) x' z' V :: l) s → Fvm E.2.2.1 S.2.2.2.1 m m' → Q 0 m') : P_X10_leaveCall (l.length : Int) m Q := by
  obtain ⟨I, D, -, ⟨e1, e2, e3, e4, e5, e6⟩, -, bs⟩ := id H
  have e3 : RM m (nrmR R) := e3
  have c91 : m 582 91 = E.2.2.1 + 1 := D.2.2.2.2.2.2.2.1
  obtain ⟨d1, d2, d3, d4⟩ := id rd
  obtain ⟨s1, s2, s3, s4, s5, s6, s7⟩ := sv
  have bk := I.2.1.2 f d1.1 d1.2
  have n20 := I.1
  obtain ⟨t1, t2, t3⟩ := top_at H hl
  obtain ⟨mx1, mx2⟩ := H.mo (ok3_b x3) xm
  obtain ⟨mz1, mz2⟩ := H.mo (ok3_b z3) zm
  have home := e5.2 d1.1
  have hb := home.lk
  have hrg := home.rg
  have hrg : rgM m (S.2.1 f) (some x') := by
    have q : rgM m (S.2.1 f) (rgS (JEf F f (nrmR R)) (rootF (F f)).1 (rootF (F f)).2) := hrg
    rw [q1] at q; exact q
  unfold P_X10_leaveCall
  intro m1 w1
  rw [c91, show E.2.2.1 + 1 - 1 = E.2.2.1 by omega] at w1
  have g1 : ∀ c i, ¬ (c = 582 ∧ i = 91) → m1 c i = m c i := fun c i q => by rw [w1, up_ne q]
  have m91 : m1 582 91 = E.2.2.1 := by rw [w1, up_at]
  rw [m91, g1 641 _ (by omega), s1]
  refine ⟨by omega, ?_⟩
  refine c_instanceM (F := F f) (R := nrmR R) (by omega) bk.1 (bk.2.fr (fun c i q => g1 c i (by omega))) (by have := bk.1.1; omega) (fun r hr => ?_) (fun q => d2.1 q) (fun r hr => ?_) (fun m2 _ f2 v2 => ⟨by omega, ?_⟩)
  · have := d3 r hr
    exact ⟨this.1, by omega⟩
  · rw [hr] at e3
    obtain ⟨a1, a2, a3⟩ := e3
    exact ⟨by rw [g1 _ _ (by decide)]; exact a1, by rw [g1 _ _ (by decide)]; exact a2, by rw [g1 _ _ (by decide)]; exact a3⟩
  have v2 := v2 z' (by rw [show (-1 : Int) + 1 = 0 by decide]; exact q2)
  have g2 : ∀ c i, ¬ (c = 582 ∧ (i = 91 ∨ (70 ≤ i ∧ i ≤ 72))) → m2 c i = m c i := fun c i q => (f2 c i (by omega)).trans (g1 c i (by omega))
  rw [v2.1, v2.2.1, v2.2.2, g2 610 _ (by omega), (I.2.2.2.1 f d1.1 d1.2).1]
  unfold P_X10_goLatest P_X10_valueAt
  dsimp only
  rw [g2 582 86 (by omega), t3, g2 598 _ (by omega), g2 599 _ (by omega), g2 600 _ (by omega), hrg.1, hrg.2.1, hrg.2.2]
  refine ⟨⟨hb.1, hb.2.1⟩, c_convM (mo := m 582 89) x3 z3 mz1 hg (g2 _ _ (by decide)) (by omega) (VM_of t1 (fun i i0 i1 => g2 _ _ (by omega))) (VR_mo mx2.symm v) (fun m3 f3 e84 v3 => ?_)⟩
  rw [conv_mo mz2] at v3
  have g3 : ∀ c i, c ≠ 635 → ¬ (c = 582 ∧ (i = 84 ∨ i = 87 ∨ i = 88 ∨ i = 91 ∨ (70 ≤ i ∧ i ≤ 72))) → m3 c i = m c i := fun c i q q' => by rw [f3.1 c i q (by omega)]; exact g2 c i (by omega)
  have m391 : m3 582 91 = E.2.2.1 := by rw [f3.1 _ _ (by decide) (by decide), f2 _ _ (by decide)]; exact m91
  rw [m391, g3 642 _ (by decide) (by omega), s2]
  refine ⟨by omega, fun m4 w4 => ?_⟩
  have g4 : ∀ c i, ¬ (c = 582 ∧ i = 93) → m4 c i = m3 c i := fun c i q => by rw [w4, up_ne q]
  rw [g4 582 91 (by decide), m391, g4 643 _ (by omega), g3 643 _ (by decide) (by omega), s3]
  refine ⟨by omega, fun m5 w5 => ?_⟩
  have g5 : ∀ c i, ¬ (c = 582 ∧ (i = 93 ∨ i = 61)) → m5 c i = m3 c i := fun c i q => by rw [w5, up_ne (by omega)]; exact g4 c i (by omega)
  rw [g5 582 91 (by decide), m391, g5 644 _ (by omega), g3 644 _ (by decide) (by omega), s4]
  refine ⟨by omega, fun m6 w6 => ?_⟩
  have g6 : ∀ c i, ¬ (c = 582 ∧ (i = 93 ∨ i = 61 ∨ i = 62)) → m6 c i = m3 c i := fun c i q => by rw [w6, up_ne (by omega)]; exact g5 c i (by omega)
  rw [g6 582 91 (by decide), m391, g6 645 _ (by omega), g3 645 _ (by decide) (by omega), s5]
  refine ⟨by omega, fun m7 w7 => ?_⟩
  have g7 : ∀ c i, ¬ (c = 582 ∧ (i = 93 ∨ i = 61 ∨ i = 62 ∨ i = 63)) → m7 c i = m3 c i := fun c i q => by rw [w7, up_ne (by omega)]; exact g6 c i (by omega)
  rw [g7 582 91 (by decide), m391, g7 646 _ (by omega), g3 646 _ (by decide) (by omega), s6]
  refine ⟨by omega, fun m8 w8 => ?_⟩
  have g8 : ∀ c i, ¬ (c = 582 ∧ (i = 93 ∨ (61 ≤ i ∧ i ≤ 64))) → m8 c i = m3 c i := fun c i q => by rw [w8, up_ne (by omega)]; exact g7 c i (by omega)
  rw [g8 582 91 (by decide), m391, g8 647 _ (by omega), g3 647 _ (by decide) (by omega), s7]
  refine ⟨by omega, fun m9 w9 => ?_⟩
  have g9 : ∀ c i, ¬ (c = 582 ∧ (i = 93 ∨ i = 89 ∨ (61 ≤ i ∧ i ≤ 64))) → m9 c i = m3 c i := fun c i q => by rw [w9, up_ne (by omega)]; exact g8 c i (by omega)
  have h93 : m9 582 93 = pb := by rw [w9, up_neI (by decide), w8, up_neI (by decide), w7, up_neI (by decide), w6, up_neI (by decide), w5, up_neI (by decide), w4, up_at]
  have h61 : m9 582 61 = h := by rw [w9, up_neI (by decide), w8, up_neI (by decide), w7, up_neI (by decide), w6, up_neI (by decide), w5, up_at]
  have h62 : m9 582 62 = m0 582 62 := by rw [w9, up_neI (by decide), w8, up_neI (by decide), w7, up_neI (by decide), w6, up_at]
  have h63 : m9 582 63 = m0 582 63 := by rw [w9, up_neI (by decide), w8, up_neI (by decide), w7, up_at]
  have h64 : m9 582 64 = m0 582 64 := by rw [w9, up_neI (by decide), w8, up_at]
  have h89 : m9 582 89 = m0 582 89 := by rw [w9, up_at]
  have gg : ∀ c i, c ≠ 635 → ¬ (c = 582 ∧ (i = 84 ∨ i = 87 ∨ i = 88 ∨ i = 89 ∨ i = 91 ∨ i = 93 ∨ (61 ≤ i ∧ i ≤ 64) ∨ (70 ≤ i ∧ i ≤ 72))) → m9 c i = m c i := fun c i q q' => (g9 c i (by omega)).trans (g3 c i q (by omega))
  have I9 : VmI m9 F n S ms := I.fr (fun c i a1 a2 => gg c i (by omega) (by omega)) (fun i hi => gg _ _ (by decide) (by omega))
  have rm9 : RM m9 E.1.2.2.2.2 := hm0.fr (fun i a1 a2 => by
    have : i = 62 ∨ i = 63 ∨ i = 64 := by omega
    rcases this with rfl | rfl | rfl
    · exact h62
    · exact h63
    · exact h64)
  refine c_ready (h := h) (R := E.1.2.2.2.2) hRg hFs hE I9 h61 hd.rd rm9 (fun m10 I10 hr10 f10 => ?_)
  have k10 : ∀ i, (61 ≤ i ∧ i ≤ 64) ∨ (84 ≤ i ∧ i ≤ 99) → m10 582 i = m9 582 i := fun i hi => f10 _ _ (by omega) (by omega) (by omega) (by omega)
  have ab10 : ∀ c i, 635 ≤ c → m10 c i = m9 c i := fun c i q => f10 _ _ (by omega) (by omega) (by omega) (by omega)
  have tp10 : m10 582 86 - 1 = ((pre ++ l).length : Int) := by rw [k10 _ (by omega), gg _ _ (by decide) (by decide)]; exact t3
  rw [tp10]
  have pl : ((pre ++ l).length : Int) = (pre.length : Int) + (l.length : Int) := by rw [List.length_append]; omega
  have vS : VM (m10 635) (882 * ((pre ++ l).length : Int)) (conv (ownM E.2.1 R) x' z' V) := VM_of v3 (fun i i0 i1 => by rw [ab10 _ _ (by omega)]; exact g9 _ _ (by omega))
  refine c_copy (n := 882) (by omega) (by omega) (.inr (by left; omega)) (fun m13 f13 e13 c13 m14 w14 => ?_)
  have g14 : ∀ c i, ¬ (c = 582 ∧ i = 86) → m14 c i = m13 c i := fun c i q => by rw [w14, up_ne q]
  have g1310 : ∀ c i, c ≠ 635 → ¬ (c = 582 ∧ (i = 84 ∨ i = 86 ∨ i = 87 ∨ i = 88)) → m14 c i = m10 c i := fun c i q q' => by rw [g14 c i (by omega)]; exact f13.1 c i q (by omega)
  have low : ∀ q, 0 ≤ q → q < 882 * (l.length : Int) → m14 635 q = m 635 q := fun q a1 a2 => by rw [g14 _ _ (by omega), f13.2 q (by omega), ab10 _ _ (by omega), g9 _ _ (by omega), f3.2 q (by unfold SX; omega)]; exact g2 _ _ (by omega)
  have v14 : VM (m14 635) (882 * (l.length : Int)) (conv (ownM E.2.1 R) x' z' V) := VM_of vS (fun i i0 i1 => by rw [g14 _ _ (by omega)]; exact c13 i i0 i1)
  have st : stM m (pre ++ l) := D.2.2.2.1.1
  have hh : 0 ≤ h → Rec3 m14 h E.1.2.2.2.2 ∧ TNM m14 (AnP m14 (JEf F h E.1.2.2.2.2) 0) (rootF (F h)).1 (rootF (F h)).2 (S.1 h).1 (S.1 h).2 (S.2.1 h) := fun h0 => by
    obtain ⟨a1, a2⟩ := hr10 h0
    exact ⟨a1.fr (fun c b1 b2 => g1310 _ _ (by omega) (by omega)), a2.fr2 (fun c i b1 b2 _ _ => g1310 _ _ (by omega) (by omega)) (fun c i q => g1310 _ _ (by omega) (by omega))⟩
  have all : ∀ c i, c ≠ 582 → ¬ (c = 635) → ¬ (596 ≤ c ∧ c ≤ 603 ∧ i < S.2.2.2.1) → ¬ (618 ≤ c ∧ c ≤ 620) → ¬ (631 ≤ c ∧ c ≤ 634) → m14 c i = m c i := fun c i a1 a2 a3 a4 a5 => by
    rw [g1310 c i a2 (by omega), f10 c i (by omega) (by omega) a4 a5]
    exact gg c i a2 (by omega)
  refine K m14 ⟨I10.fr (fun c i a1 a2 => g1310 c i (by omega) (by omega)) (fun i hi => g1310 _ _ (by decide) (by omega)), ⟨?_, ?_, ?_, ⟨(stM_app st).fr low, v14⟩, ?_, ?_, ?_, ?_, fun q => ?_⟩, ?_, ⟨hd, ?_, ?_, fun h0 => (hh h0).1, ⟨fun h0 => ?_, fun h0 => ?_⟩, ?_⟩, by omega, bs⟩ ⟨fun c i a1 a2 a3 a4 a5 a6 a7 => all c i a1 (by omega) a4 a5 a6, fun i hi => ?_⟩
  · rw [g14 _ _ (by decide), e13, k10 _ (by omega), g9 _ _ (by decide), e84, g2 _ _ (by decide)]; exact H.er
  · exact D.2.1.fr (fun c i a1 a2 a3 a4 => all c i (by omega) (by omega) (by omega) (by omega) (by omega))
  · rw [g1310 _ _ (by decide) (by decide), k10 _ (by omega), gg _ _ (by decide) (by decide)]; exact H.ts
  · rw [w14, up_at, List.length_cons]; omega
  · rw [g1310 _ _ (by decide) (by decide), k10 _ (by omega), gg _ _ (by decide) (by decide)]; exact H.s1
  · rw [g1310 _ _ (by decide) (by decide), k10 _ (by omega), gg _ _ (by decide) (by decide)]; exact H.s2
  · rw [g1310 _ _ (by decide) (by decide), k10 _ (by omega), g9 _ _ (by decide)]; exact m391
  · rw [g1310 _ _ (by decide) (by decide), k10 _ (by omega), h89]; exact hmo q
  · have e9 : m14 629 = m 629 := funext (fun i => all _ _ (by decide) (by decide) (by omega) (by omega) (by omega))
    have e0 : m14 630 = m 630 := funext (fun i => all _ _ (by decide) (by decide) (by omega) (by omega) (by omega))
    unfold VvO
    rw [e9, e0]; exact VO
  · rw [g1310 _ _ (by decide) (by decide), k10 _ (by omega)]; exact h61
  · exact rm9.fr (fun i a1 a2 => by rw [g1310 _ _ (by decide) (by omega)]; exact k10 _ (by omega))
  · exact (hH h0).fr2 (fun c i a1 a2 a3 a4 => all c i (by omega) (by omega) (by omega) (by omega) (by omega)) (fun c i q => all c i (by omega) (by omega) (by omega) (by omega) (by omega))
  · rw [hd.je h0]; exact (hh h0).2
  · rw [g1310 _ _ (by decide) (by decide), k10 _ (by omega)]; exact h93
  · rw [g1310 _ _ (by decide) (by omega), f10 582 i (by omega) (by unfold scr; omega) (by omega) (by omega)]
    exact gg _ _ (by decide) (by omega)
end VME
