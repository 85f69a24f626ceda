set_option maxRecDepth 100000
/-! the model's tasks: a call begins, ends -/
section VMD
variable {Q : Int → MM → Prop} {m m' m0 m1 ms : MM} {F : Int → FnR} {n : Int} {S : SGm} {E : EVm} {h pb : Int} {T T' : List Tk} {l l' pre : List VV} {s s' : ES} {R : Option R3} {a b : PT} {k cl lo f : Int} {rc : List R3} {x y z z' x' : R3} {V : VV} {Rn r' : Nat}
theorem call_rd {w : Int} (hE : EvO F n E) (hr : ∀ x, x ∈ rc → ok3 x) (hc : E.1.2.2.2.1 w rc = some (f, R, z)) : RdE F n f (nrmR R) := by
  obtain ⟨n', hn', ec⟩ := hE.call
  rw [ec] at hc
  have hF := hE.1.1
  obtain ⟨m1, m2, m3, m4, m5, m6, m7, m8, m9⟩ := mtS_ok hn'.1 (fun k k0 k1 => (hF k k0 (by omega)).1) hr hc
  have mr := mtS_rule hc
  have Ff := hF f m2.1 (by omega)
  have canR : ∀ r, R = some r → canS (F f) r := by
    intro r hr'
    rcases m5 with ⟨e, -⟩ | ⟨e, -⟩
    · rw [e] at hr'; cases hr'
    · rw [e] at hr'; exact foundS_can hr'
  refine ⟨⟨m2.1, by omega⟩, ?_, ?_, ?_⟩
  · rw [nrmR_none]
    constructor
    · intro e
      rcases m5 with ⟨-, e0⟩ | ⟨-, e0⟩
      · exact e0
      · exact absurd e e0
    · intro e
      refine Classical.byContradiction (fun q => ?_)
      exact mr q e
  · intro r' hr'
    cases hR : R with
    | none => rw [hR] at hr'; cases hr'
    | some r =>
      have o := m6 r hR
      obtain ⟨r1, a1, a2, a3, a4, a5, a6⟩ := nrm_cs hR o.1 o.2
      rw [hr'] at a1
      injection a1 with a1
      subst a1
      refine ⟨a3, ?_, can_nrm hR o.1 o.2 (canR r hR) hr' (fun k k0 k1 => Ff.2 k k0 k1)⟩
      rcases a6 with ⟨e, -⟩ | ⟨e, -⟩ | ⟨e, q⟩
      · omega
      · omega
      · have ob : okb r.1 := by
          rcases o.1 with w | w
          · exact absurd w.1 o.2
          · exact w.1
        omega
  · intro k k0 k1 e
    cases hk : instS (F f) k R with
    | none => exact m7 k k0 k1 hk
    | some y =>
      obtain ⟨y', b1, -⟩ := inst_nrm (mo := 0) m6 (Ff.2 k k0 k1) hk
      rw [b1] at e; cases e
theorem c_later0 {t : Tk} (hT : T.length < 12000) (tk : tkG m T) (ts : m 582 99 = (T.length : Int)) (K : ∀ m', (∀ c i, ¬ (c = 582 ∧ i = 99) → ¬ (636 ≤ c ∧ c ≤ 640) → m' c i = m c i) → tkG m' (t :: T) → m' 582 99 = ((t :: T).length : Int) → Q 0 m') : P_X10_later_2 t.1 t.2.1 t.2.2.1 t.2.2.2.1 t.2.2.2.2 m Q := by
  unfold P_X10_later_2
  rw [ts]
  refine ⟨by omega, fun m1 e1 => ?_⟩
  have a1 : m1 582 99 = (T.length : Int) := by rw [e1, up_ne (by omega)]; exact ts
  rw [a1]
  refine ⟨by omega, fun m2 e2 => ?_⟩
  have a2 : m2 582 99 = (T.length : Int) := by rw [e2, up_ne (by omega)]; exact a1
  rw [a2]
  refine ⟨by omega, fun m3 e3 => ?_⟩
  have a3 : m3 582 99 = (T.length : Int) := by rw [e3, up_ne (by omega)]; exact a2
  rw [a3]
  refine ⟨by omega, fun m4 e4 => ?_⟩
  have a4 : m4 582 99 = (T.length : Int) := by rw [e4, up_ne (by omega)]; exact a3
  rw [a4]
  refine ⟨by omega, fun m5 e5 => ?_⟩
  have a5 : m5 582 99 = (T.length : Int) := by rw [e5, up_ne (by omega)]; exact a4
  rw [a5]
  intro m6 e6
  have f5 : ∀ c i, ¬ (636 ≤ c ∧ c ≤ 640 ∧ i = (T.length : Int)) → m5 c i = m c i := fun c i q => by rw [e5, up_ne (by omega), e4, up_ne (by omega), e3, up_ne (by omega), e2, up_ne (by omega), e1, up_ne (by omega)]
  have f6 : ∀ c i, ¬ (c = 582 ∧ i = 99) → m6 c i = m5 c i := fun c i q => by rw [e6, up_ne q]
  have ff : ∀ c i, ¬ (c = 582 ∧ i = 99) → ¬ (636 ≤ c ∧ c ≤ 640 ∧ i = (T.length : Int)) → m6 c i = m c i := fun c i q1 q2 => (f6 c i q1).trans (f5 c i q2)
  refine K m6 (fun c i q1 q2 => ff c i q1 (by omega)) ⟨tk.fr (fun c i a1 a2 a3 a4 => ff c i (by omega) (by omega)), ?_, ?_, ?_, ?_, ?_⟩ (by rw [e6, up_at, List.length_cons]; omega)
  · rw [f6 _ _ (by omega), e5, up_ne (by omega), e4, up_ne (by omega), e3, up_ne (by omega), e2, up_ne (by omega), e1, up_at]
  · rw [f6 _ _ (by omega), e5, up_ne (by omega), e4, up_ne (by omega), e3, up_ne (by omega), e2, up_at]
  · rw [f6 _ _ (by omega), e5, up_ne (by omega), e4, up_ne (by omega), e3, up_at]
  · rw [f6 _ _ (by omega), e5, up_ne (by omega), e4, up_at]
  · rw [f6 _ _ (by omega), e5, up_at]
/-- what a call lays down -/
def SvM (m : MM) (c f pb h : Int) (b d s mo : Int) : Prop := m 641 c = f ∧ m 642 c = pb ∧ m 643 c = h ∧ m 644 c = b ∧ m 645 c = d ∧ m 646 c = s ∧ m 647 c = mo
theorem c_callM (hRg : RgO S n) (hFs : FsM F n) (hE : EvO F n E) (hk : 0 ≤ k ∧ k < 12000) (hf : m 597 k = f) (hRN : RN m k R) (hR : ∀ r, R = some r → ok3 r ∧ r.1 ≠ -2) (rd : RdE F n f (nrmR R)) (H : VmS m F n S ms E h pb T (pre ++ l) s) (hT : T.length + 2 ≤ 12000) (c20 : E.2.2.1 ≠ 20) (np : 0 ≤ (pre.length : Int)) (K : ∀ m', VmI m' F n S ms → VmD m' (JEf F f (nrmR R), ownM E.2.1 R, E.2.2.1 + 1, E.2.2.2.1, E.2.2.2.2) ((0, S.2.1 f, 0, 0, 0) :: (9, k, (l.length : Int), 0, 0) :: T) (pre ++ l) (s.1, max s.2 (E.2.2.1 + 1)) → m' 582 61 = f → RM m' (nrmR R) → Rec3 m' f (nrmR R) → TNM m' (AnP m' (JEf F f (nrmR R)) 0) (rootF (F f)).1 (rootF (F f)).2 (S.1 f).1 (S.1 f).2 (S.2.1 f) → m' 582 93 = (l.length : Int) → SvM m' E.2.2.1 f pb h (m 582 62) (m 582 63) (m 582 64) (m 582 89) → Fvm E.2.2.1 S.2.2.2.1 m m' → Q 0 m') : P_X10_arguments k (-1) (pre.length : Int) m Q := by
  obtain ⟨d1, d2, d3, d4⟩ := id rd
  have I := H.1
  have D := H.2.1
  obtain ⟨e1, e2, e3, e4, e5, e6⟩ := H.2.2.2.1
  have hc := H.2.2.2.2.1
  have bs := H.bs
  have c91 : m 582 91 = E.2.2.1 := D.2.2.2.2.2.2.2.1
  have tp := H.tp
  rw [List.length_append] at tp
  unfold P_X10_arguments
  refine ⟨by decide, ?_⟩
  rw [if_pos (by decide), c91]
  refine ⟨by constructor <;> omega, ?_⟩
  rw [if_neg c20]
  refine ⟨hk, by omega, fun m1 q1 => ?_⟩
  rw [hf] at q1 ⊢
  have g1 : ∀ c i, ¬ (641 ≤ c ∧ c ≤ 647 ∧ i = E.2.2.1) → m1 c i = m c i := fun c i q => by rw [q1, up_ne (by omega)]
  rw [g1 582 91 (by omega), g1 582 93 (by omega), c91, e6]
  refine ⟨by omega, fun m2 q2 => ?_⟩
  have g2 : ∀ c i, ¬ (641 ≤ c ∧ c ≤ 647 ∧ i = E.2.2.1) → m2 c i = m c i := fun c i q => by rw [q2, up_ne (by omega)]; exact g1 c i q
  rw [g2 582 91 (by omega), g2 582 61 (by omega), c91, e2]
  refine ⟨by omega, fun m3 q3 => ?_⟩
  have g3 : ∀ c i, ¬ (641 ≤ c ∧ c ≤ 647 ∧ i = E.2.2.1) → m3 c i = m c i := fun c i q => by rw [q3, up_ne (by omega)]; exact g2 c i q
  rw [g3 582 91 (by omega), g3 582 62 (by omega), c91]
  refine ⟨by omega, fun m4 q4 => ?_⟩
  have g4 : ∀ c i, ¬ (641 ≤ c ∧ c ≤ 647 ∧ i = E.2.2.1) → m4 c i = m c i := fun c i q => by rw [q4, up_ne (by omega)]; exact g3 c i q
  rw [g4 582 91 (by omega), g4 582 63 (by omega), c91]
  refine ⟨by omega, fun m5 q5 => ?_⟩
  have g5 : ∀ c i, ¬ (641 ≤ c ∧ c ≤ 647 ∧ i = E.2.2.1) → m5 c i = m c i := fun c i q => by rw [q5, up_ne (by omega)]; exact g4 c i q
  rw [g5 582 91 (by omega), g5 582 64 (by omega), c91]
  refine ⟨by omega, fun m6 q6 => ?_⟩
  have g6 : ∀ c i, ¬ (641 ≤ c ∧ c ≤ 647 ∧ i = E.2.2.1) → m6 c i = m c i := fun c i q => by rw [q6, up_ne (by omega)]; exact g5 c i q
  rw [g6 582 91 (by omega), g6 582 89 (by omega), c91]
  refine ⟨by omega, fun m7 q7 m8 q8 => ?_⟩
  have g7 : ∀ c i, ¬ (641 ≤ c ∧ c ≤ 647 ∧ i = E.2.2.1) → m7 c i = m c i := fun c i q => by rw [q7, up_ne (by omega)]; exact g6 c i q
  have sv7 : SvM m7 E.2.2.1 f pb h (m 582 62) (m 582 63) (m 582 64) (m 582 89) := by
    refine ⟨?_, ?_, ?_, ?_, ?_, ?_, ?_⟩
    · rw [q7, up_ne (by omega), q6, up_ne (by omega), q5, up_ne (by omega), q4, up_ne (by omega), q3, up_ne (by omega), q2, up_ne (by omega), q1, up_at]
    · rw [q7, up_ne (by omega), q6, up_ne (by omega), q5, up_ne (by omega), q4, up_ne (by omega), q3, up_ne (by omega), q2, up_at]
    · rw [q7, up_ne (by omega), q6, up_ne (by omega), q5, up_ne (by omega), q4, up_ne (by omega), q3, up_at]
    · rw [q7, up_ne (by omega), q6, up_ne (by omega), q5, up_ne (by omega), q4, up_at]
    · rw [q7, up_ne (by omega), q6, up_ne (by omega), q5, up_at]
    · rw [q7, up_ne (by omega), q6, up_at]
    · rw [q7, up_at]
  rw [g7 582 91 (by omega), c91] at q8
  have g8 : ∀ c i, ¬ (641 ≤ c ∧ c ≤ 647 ∧ i = E.2.2.1) → ¬ (c = 582 ∧ i = 91) → m8 c i = m c i := fun c i q q' => by rw [q8, up_ne (by omega)]; exact g7 c i q
  have e91 : m8 582 91 = E.2.2.1 + 1 := by rw [q8, up_at]
  rw [e91, g8 582 92 (by omega) (by omega), H.s2]
  refine c_max (by constructor <;> omega) (by constructor <;> omega) ?_
  intro m10 q10 m11 q11 m12 q12 m13 q13 m14 q14 m15 q15
  have g10 : ∀ c i, ¬ (641 ≤ c ∧ c ≤ 647 ∧ i = E.2.2.1) → ¬ (c = 582 ∧ (i = 91 ∨ i = 92)) → m10 c i = m c i := fun c i q q' => by rw [q10, up_ne (by omega)]; exact g8 c i q (by omega)
  rw [g10 582 86 (by omega) (by omega), tp, show ((pre.length + l.length : Nat) : Int) - (pre.length : Int) = (l.length : Int) by omega] at q11
  have g15 : ∀ c i, ¬ (641 ≤ c ∧ c ≤ 647 ∧ i = E.2.2.1) → ¬ (c = 582 ∧ (i = 91 ∨ i = 92 ∨ i = 93 ∨ (61 ≤ i ∧ i ≤ 64))) → m15 c i = m c i := fun c i q q' => by rw [q15, up_ne (by omega), q14, up_ne (by omega), q13, up_ne (by omega), q12, up_ne (by omega), q11, up_ne (by omega)]; exact g10 c i q (by omega)
  have h61 : m15 582 61 = f := by rw [q15, up_neI (by decide), q14, up_neI (by decide), q13, up_neI (by decide), q12, up_at]
  have h62 : m15 582 62 = m 601 k := by rw [q15, up_neI (by decide), q14, up_neI (by decide), q13, up_at]
  have h63 : m15 582 63 = m 602 k := by rw [q15, up_neI (by decide), q14, up_at]
  have h64 : m15 582 64 = m 603 k := by rw [q15, up_at]
  have h91 : m15 582 91 = E.2.2.1 + 1 := by rw [q15, up_neI (by decide), q14, up_neI (by decide), q13, up_neI (by decide), q12, up_neI (by decide), q11, up_neI (by decide), q10, up_neI (by decide)]; exact e91
  have h92 : m15 582 92 = max s.2 (E.2.2.1 + 1) := by rw [q15, up_neI (by decide), q14, up_neI (by decide), q13, up_neI (by decide), q12, up_neI (by decide), q11, up_neI (by decide), q10, up_at]
  have h93 : m15 582 93 = (l.length : Int) := by rw [q15, up_neI (by decide), q14, up_neI (by decide), q13, up_neI (by decide), q12, up_neI (by decide), q11, up_at]
  have s15 : ∀ c i, 641 ≤ c → c ≤ 647 → m15 c i = m7 c i := fun c i a1 a2 => by rw [q15, up_ne (by omega), q14, up_ne (by omega), q13, up_ne (by omega), q12, up_ne (by omega), q11, up_ne (by omega), q10, up_ne (by omega), q8, up_ne (by omega)]
  have Rr : ∀ r, R = some r → okb r.1 ∧ (m 601 k = bM r.1 ∧ m 602 k = r.2.1 ∧ m 603 k = r.2.2) ∧ ok3 r := by
    intro r hr
    have o := hR r hr
    subst hr
    refine ⟨?_, hRN, o.1⟩
    rcases o.1 with w | w
    · exact absurd w.1 o.2
    · exact w.1
  have last : ∀ m18, (∀ c i, ¬ (c = 582 ∧ (i = 62 ∨ i = 89)) → m18 c i = m15 c i) → RM m18 (nrmR R) → (2 ≤ ownM E.2.1 R → m18 582 89 = ownM E.2.1 R) → P_X10_arguments_270 Q k f m18 := by
    intro m18 g18 rm18 mo18
    have gg : ∀ c i, ¬ (641 ≤ c ∧ c ≤ 647 ∧ i = E.2.2.1) → ¬ (c = 582 ∧ (i = 89 ∨ i = 91 ∨ i = 92 ∨ i = 93 ∨ (61 ≤ i ∧ i ≤ 64))) → m18 c i = m c i := fun c i q q' => (g18 c i (by omega)).trans (g15 c i q (by omega))
    unfold P_X10_arguments_270
    have I18 : VmI m18 F n S ms := I.fr (fun c i a1 a2 => gg c i (by omega) (by omega)) (fun i hi => gg _ _ (by omega) (by omega))
    refine c_ready (h := f) (R := nrmR R) hRg hFs hE.1 I18 (by rw [g18 _ _ (by decide)]; exact h61) (.inr rd) rm18 (fun m19 I19 hr19 f19 => ?_)
    obtain ⟨rec19, t19⟩ := hr19 d1.1
    have k19 : ∀ i, (61 ≤ i ∧ i ≤ 64) ∨ i = 68 ∨ (84 ≤ i ∧ i ≤ 99) → m19 582 i = m18 582 i := fun i hi => f19 _ _ (by omega) (by omega) (by omega) (by omega)
    have ab : ∀ c i, 635 ≤ c → m19 c i = m18 c i := fun c i hc => f19 _ _ (by omega) (by omega) (by omega) (by omega)
    have D19 : VmD m19 (JEf F f (nrmR R), ownM E.2.1 R, E.2.2.1 + 1, E.2.2.2.1, E.2.2.2.2) T (pre ++ l) (s.1, max s.2 (E.2.2.1 + 1)) := by
      refine ⟨?_, D.2.1.fr (fun c i a1 a2 a3 a4 => ?_), ?_, D.2.2.2.1.fr (fun q a1 a2 => ?_), ?_, ?_, ?_, ?_, fun q => ?_⟩
      · rw [k19 _ (by omega), gg _ _ (by omega) (by omega)]; exact H.er
      · rw [ab _ _ (by omega), gg _ _ (by omega) (by omega)]
      · rw [k19 _ (by omega), gg _ _ (by omega) (by omega)]; exact H.ts
      · rw [ab _ _ (by omega), gg _ _ (by omega) (by omega)]
      · rw [k19 _ (by omega), gg _ _ (by omega) (by omega)]; exact H.tp
      · rw [k19 _ (by omega), gg _ _ (by omega) (by omega)]; exact H.s1
      · rw [k19 _ (by omega), g18 _ _ (by decide)]; exact h92
      · rw [k19 _ (by omega), g18 _ _ (by decide)]; exact h91
      · rw [k19 _ (by omega)]; exact mo18 q
    have e93 : m19 582 93 = (l.length : Int) := by rw [k19 _ (by omega), g18 _ _ (by decide)]; exact h93
    -- two tasks are laid
    have two : ∀ (t : Tk) (T1 : List Tk) (m2 : MM) (Q2 : Int → MM → Prop), T1.length < 12000 → tkG m2 T1 → m2 582 99 = (T1.length : Int) → (∀ m3, (∀ c i, ¬ (c = 582 ∧ i = 99) → ¬ (636 ≤ c ∧ c ≤ 640) → m3 c i = m2 c i) → tkG m3 (t :: T1) → m3 582 99 = ((t :: T1).length : Int) → Q2 0 m3) → P_X10_later_2 t.1 t.2.1 t.2.2.1 t.2.2.2.1 t.2.2.2.2 m2 Q2 := by
      intro t T1 m2 Q2 hT1 tk ts K2
      exact c_later0 hT1 tk ts K2
    rw [e93]
    refine two (9, k, (l.length : Int), 0, 0) T m19 _ (by omega) D19.2.1 D19.2.2.1 (fun m20 f20 tk20 ts20 => ⟨by have := I.1; omega, ?_⟩)
    have e610 : m20 610 f = S.2.1 f := by
      rw [f20 _ _ (by omega) (by omega), f19 _ _ (by omega) (by omega) (by omega) (by omega), gg _ _ (by omega) (by omega)]
      exact (I.2.2.2.1 f d1.1 d1.2).1
    rw [e610]
    unfold P_X10_later
    refine two (0, S.2.1 f, 0, 0, 0) ((9, k, (l.length : Int), 0, 0) :: T) m20 _ (by rw [List.length_cons]; omega) tk20 ts20 (fun m21 f21 tk21 ts21 => ?_)
    have f1921 : ∀ c i, ¬ (c = 582 ∧ i = 99) → ¬ (636 ≤ c ∧ c ≤ 640) → m21 c i = m19 c i := fun c i a1 a2 => (f21 c i a1 a2).trans (f20 c i a1 a2)
    have D21 : VmD m21 (JEf F f (nrmR R), ownM E.2.1 R, E.2.2.1 + 1, E.2.2.2.1, E.2.2.2.2) ((0, S.2.1 f, 0, 0, 0) :: (9, k, (l.length : Int), 0, 0) :: T) (pre ++ l) (s.1, max s.2 (E.2.2.1 + 1)) := by
      obtain ⟨a1, a2, a3, a4, a5, a6, a7, a8, a9⟩ := D19
      exact ⟨by rw [f1921 _ _ (by decide) (by decide)]; exact a1, tk21, ts21, a4.fr (fun q _ _ => f1921 _ _ (by omega) (by omega)), by rw [f1921 _ _ (by decide) (by decide)]; exact a5, by rw [f1921 _ _ (by decide) (by decide)]; exact a6, by rw [f1921 _ _ (by decide) (by decide)]; exact a7, by rw [f1921 _ _ (by decide) (by decide)]; exact a8, fun q => by rw [f1921 _ _ (by decide) (by decide)]; exact a9 q⟩
    refine K m21 (I19.fr (fun c i a1 a2 => f1921 c i (by omega) (by omega)) (fun i hi => f1921 _ _ (by omega) (by omega))) D21 ?_ ?_ ?_ ?_ ?_ ?_ ⟨fun c i a1 a2 a3 a4 a5 a6 a7 => ?_, fun i hi => ?_⟩
    · rw [f1921 _ _ (by decide) (by decide), k19 _ (by omega), g18 _ _ (by decide)]; exact h61
    · exact rm18.fr (fun i a1 a2 => by rw [f1921 _ _ (by omega) (by omega)]; exact k19 _ (by omega))
    · exact rec19.fr (fun c a1 a2 => f1921 _ _ (by omega) (by omega))
    · exact t19.fr2 (fun c i a1 a2 _ _ => f1921 _ _ (by omega) (by omega)) (fun c i q => f1921 _ _ (by omega) (by omega))
    · rw [f1921 _ _ (by decide) (by decide)]; exact e93
    · obtain ⟨v1, v2, v3, v4, v5, v6, v7⟩ := sv7
      have tr : ∀ c, 641 ≤ c → c ≤ 647 → m21 c E.2.2.1 = m7 c E.2.2.1 := fun c a1 a2 => by rw [f1921 _ _ (by omega) (by omega), ab _ _ (by omega), g18 _ _ (by omega)]; exact s15 c _ a1 a2
      exact ⟨by rw [tr _ (by decide) (by decide)]; exact v1, by rw [tr _ (by decide) (by decide)]; exact v2, by rw [tr _ (by decide) (by decide)]; exact v3, by rw [tr _ (by decide) (by decide)]; exact v4, by rw [tr _ (by decide) (by decide)]; exact v5, by rw [tr _ (by decide) (by decide)]; exact v6, by rw [tr _ (by decide) (by decide)]; exact v7⟩
    · rw [f1921 c i (by omega) (by omega), f19 c i (by omega) (by omega) a5 a6]
      exact gg c i (by omega) (by omega)
    · rw [f1921 582 i (by omega) (by omega), f19 582 i (by omega) (by unfold scr; omega) (by omega) (by omega)]
      exact gg _ _ (by omega) (by omega)
  cases hRc : R with
  | none =>
    rw [hRc] at hRN last
    have hRN : m 601 k = -9 := hRN
    rw [hRN]
    refine ⟨by decide, ?_⟩
    rw [if_pos (by decide)]
    exact last m15 (fun _ _ _ => rfl) (by show m15 582 62 = -9; rw [h62]; exact hRN) (fun q => by have q : (2 : Int) ≤ 0 := q; omega)
  | some r =>
    obtain ⟨ob, ⟨w1, w2, w3⟩, o3⟩ := Rr r hRc
    rw [hRc] at last
    rw [w1]
    have bc := bM_cs r.1
    refine ⟨(ok3_ri o3).1, ?_⟩
    have e89 : m15 582 89 = m 582 89 := g15 _ _ (by omega) (by omega)
    have D9 := D.2.2.2.2.2.2.2.2
    have keep : (r.1 ≤ 1 ∨ 20000 ≤ r.1) → P_X10_arguments_270 Q k f m15 := by
      intro q
      have en : nrmR (some r) = some r := by unfold nrmR; simp only; rw [if_neg (by omega)]
      refine last m15 (fun _ _ _ => rfl) ?_ (fun q2 => ?_)
      · rw [en]; exact ⟨by rw [h62]; exact w1, by rw [h63]; exact w2, by rw [h64]; exact w3⟩
      · have eo : ownM E.2.1 (some r) = (if 20000 ≤ r.1 then E.2.1 else r.1) := rfl
        rw [eo] at q2 ⊢
        by_cases c : 20000 ≤ r.1
        · rw [if_pos c] at q2 ⊢
          rw [e89]; exact D9 q2
        · rw [if_neg c] at q2; omega
    by_cases c1 : bM r.1 ≤ 1
    · rw [if_pos c1]; exact keep (by omega)
    rw [if_neg c1]
    by_cases c2 : bM r.1 = 10007
    · rw [if_pos c2]; exact keep (by omega)
    rw [if_neg c2]
    by_cases c3 : bM r.1 = 10000
    · rw [if_pos c3]; exact keep (by omega)
    rw [if_neg c3]
    intro m16 q16
    have br : bM r.1 = r.1 := by omega
    have rr : 1 < r.1 ∧ r.1 < 20000 := by omega
    refine c_isFieldM (.inl ob) ⟨by unfold fbN; split <;> decide, fun m18 q18 => ?_⟩
    have fb : isFb r.1 ↔ isPb r.1 := by
      unfold isFb
      constructor
      · rintro (q | q)
        · omega
        · exact q
      · exact fun q => .inr q
    have key : ∀ b', (isPb r.1 → b' = 20000) → (¬ isPb r.1 → b' = 20001) → nrmR (some r) = some (b', r.2.1, r.2.2) := by
      intro b' k1 k2
      unfold nrmR
      simp only
      rw [if_pos rr]
      by_cases c : isPb r.1
      · rw [if_pos c, k1 c]
      · rw [if_neg c, k2 c]
    have e18 : m18 582 89 = r.1 := by rw [q18, up_neI (by decide), q16, up_at]; exact br
    have g18 : ∀ c i, ¬ (c = 582 ∧ (i = 62 ∨ i = 89)) → m18 c i = m15 c i := fun c i q => by rw [q18, up_ne (by omega), q16, up_ne (by omega)]
    have m63 : m18 582 63 = r.2.1 := by rw [g18 _ _ (by decide), h63]; exact w2
    have m64 : m18 582 64 = r.2.2 := by rw [g18 _ _ (by decide), h64]; exact w3
    have own : ownM E.2.1 (some r) = r.1 := by
      show (if 20000 ≤ r.1 then E.2.1 else r.1) = r.1
      rw [if_neg (by omega)]
    refine last m18 g18 ?_ (fun _ => by rw [own]; exact e18)
    by_cases c : isPb r.1
    · rw [key 20000 (fun _ => rfl) (fun z => absurd c z)]
      refine ⟨?_, m63, m64⟩
      rw [q18, up_at, fbN_1 (fb.2 c), if_neg (by decide)]; rfl
    · rw [key 20001 (fun z => absurd z c) (fun _ => rfl)]
      refine ⟨?_, m63, m64⟩
      rw [q18, up_at, fbN_0 (fun z => c (fb.1 z)), if_pos rfl]; rfl
end VMD
