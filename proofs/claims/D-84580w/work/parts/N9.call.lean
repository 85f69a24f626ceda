set_option maxRecDepth 100000
/-! the component: frames; what ends a text -/
section FRAMES
variable {Q : Int → MM → Prop} {m m' : MM} {F : Int → FnR} {n : Int} {fr : List Fr} {k base own pc : Int} {l args : List SV} {V : VV} {r d s : Int}
/-- what lies below stays -/
theorem MsI.keepC (h : MsI m F n fr) (f : ∀ c i, c < 365 ∨ (389 ≤ c ∧ c ≤ 580 ∧ ¬ (i = 6 ∧ (c - 389) % 4 = 0)) ∨ (c = 376 ∧ (i = 6 ∨ i = 17 ∨ i = 18 ∨ i = 19 ∨ i = 20)) → m' c i = m c i) : (0 ≤ m' 376 6 ∧ m' 376 6 < 48) ∧ CaO m' F n ∧ BkO m' F n ∧ (m' 376 17 = 374 ∧ m' 376 18 = 375) ∧ AR (m' 376 19) (m' 376 20) := by
  obtain ⟨⟨h1, h1'⟩, h2, h3, h4, h5, h6, h7, h8⟩ := h
  refine ⟨by rw [f _ _ (by omega)]; exact h4, fun j j0 j1 => ?_, h6.lw (fun c i a => f c i (.inl a)), by rw [f 376 17 (by omega), f 376 18 (by omega)]; exact h7, by rw [f 376 19 (by omega), f 376 20 (by omega)]; exact h8⟩
  rw [f _ _ (by omega), f _ _ (by omega)]
  rcases h5 j j0 j1 with q | ⟨g, R, z, q1, q2, q3, q4, q5, q6⟩
  · exact .inl q
  · exact .inr ⟨g, R, z, q1, q2, q3, q4, q5, q6.fr (fun c i a _ _ => f c i (by omega))⟩
theorem c_enter (I : MsI m F n fr) (k0 : 0 ≤ k ∧ k < 48) (len : fr.length ≤ 20) (h : ∀ m', MsI m' F n ((k, m 376 14, base, own) :: fr) → (∀ c i, ¬ (382 ≤ c ∧ c ≤ 385) → ¬ (c = 376 ∧ (i = 13 ∨ i = 14)) → ¬ (c = 378 ∧ i = 1) → ¬ (c = 389 + 4 * k ∧ i = 6) → m' c i = m c i) → m' 376 14 = 0 → m' 378 1 = own → Q 0 m') : P_X6_enter k base own m Q := by
  have I0 := I
  obtain ⟨⟨h1, h1'⟩, h2, h3, -⟩ := I
  unfold P_X6_enter
  rw [h1]
  refine ⟨by omega, fun m1 e1 => ?_⟩
  have a1 : m1 376 13 = (fr.length : Int) := by rw [e1, up_ne (by omega)]; exact h1
  have p1 : m1 376 14 = m 376 14 := by rw [e1, up_ne (by omega)]
  rw [a1, p1]
  refine ⟨by omega, fun m2 e2 => ?_⟩
  have a2 : m2 376 13 = (fr.length : Int) := by rw [e2, up_ne (by omega)]; exact a1
  rw [a2]
  refine ⟨by omega, fun m3 e3 => ?_⟩
  have a3 : m3 376 13 = (fr.length : Int) := by rw [e3, up_ne (by omega)]; exact a2
  rw [a3]
  refine ⟨by omega, fun m4 e4 => ?_⟩
  have a4 : m4 376 13 = (fr.length : Int) := by rw [e4, up_ne (by omega)]; exact a3
  rw [a4]
  intro m5 e5
  refine ⟨k0, by unfold isCd; omega, fun m6 e6 m7 e7 m8 e8 => ?_⟩
  have f4 : ∀ c i, ¬ (382 ≤ c ∧ c ≤ 385 ∧ i = (fr.length : Int)) → m4 c i = m c i := fun c i q => by rw [e4, up_ne (by omega), e3, up_ne (by omega), e2, up_ne (by omega), e1, up_ne (by omega)]
  have f8 : ∀ c i, ¬ (c = 376 ∧ (i = 13 ∨ i = 14)) → ¬ (c = 378 ∧ i = 1) → ¬ (c = 389 + 4 * k ∧ i = 6) → m8 c i = m4 c i := fun c i q1 q2 q3 => by rw [e8, up_ne (by omega), e7, up_ne q2, e6, up_ne q3, e5, up_ne (by omega)]
  have ff : ∀ c i, ¬ (382 ≤ c ∧ c ≤ 385 ∧ i = (fr.length : Int)) → ¬ (c = 376 ∧ (i = 13 ∨ i = 14)) → ¬ (c = 378 ∧ i = 1) → ¬ (c = 389 + 4 * k ∧ i = 6) → m8 c i = m c i := fun c i q0 q1 q2 q3 => (f8 c i q1 q2 q3).trans (f4 c i q0)
  have kp := I0.keepC (m' := m8) (fun c i q => ff c i (by omega) (by omega) (by omega) (by omega))
  refine h m8 ⟨⟨?_, by rw [List.length_cons]; omega⟩, ⟨h2.keep (fun c i b1 b2 b3 b4 => ff c i (by omega) (by omega) (by omega) (by omega)), k0, ?_, ?_, ?_, ?_⟩, fun j j0 j1 => ?_, kp⟩ (fun c i q0 q1 q2 q3 => ff c i (by omega) q1 q2 q3) ?_ ?_
  · rw [e8, up_neI (by decide), e7, up_ne (by decide), e6, up_ne (by omega), e5, up_at, List.length_cons]; omega
  · rw [f8 _ _ (by omega) (by omega) (by omega), e4, up_ne (by omega), e3, up_ne (by omega), e2, up_ne (by omega), e1, up_at]
  · rw [f8 _ _ (by omega) (by omega) (by omega), e4, up_ne (by omega), e3, up_ne (by omega), e2, up_at]
  · rw [f8 _ _ (by omega) (by omega) (by omega), e4, up_ne (by omega), e3, up_at]
  · rw [f8 _ _ (by omega) (by omega) (by omega), e4, up_at]
  · show _ = cntF j fr + (if k = j then 1 else 0)
    by_cases c : k = j
    · subst c
      rw [if_pos rfl, e8, up_ne (by omega), e7, up_ne (by omega), e6, up_at, e5, up_ne (by omega), f4 _ _ (by omega), h3 k j0 j1]
    · rw [if_neg c, ff _ _ (by omega) (by omega) (by omega) (by omega), h3 j j0 j1]; omega
  · rw [e8, up_at]
  · rw [e8, up_ne (by decide), e7, up_at]
theorem stG_app : ∀ {pre : List SV}, stG m (pre ++ l) → stG m l := by
  intro pre
  induction pre with
  | nil => intro h; exact h
  | cons v pre ih =>
    intro h
    obtain ⟨d1, d2, d3⟩ := v
    exact ih h.1
theorem stG_mono : ∀ {pre : List SV}, stG m (pre ++ l) → m 381 (l.length : Int) ≤ m 381 ((pre ++ l).length : Int) := by
  intro pre
  induction pre with
  | nil => intro h; exact Int.le_refl _
  | cons v pre ih =>
    intro h
    obtain ⟨d1, d2, d3⟩ := v
    obtain ⟨a1, a2, a3, a4, a5⟩ := h
    have := ih a1
    have vb := VS_bd a2 a3
    have a5 : m 381 (((pre ++ l).length : Int) + 1) = m 381 ((pre ++ l).length : Int) + VS d1 d2 := a5
    have e : (((d1, d2, d3) :: pre ++ l).length : Int) = ((pre ++ l).length : Int) + 1 := by rw [List.cons_append, List.length_cons]; omega
    rw [e]
    omega
theorem c_ends (I : MsI m F n ((k, pc, base, own) :: fr)) (hR : RB r d s) (st : stG m ((d, s, V) :: (args ++ l))) (tp : m 376 8 = ((args ++ l).length : Int) + 1) (hl : (args ++ l).length ≤ 1298) (hb : base = (l.length : Int)) (h : ∀ m', MsI m' F n fr → stG m' ((d, s, V) :: l) → m' 376 8 = (l.length : Int) + 1 → (fr ≠ [] → m' 376 14 = pc ∧ m' 378 1 = (fr.headD (0, 0, 0, 0)).2.2.2) → (∀ c i, c ≠ 379 → c ≠ 381 → ¬ (c = 376 ∧ (i = 8 ∨ i = 13 ∨ i = 14)) → ¬ (c = 378 ∧ i = 1) → ¬ (c = 389 + 4 * k ∧ i = 6) → m' c i = m c i) → Q 0 m') : P_X6_ends r m Q := by
  have I0 := I
  obtain ⟨⟨h1, h1'⟩, ⟨g1, g2, g3, g4, g5, g6⟩, h3, -⟩ := I
  rw [List.length_cons] at h1 h1'
  have g2 : 0 ≤ k ∧ k < 48 := g2
  have g3 : m 382 (fr.length : Int) = k := g3
  have g5 : m 384 (fr.length : Int) = base := g5
  have g4 : m 383 (fr.length : Int) = pc := g4
  obtain ⟨hd, hs⟩ := hR.bd
  have vb := VS_bd hd hs
  obtain ⟨s0, -, -, vx, ex⟩ := st
  have sl : stG m l := stG_app s0
  have at0 := stG_at sl
  have at1 := stG_at s0
  have mo := stG_mono s0
  have ll : l.length ≤ (args ++ l).length := by rw [List.length_append]; omega
  unfold P_X6_ends
  intro m1 e1
  have a1 : m1 376 13 = (fr.length : Int) := by rw [e1, up_at, h1]; omega
  have f1 : ∀ c i, ¬ (c = 376 ∧ i = 13) → m1 c i = m c i := fun c i q => by rw [e1, up_ne q]
  rw [a1, f1 382 _ (by omega), g3]
  refine ⟨by omega, g2, by unfold isCd; omega, fun m2 e2 => ?_⟩
  have f2 : ∀ c i, ¬ (c = 376 ∧ i = 13) → ¬ (c = 389 + 4 * k ∧ i = 6) → m2 c i = m c i := fun c i q1 q2 => by rw [e2, up_ne q2]; exact f1 c i q1
  have a2 : m2 376 13 = (fr.length : Int) := by rw [e2, up_ne (by omega)]; exact a1
  rw [a2, f2 384 _ (by omega) (by omega), g5, f2 376 8 (by decide) (by omega), tp, f2 381 _ (by omega) (by omega), f2 381 base (by omega) (by omega), hb, show ((args ++ l).length : Int) + 1 - 1 = ((args ++ l).length : Int) by omega]
  refine ⟨by omega, by omega, by omega, c_cells hR ⟨by omega, ⟨1159540, ly_379, by omega, by show m 381 ((args ++ l).length : Int) + VS d s ≤ 1159540; omega⟩, ⟨1159540, ly_379, by omega, by show m 381 (l.length : Int) + VS d s ≤ 1159540; omega⟩, ?_⟩⟩
  intro m4 e4 m5 e5
  have a5 : m5 376 8 = (l.length : Int) + 1 := by rw [e5, up_at]
  rw [a5]
  refine c_cells hR ⟨by omega, fun m7 e7 => ?_⟩
  have f4 : ∀ c i, c ≠ 379 → m4 c i = m2 c i := fun c i q => by rw [e4]; exact cpm_out (fun z => q z.1)
  have f7 : ∀ c i, c ≠ 379 → ¬ (c = 381 ∧ i = (l.length : Int) + 1) → ¬ (c = 376 ∧ (i = 8 ∨ i = 13)) → ¬ (c = 389 + 4 * k ∧ i = 6) → m7 c i = m c i := fun c i q1 q2 q3 q4 => by rw [e7, up_ne q2, e5, up_ne (by omega), f4 c i q1]; exact f2 c i (by omega) q4
  have a7 : m7 376 13 = (fr.length : Int) := by rw [e7, up_ne (by omega), e5, up_neI (by decide), f4 _ _ (by decide)]; exact a2
  have c7 : ∀ q, m7 379 q = m4 379 q := fun q => by rw [e7, up_ne (by omega), e5, up_ne (by omega)]
  have n2 : m2 379 = m 379 := funext (fun q => f2 379 q (by omega) (by omega))
  have st7 : stG m7 ((d, s, V) :: l) := by
    refine ⟨sl.fr (fun q hq => ?_) (fun i i0 i1 => f7 _ _ (by decide) (by omega) (by omega) (by omega)), hd, hs, ?_, ?_⟩
    · rw [c7, e4, cpm_out (by omega)]; exact congrFun n2 q
    · rw [f7 381 _ (by decide) (by omega) (by omega) (by omega)]
      have v4 : VC (cpm m2 379 (m 381 ((args ++ l).length : Int)) 379 (m 381 (l.length : Int)) (VS d s) 379) (m 381 (l.length : Int)) d s V := VC.cpm hd hs (by rw [n2]; exact vx)
      rw [← e4] at v4
      intro i j hi hj q q0 q1
      rw [c7, c7]
      exact v4 i j hi hj q q0 q1
    · rw [e7, up_at, up_neI (by omega), e5, up_ne (by omega), f4 _ _ (by decide), f2 _ _ (by omega) (by omega)]
  have t7 : m7 376 8 = (l.length : Int) + 1 := by rw [e7, up_ne (by omega)]; exact a5
  have fin : ∀ m', (∀ c i, ¬ (c = 376 ∧ i = 14) → ¬ (c = 378 ∧ i = 1) → m' c i = m7 c i) → (fr ≠ [] → m' 376 14 = pc ∧ m' 378 1 = (fr.headD (0, 0, 0, 0)).2.2.2) → Q 0 m' := by
    intro m' f' k'
    have ff : ∀ c i, c ≠ 379 → ¬ (c = 381 ∧ i = (l.length : Int) + 1) → ¬ (c = 376 ∧ (i = 8 ∨ i = 13 ∨ i = 14)) → ¬ (c = 378 ∧ i = 1) → ¬ (c = 389 + 4 * k ∧ i = 6) → m' c i = m c i := fun c i q1 q2 q3 q4 q5 => (f' c i (by omega) q4).trans (f7 c i q1 q2 (by omega) q5)
    refine h m' ⟨⟨by rw [f' _ _ (by decide) (by decide)]; exact a7, by omega⟩, g1.keep (fun c i b1 b2 b3 b4 => ff c i (by omega) (by omega) (by omega) (by omega) (by omega)), fun j j0 j1 => ?_, I0.keepC (m' := m') (fun c i q => ff c i (by omega) (by omega) (by omega) (by omega) (by omega))⟩ (st7.eq (fun i => ⟨f' _ _ (by omega) (by omega), f' _ _ (by omega) (by omega)⟩)) (by rw [f' _ _ (by decide) (by decide)]; exact t7) k' (fun c i q1 q2 q3 q4 q5 => ff c i q1 (by omega) q3 q4 q5)
    have cj : m (389 + 4 * j) 6 = cntF j fr + (if k = j then 1 else 0) := h3 j j0 j1
    by_cases c : k = j
    · subst c
      rw [if_pos rfl] at cj
      rw [f' _ _ (by omega) (by omega), e7, up_ne (by omega), e5, up_ne (by omega), f4 _ _ (by omega), e2, up_at, f1 _ _ (by omega), cj]; omega
    · rw [if_neg c] at cj
      rw [ff _ _ (by omega) (by omega) (by omega) (by omega) (by omega), cj]; omega
  rw [a7]
  refine ⟨by constructor <;> omega, ?_⟩
  by_cases c : (fr.length : Int) = 0
  · rw [if_pos c]
    refine fin m7 (fun _ _ _ _ => rfl) (fun z => ?_)
    exfalso
    cases fr with
    | nil => exact z rfl
    | cons y fr => rw [List.length_cons] at c; omega
  · rw [if_neg c]
    refine ⟨by omega, fun m8 e8 => ?_⟩
    have a8 : m8 376 13 = (fr.length : Int) := by rw [e8, up_neI (by decide)]; exact a7
    rw [a8]
    refine ⟨by omega, fun m9 e9 => ?_⟩
    refine fin m9 (fun c i q1 q2 => by rw [e9, up_ne q2, e8, up_ne q1]) (fun _ => ⟨?_, ?_⟩)
    · rw [e9, up_ne (by decide), e8, up_at, f7 _ _ (by decide) (by omega) (by omega) (by omega)]; exact g4
    · rw [e9, up_at, e8, up_ne (by omega), f7 _ _ (by decide) (by omega) (by omega) (by omega)]
      cases fr with
      | nil => exact absurd rfl c
      | cons y fr =>
        rw [List.length_cons, show ((fr.length + 1 : Nat) : Int) - 1 = (fr.length : Int) by omega]
        exact g1.2.2.2.2.2
end FRAMES
