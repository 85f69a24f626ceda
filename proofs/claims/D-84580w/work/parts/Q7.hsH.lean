set_option maxRecDepth 100000
/-! the model's house: a result is kept -/
section HSH
variable {Q : Int → MM → Prop} {m m' m1 : MM} {F : Int → FnR} {n nr nv sz w b k z : Int} {rR vR : Int → R3} {resV varV : Int → VV} {vN tx : Int → Int} {A : HA} {x : R3} {V : VV}
theorem VM.cpT {g g' : Int → Int} {y : Int} (h : VM g 0 V) (e : ∀ j, 0 ≤ j → j < 882 → g' (y + j) = g j) : VM g' y V := by
  intro i j hi hj q q0 q1
  have o := h i j hi hj q q0 q1
  rw [Int.zero_add] at o
  unfold in3 at hi hj
  rw [show y + 98 * (3 * i + j) + 2 * q = y + (98 * (3 * i + j) + 2 * q) by omega, show y + (98 * (3 * i + j) + 2 * q) + 1 = y + (98 * (3 * i + j) + 2 * q + 1) by omega, e _ (by omega) (by omega), e _ (by omega) (by omega)]
  exact o
theorem VM.eqT {g g' : Int → Int} {y : Int} (h : VM g y V) (e : ∀ j, y ≤ j → j < y + 882 → g' j = g j) : VM g' y V := by
  intro i j hi hj q q0 q1
  have o := h i j hi hj q q0 q1
  unfold in3 at hi hj
  rw [e _ (by omega) (by omega), e _ (by omega) (by omega)]
  exact o
theorem VM.upd {g g' : Int → Int} {resV : Int → VV} {c k : Int} (h : ∀ j, 0 ≤ j → j < c → VM g (882 * j) (resV j)) (hk : 0 ≤ k) (o : VM g' (882 * k) V) (e : ∀ j, ¬ (882 * k ≤ j ∧ j < 882 * k + 882) → g' j = g j) : ∀ j, 0 ≤ j → (j < c ∨ j = k) → VM g' (882 * j) (upF resV k V j) := by
  intro j j0 j1
  by_cases z : j = k
  · subst z
    rw [upF_at]; exact o
  · rw [upF_ne z]
    exact (h j j0 (by omega)).eqT (fun q q0 q1 => e q (by omega))
theorem c_keep66 {x2 x3 : Int} (hk : m 582 111 = k) (k0 : 0 ≤ k ∧ k < 200) (K : ∀ m', (∀ j, 0 ≤ j → j < 882 → m' 629 (882 * k + j) = m 635 j) → (∀ c i, ¬ (c = 629 ∧ 882 * k ≤ i ∧ i < 882 * k + 882) → m' c i = m c i) → P_X10_keep_103 Q z x2 x3 m') : ∃ nn, P_X10_keep_66 Q nn z x2 x3 0 m := by
  have lp : ∀ (r : Nat) (j : Int) (m1 : MM), j + (r : Int) = 882 → 0 ≤ j → (∀ i, 0 ≤ i → i < j → m1 629 (882 * k + i) = m 635 i) → (∀ c i, ¬ (c = 629 ∧ 882 * k ≤ i ∧ i < 882 * k + 882) → m1 c i = m c i) → P_X10_keep_66 Q (r + 1) z x2 x3 j m1 := by
    intro r
    induction r with
    | zero =>
      intro j m1 e j0 v f
      have e : j = 882 := by omega
      subst e
      unfold P_X10_keep_66
      refine ⟨by decide, ?_⟩
      rw [if_pos (by decide)]
      exact K m1 v f
    | succ r ih =>
      intro j m1 e j0 v f
      unfold P_X10_keep_66
      refine ⟨by constructor <;> omega, ?_⟩
      rw [if_neg (by omega), f 582 111 (by omega), hk]
      refine ⟨by omega, by omega, fun m2 e2 => ?_⟩
      refine ih (j + 1) m2 (by omega) (by omega) (fun i i0 i1 => ?_) (fun c i y => by rw [e2, up_ne (by omega)]; exact f c i y)
      by_cases q : i = j
      · subst q; rw [e2, up_at, f _ _ (by omega)]
      · rw [e2, up_ne (by omega)]; exact v i i0 (by omega)
  exact ⟨_, lp 882 0 m (by decide) (by decide) (fun i i0 i1 => by omega) (fun _ _ _ => rfl)⟩
theorem c_keep191 (k0 : 0 ≤ k ∧ k < 20) (K : ∀ m', (∀ j, 0 ≤ j → j < 882 → m' 630 (882 * k + j) = m 635 j) → (∀ c i, ¬ (c = 630 ∧ 882 * k ≤ i ∧ i < 882 * k + 882) → m' c i = m c i) → Q 0 m') : ∃ nn, P_X10_keep_191 Q nn k 0 m := by
  have lp : ∀ (r : Nat) (j : Int) (m1 : MM), j + (r : Int) = 882 → 0 ≤ j → (∀ i, 0 ≤ i → i < j → m1 630 (882 * k + i) = m 635 i) → (∀ c i, ¬ (c = 630 ∧ 882 * k ≤ i ∧ i < 882 * k + 882) → m1 c i = m c i) → P_X10_keep_191 Q (r + 1) k j m1 := by
    intro r
    induction r with
    | zero =>
      intro j m1 e j0 v f
      have e : j = 882 := by omega
      subst e
      unfold P_X10_keep_191
      refine ⟨by decide, ?_⟩
      rw [if_pos (by decide)]
      exact K m1 v f
    | succ r ih =>
      intro j m1 e j0 v f
      unfold P_X10_keep_191
      refine ⟨by constructor <;> omega, ?_⟩
      rw [if_neg (by omega)]
      refine ⟨by omega, by omega, fun m2 e2 => ?_⟩
      refine ih (j + 1) m2 (by omega) (by omega) (fun i i0 i1 => ?_) (fun c i y => by rw [e2, up_ne (by omega)]; exact f c i y)
      by_cases q : i = j
      · subst q; rw [e2, up_at, f _ _ (by omega)]
      · rw [e2, up_ne (by omega)]; exact v i i0 (by omega)
  exact ⟨_, lp 882 0 m (by decide) (by decide) (fun i i0 i1 => by omega) (fun _ _ _ => rfl)⟩
/-- what keeping may change -/
def FkM (m m' : MM) : Prop := ∀ c i, ¬ (c = 582 ∧ (i = 33 ∨ i = 34 ∨ i = 111)) → c ≠ 607 → ¬ (623 ≤ c ∧ c ≤ 630) → m' c i = m c i
theorem c_keepM {fl s0 : Int} (hs0 : fl = 1 → s0 = encP (fstI vN w nv.toNat 0)) (hR : RSm m nr rR nv vN vR) (v1 : ∀ k, 0 ≤ k → k < nr → VM (m 629) (882 * k) (resV k)) (v2 : ∀ k, 0 ≤ k → k < nv → VM (m 630) (882 * k) (varV k)) (zb : 0 ≤ z ∧ z < 12000) (hr : rgM m z (some x)) (hv : VM (m 635) 0 V) (hx : ok3 x) (hnr : nr < 200) (fl01 : fl = 0 ∨ fl = 1) (hw : fl = 1 → m 589 0 = w ∧ RL w ∧ (fstI vN w nv.toNat 0 = none → nv < 20))
    (K0 : fl = 0 → ∀ m', RSm m' (nr + 1) (upF rR nr x) nv vN vR → (∀ k, 0 ≤ k → k < nr + 1 → VM (m' 629) (882 * k) (upF resV nr V k)) → (∀ k, 0 ≤ k → k < nv → VM (m' 630) (882 * k) (varV k)) → m' 582 111 = nr → FkM m m' → Q 0 m')
    (K1 : fl = 1 → ∀ m', RSm m' (nr + 1) (upF rR nr x) (nK vN w nv) (upF vN (vK vN w nv) w) (upF vR (vK vN w nv) x) → (∀ k, 0 ≤ k → k < nr + 1 → VM (m' 629) (882 * k) (upF resV nr V k)) → (∀ k, 0 ≤ k → k < nK vN w nv → VM (m' 630) (882 * k) (upF varV (vK vN w nv) V k)) → m' 582 111 = nr → FkM m m' → Q 0 m') : P_X10_keep z fl s0 m Q := by
  obtain ⟨⟨r1, r2, r3⟩, s1, s2, s3⟩ := hR
  obtain ⟨t1, t2, t3⟩ := hr
  unfold P_X10_keep
  rw [r1]
  intro m1 e1
  have a1 : m1 582 34 = nr := by rw [e1, up_ne (by omega)]; exact r1
  rw [a1]
  intro m2 e2
  have a2 : m2 582 111 = nr := by rw [e2, up_ne (by omega), e1, up_at]
  have f2 : ∀ c i, ¬ (c = 582 ∧ (i = 34 ∨ i = 111)) → m2 c i = m c i := fun c i y => by rw [e2, up_ne (by omega), e1, up_ne (by omega)]
  rw [a2]
  refine ⟨zb, by omega, fun m3 e3 => ?_⟩
  have a3 : m3 582 111 = nr := by rw [e3, up_ne (by omega)]; exact a2
  rw [a3]
  refine ⟨by omega, fun m4 e4 => ?_⟩
  have a4 : m4 582 111 = nr := by rw [e4, up_ne (by omega)]; exact a3
  rw [a4]
  refine ⟨by omega, fun m5 e5 => ?_⟩
  have a5 : m5 582 111 = nr := by rw [e5, up_ne (by omega)]; exact a4
  have f5 : ∀ c i, ¬ (c = 582 ∧ (i = 34 ∨ i = 111)) → ¬ (626 ≤ c ∧ c ≤ 628 ∧ i = nr) → m5 c i = m c i := fun c i y1 y2 => by rw [e5, up_ne (by omega), e4, up_ne (by omega), e3, up_ne (by omega)]; exact f2 c i y1
  have b34 : m5 582 34 = nr + 1 := by rw [e5, up_ne (by omega), e4, up_ne (by omega), e3, up_ne (by omega), e2, up_at]
  have b6 : r3M m5 626 627 628 nr x := by
    refine ⟨?_, ?_, ?_⟩
    · rw [e5, up_ne (by omega), e4, up_ne (by omega), e3, up_at, f2 _ _ (by omega)]; exact t1
    · rw [e5, up_ne (by omega), e4, up_at, e3, up_ne (by omega), f2 _ _ (by omega)]; exact t2
    · rw [e5, up_at, e4, up_ne (by omega), e3, up_ne (by omega), f2 _ _ (by omega)]; exact t3
  refine c_keep66 a5 ⟨r2.1, hnr⟩ (fun m6 v6 f6 => ?_)
  have g6 : ∀ c i, ¬ (c = 582 ∧ (i = 34 ∨ i = 111)) → ¬ (626 ≤ c ∧ c ≤ 628 ∧ i = nr) → ¬ (c = 629 ∧ 882 * nr ≤ i ∧ i < 882 * nr + 882) → m6 c i = m c i := fun c i y1 y2 y3 => by rw [f6 c i y3]; exact f5 c i y1 y2
  have w629 : ∀ j, 0 ≤ j → j < nr + 1 → VM (m6 629) (882 * j) (upF resV nr V j) := fun j j0 j1 => VM.upd (c := nr) (g := m 629) v1 r2.1 (hv.cpT (fun i i0 i1 => by rw [v6 i i0 i1]; exact f5 _ _ (by omega) (by omega))) (fun i y => g6 _ _ (by omega) (by omega) (by omega)) j j0 (by omega)
  have rs : ∀ m7 : MM, (∀ c i, (626 ≤ c ∧ c ≤ 629) ∨ (c = 582 ∧ (i = 34 ∨ i = 111)) → m7 c i = m6 c i) → (m7 582 34 = nr + 1 ∧ (0 ≤ nr + 1 ∧ nr + 1 ≤ 200) ∧ ∀ k, 0 ≤ k → k < nr + 1 → r3M m7 626 627 628 k (upF rR nr x k) ∧ ok3 (upF rR nr x k)) ∧ (∀ k, 0 ≤ k → k < nr + 1 → VM (m7 629) (882 * k) (upF resV nr V k)) ∧ m7 582 111 = nr := by
    intro m7 f7
    refine ⟨⟨by rw [f7 _ _ (by omega), f6 _ _ (by omega)]; exact b34, by omega, fun k k0 k1 => ?_⟩, ?_, by rw [f7 _ _ (by omega), f6 _ _ (by omega)]; exact a5⟩
    · by_cases y : k = nr
      · subst y
        rw [upF_at]
        exact ⟨b6.fr (fun c y => by rw [f7 _ _ (by omega)]; exact f6 _ _ (by omega)), hx⟩
      · rw [upF_ne y]
        exact ⟨(r3 k k0 (by omega)).1.fr (fun c y => by rw [f7 _ _ (by omega)]; exact g6 _ _ (by omega) (by omega) (by omega)), (r3 k k0 (by omega)).2⟩
    · rw [show m7 629 = m6 629 from funext (fun i => f7 _ _ (by omega))]; exact w629
  unfold P_X10_keep_103
  refine ⟨by constructor <;> omega, ?_⟩
  rcases fl01 with fl0 | fl1
  · rw [if_pos fl0]
    obtain ⟨q1, q2, q3⟩ := rs m6 (fun _ _ _ => rfl)
    refine K0 fl0 m6 ⟨q1, by rw [g6 _ _ (by omega) (by omega) (by omega)]; exact s1, s2, fun k k0 k1 => ⟨by rw [g6 _ _ (by omega) (by omega) (by omega)]; exact (s3 k k0 k1).1, (s3 k k0 k1).2.1.fr (fun c y => g6 _ _ (by omega) (by omega) (by omega)), (s3 k k0 k1).2.2⟩⟩ q2 ?_ q3 (fun c i y1 y2 y3 => g6 c i (by omega) (by omega) (by omega))
    rw [show m6 630 = m 630 from funext (fun i => g6 _ _ (by omega) (by omega) (by omega))]; exact v2
  rw [if_neg (by omega)]
  obtain ⟨w1, w2, w3⟩ := hw fl1
  have es0 := hs0 fl1
  subst es0
  have fin : ∀ m7 : MM, 0 ≤ vK vN w nv → vK vN w nv < 20 → (vK vN w nv = nv ∧ nK vN w nv = nv + 1 ∨ vK vN w nv < nv ∧ nK vN w nv = nv) → (∀ c i, ¬ (c = 582 ∧ i = 33) → m7 c i = m6 c i) → m7 582 33 = nK vN w nv → P_X10_keep_136 Q z (vK vN w nv) m7 := by
    intro m7 k0 k1 kk f7 n7
    generalize hk : vK vN w nv = kv at *
    generalize hk2 : nK vN w nv = nn at *
    unfold P_X10_keep_136
    refine ⟨⟨k0, k1⟩, fun m8 e8 => ⟨zb, fun m9 e9 m10 e10 m11 e11 => ?_⟩⟩
    refine c_keep191 ⟨k0, k1⟩ (fun m12 v12 f12 => ?_)
    have f11 : ∀ c i, ¬ (c = 607 ∧ i = kv) → ¬ (623 ≤ c ∧ c ≤ 625 ∧ i = kv) → m11 c i = m7 c i := fun c i y1 y2 => by rw [e11, up_ne (by omega), e10, up_ne (by omega), e9, up_ne (by omega), e8, up_ne y1]
    have g12 : ∀ c i, ¬ (c = 607 ∧ i = kv) → ¬ (623 ≤ c ∧ c ≤ 625 ∧ i = kv) → ¬ (c = 630 ∧ 882 * kv ≤ i ∧ i < 882 * kv + 882) → ¬ (c = 582 ∧ i = 33) → m12 c i = m6 c i := fun c i y1 y2 y3 y4 => by rw [f12 c i y3, f11 c i y1 y2, f7 c i y4]
    obtain ⟨q1, q2, q3⟩ := rs m12 (fun c i y => g12 c i (by omega) (by omega) (by omega) (by omega))
    have n7w : m7 589 0 = w := by rw [f7 _ _ (by omega), g6 _ _ (by omega) (by omega) (by omega)]; exact w1
    have z8 : ∀ c, 598 ≤ c → c ≤ 600 → m7 c z = m c z := fun c y1 y2 => by rw [f7 _ _ (by omega)]; exact g6 _ _ (by omega) (by omega) (by omega)
    refine K1 fl1 m12 ⟨q1, by rw [f12 _ _ (by omega), f11 _ _ (by omega) (by omega)]; exact n7, by omega, fun i i0 i1 => ?_⟩ q2 (fun i i0 i1 => ?_) q3 (fun c i y1 y2 y3 => by rw [g12 c i (by omega) (by omega) (by omega) (by omega)]; exact g6 c i (by omega) (by omega) (by omega))
    · by_cases y : i = kv
      · subst y
        rw [upF_at, upF_at]
        refine ⟨?_, ⟨?_, ?_, ?_⟩, hx, w2⟩
        · rw [f12 _ _ (by omega), e11, up_ne (by omega), e10, up_ne (by omega), e9, up_ne (by omega), e8, up_at]; exact n7w
        · rw [f12 _ _ (by omega), e11, up_ne (by omega), e10, up_ne (by omega), e9, up_at, e8, up_ne (by omega), z8 _ (by decide) (by decide)]; exact t1
        · rw [f12 _ _ (by omega), e11, up_ne (by omega), e10, up_at, e9, up_ne (by omega), e8, up_ne (by omega), z8 _ (by decide) (by decide)]; exact t2
        · rw [f12 _ _ (by omega), e11, up_at, e10, up_ne (by omega), e9, up_ne (by omega), e8, up_ne (by omega), z8 _ (by decide) (by decide)]; exact t3
      · rw [upF_ne y, upF_ne y, g12 _ _ (by omega) (by omega) (by omega) (by omega), g6 _ _ (by omega) (by omega) (by omega)]
        have o := s3 i i0 (by omega)
        exact ⟨o.1, o.2.1.fr (fun c y => by rw [g12 _ _ (by omega) (by omega) (by omega) (by omega)]; exact g6 _ _ (by omega) (by omega) (by omega)), o.2.2⟩
    · exact VM.upd (c := nv) (g := m 630) v2 k0 (hv.cpT (fun j j0 j1 => by rw [v12 j j0 j1, f11 _ _ (by omega) (by omega), f7 _ _ (by omega)]; exact g6 _ _ (by omega) (by omega) (by omega))) (fun j y => by rw [g12 _ _ (by omega) (by omega) (by omega) (by omega)]; exact g6 _ _ (by omega) (by omega) (by omega)) i i0 (by omega)
  have c33 : m6 582 33 = nv := by rw [g6 _ _ (by omega) (by omega) (by omega)]; exact s1
  rcases vK_cs (vN := vN) (w := w) s2.1 with ⟨o1, o2, o3, o4⟩ | ⟨o1, o2, o3, o4, o5⟩
  · rw [o2]
    have lt := w3 o1
    refine ⟨by decide, by decide, ?_⟩
    rw [if_neg (by decide), if_neg (by decide), c33]
    intro m7 e7
    have k := fin m7 (by omega) (by omega) (.inl ⟨o3, o4⟩) (fun c i y => by rw [e7, up_ne y]) (by rw [e7, up_at, o4])
    rw [o3] at k
    exact k
  · rw [o2]
    refine ⟨by constructor <;> omega, by constructor <;> omega, ?_⟩
    rw [if_pos o3.1, if_pos o3.1]
    exact fin m6 o3.1 (by omega) (.inr ⟨o3.2, o4⟩) (fun _ _ _ => rfl) (by rw [c33, o4])
end HSH
