set_option maxRecDepth 100000
/-! rings of parts are rings -/
def JEok (e : JE) : Prop := (∀ w i x, e.1 w = some (i, x) → ok3 x) ∧ (∀ v x, 0 ≤ v → e.2.1 v = some x → ok3 x) ∧ (∀ w rc f R z, (∀ x, x ∈ rc → ok3 x) → e.2.2.2.1 w rc = some (f, R, z) → ok3 z) ∧ (∀ x, e.2.2.2.2 = some x → ok3 x)
theorem ok3_B : ok3 ((-2, 0, 0) : R3) := Or.inl ⟨rfl, rfl, rfl⟩
theorem ok3_n {d : Int} (h : 0 ≤ d ∧ d ≤ 2) : ok3 ((0, d, 0) : R3) := by unfold ok3; simp only; omega
theorem fn2S_ok {f : Int} {a b z : R3} (ha : ok3 a) (hb : ok3 b) (h : fn2S f a b = some z) : ok3 z := by
  unfold fn2S at h
  split at h
  · split at h
    · cases h
    case h_2 j hj =>
      split at h
      · cases h; exact jn_ok ha hb hj
      · cases h
  · split at h
    · cases h
    case isFalse c =>
      have al : ok3 ((a.1, a.2.1 - 1, 0) : R3) := by unfold ok3 at ha ⊢; simp only; omega
      split at h
      · split at h
        · cases h; exact al
        · cases h
      · split at h
        · cases h
        · exact jn_ok al hb h
theorem fn1S_ok {f : Int} {a z : R3} (ha : ok3 a) (h : fn1S f a = some z) : ok3 z := by
  unfold fn1S at h
  split at h
  · cases h
  case isFalse nb =>
    have h0 : ok3 ((0, 0, 0) : R3) := ok3_n (by decide)
    have hp : ok3 ((a.1, a.2.1, 0) : R3) := by unfold ok3 at ha ⊢; simp only; omega
    have hp1 : ok3 ((a.1, 1, 0) : R3) := by unfold ok3 at ha ⊢; simp only; omega
    split at h
    · split at h <;> cases h; exact h0
    split at h
    · split at h <;> cases h; exact ha
    split at h
    · split at h <;> cases h; exact hp
    split at h
    · split at h <;> cases h; exact ha
    split at h
    · split at h <;> cases h; exact frac_ok ha
    split at h
    · split at h <;> cases h; exact hp1
    split at h
    · split at h <;> cases h; exact h0
    · split at h <;> cases h; exact h0
theorem fnS_ok {f : Int} {rc : List R3} {z : R3} (hr : ∀ x, x ∈ rc → ok3 x) (h : fnS f rc = some z) : ok3 z := by
  unfold fnS at h
  split at h
  case h_1 a => split at h; cases h; exact fn1S_ok (hr a (List.mem_cons_self ..)) h
  case h_2 a b => split at h; exact fn2S_ok (hr a (List.mem_cons_self ..)) (hr b (List.mem_cons_of_mem _ (List.mem_cons_self ..))) h; cases h
  · cases h
theorem jnL_ok : ∀ (l : List R3) (a z : R3), ok3 a → (∀ x, x ∈ l → ok3 x) → jnL a l = some z → ok3 z := by
  intro l
  induction l with
  | nil => intro a z ha _ h; cases h; exact ha
  | cons x l ih =>
    intro a z ha hl h
    unfold jnL at h
    split at h
    · cases h
    case h_2 j hj => exact ih j z (jn_ok ha (hl x (List.mem_cons_self ..)) hj) (fun y hy => hl y (List.mem_cons_of_mem _ hy)) h
theorem mxS_ok {v : Int} {rc : List R3} {z : R3} (hv : v ≤ 3) (hr : ∀ x, x ∈ rc → ok3 x) (h : mxS v rc = some z) : ok3 z := by
  unfold mxS at h
  split at h
  · cases h
  case h_2 a l =>
    split at h
    · cases h
    case h_2 j hj =>
      have oj := jnL_ok l a j (hr a (List.mem_cons_self ..)) (fun y hy => hr y (List.mem_cons_of_mem _ hy)) hj
      split at h
      · cases h
        unfold ok3 at oj ⊢
        simp only
        omega
      · cases h
theorem twoS_ok {k : Int} {a b z : R3} (ha : ok3 a) (hb : ok3 b) (h : twoS k a b = some z) : ok3 z := by
  unfold twoS at h
  split at h
  · cases h
  case h_2 j hj =>
    have oj := jn_ok ha hb hj
    split at h
    · split at h <;> cases h; exact ok3_B
    split at h
    · cases h; exact ok3_B
    split at h
    · split at h <;> cases h; exact ok3_B
    split at h
    · split at h <;> cases h; exact frac_ok oj
    split at h
    · split at h <;> cases h; exact oj
    · split at h <;> cases h; exact oj
theorem ownS_ok {e : JE} {d : ND} {rc : List R3} {z : R3} (he : JEok e) (hv : 0 ≤ d.2.2.1) (h7 : d.1 = 7 → d.2.2.1 ≤ 3) (hr : ∀ x, x ∈ rc → ok3 x) (h : ownS e d rc = some z) : ok3 z := by
  unfold ownS at h
  by_cases k0 : d.1 = 0
  · rw [if_pos k0] at h; cases h; exact ok3_n (by decide)
  rw [if_neg k0] at h
  by_cases k1 : d.1 = 1
  · rw [if_pos k1] at h; cases h; exact ok3_n (by decide)
  rw [if_neg k1] at h
  by_cases k2 : d.1 = 2
  · rw [if_pos k2] at h; cases h; exact ok3_n (by decide)
  rw [if_neg k2] at h
  by_cases k3 : d.1 = 3
  · rw [if_pos k3] at h; exact he.2.1 _ _ hv h
  rw [if_neg k3] at h
  by_cases k4 : d.1 = 4
  · rw [if_pos k4] at h
    rcases hx : e.1 d.2.2.2 with - | x
    · rw [hx] at h; cases h
    · rw [hx] at h; cases h; exact he.1 _ x.1 x.2 hx
  rw [if_neg k4] at h
  by_cases k5 : d.1 = 5
  · rw [if_pos k5] at h
    rcases hx : e.2.2.2.1 d.2.2.2 rc with - | x
    · rw [hx] at h; cases h
    · rw [hx] at h; cases h; exact he.2.2.1 _ _ x.1 x.2.1 x.2.2 hr hx
  rw [if_neg k5] at h
  by_cases k6 : d.1 = 6
  · rw [if_pos k6] at h; exact fnS_ok hr h
  rw [if_neg k6] at h
  by_cases k7 : d.1 = 7
  · rw [if_pos k7] at h; exact mxS_ok (h7 k7) hr h
  rw [if_neg k7] at h
  match rc, hr, h with
  | [], _, h => cases h
  | [a], hr, h =>
    have oa := hr a (List.mem_cons_self ..)
    simp only at h
    by_cases q : d.1 = 11
    · rw [if_pos q] at h; split at h <;> cases h; exact ok3_B
    rw [if_neg q] at h
    by_cases q : d.1 = 22
    · rw [if_pos q] at h; split at h <;> cases h; exact oa
    rw [if_neg q] at h
    split at h <;> cases h; exact oa
  | [a, b], hr, h =>
    have oa := hr a (List.mem_cons_self ..)
    have ob := hr b (List.mem_cons_of_mem _ (List.mem_cons_self ..))
    simp only at h
    by_cases q : d.1 = 24
    · rw [if_pos q] at h; split at h <;> cases h; exact ob
    rw [if_neg q] at h
    by_cases q : d.1 = 25
    · rw [if_pos q] at h; split at h <;> cases h; exact ob
    rw [if_neg q] at h
    exact twoS_ok oa ob h
  | [a, b, c], hr, h =>
    have ob := hr b (List.mem_cons_of_mem _ (List.mem_cons_self ..))
    have oc := hr c (List.mem_cons_of_mem _ (List.mem_cons_of_mem _ (List.mem_cons_self ..)))
    simp only at h
    split at h
    · exact jn_ok ob oc h
    · cases h
  | _ :: _ :: _ :: _ :: _, _, h => cases h
theorem allS_ok : ∀ (l : List (Option R3)) (rc : List R3), (∀ x, some x ∈ l → ok3 x) → allS l = some rc → ∀ x, x ∈ rc → ok3 x := by
  intro l
  induction l with
  | nil => intro rc _ h; cases h; intro x hx; cases hx
  | cons a l ih =>
    intro rc hl h
    rcases a with - | a
    · cases h
    · unfold allS at h
      split at h
      · cases h
      case h_2 r hr =>
        cases h
        intro x hx
        rcases List.mem_cons.1 hx with q | q
        · rw [q]; exact hl a (List.mem_cons_self ..)
        · exact ih r (fun y hy => hl y (List.mem_cons_of_mem _ hy)) hr x q
theorem jdS_ok {e : JE} (he : JEok e) : ∀ (t : TT), wfT t → ∀ x, some x ∈ (jdS e t).1 → ok3 x := by
  intro t
  induction t with
  | leaf => intro _ x hx; cases hx
  | inner z d u c s ihc ihs =>
    intro w x hx
    obtain ⟨w0, wc, ws⟩ := w
    rcases List.mem_cons.1 hx with q | q
    · replace q := q.symm
      unfold nodeS at q
      split at q
      case isTrue k30 =>
        have it : isTy (nd d c lf) := ⟨by
          rcases w0.2.2.2.2.2.2.2.2 with q | q | q | q
          · exfalso; have := q.1; unfold arT at this; omega
          · exfalso; omega
          · omega
          · omega, rfl⟩
        exact tyO_ok he.2.2.2 (nd d c lf) ⟨w0, wc, trivial⟩ it x q
      · split at q
        · cases q
        · split at q
          · cases q
          case h_2 rc hrc =>
            split at q
            case h_1 r hr =>
              cases q
              exact ownS_ok he w0.2.1.1 (fun k => (w0.2.2.2.2.2.1 k).1) (allS_ok _ _ (ihc wc) hrc) hr
            · cases q
    · exact ihs ws x q
theorem rgS_ok {e : JE} (he : JEok e) {d : ND} {c : TT} (w : okN d c) (wc : wfT c) {x : R3} (h : rgS e d c = some x) : ok3 x := jdS_ok he (nd d c lf) ⟨w, wc, trivial⟩ x (by show some x ∈ rgS e d c :: (jdS e lf).1; rw [h]; exact List.mem_cons_self ..)
theorem mtS_ok {F : Int → FnR} {n w : Int} {rc : List R3} {f : Int} {R : Option R3} {z : R3} (hn : 0 ≤ n) (hF : ∀ k, 0 ≤ k → k < n → okF (F k)) (hr : ∀ x, x ∈ rc → ok3 x) (h : mtS F n w rc = some (f, R, z)) : ok3 z ∧ (0 ≤ f ∧ f < n) ∧ (F f).2.1 = (rc.length : Int) ∧ instS (F f) 0 R = some z ∧ (R = none ∧ (F f).2.2.1 = 0 ∨ R = foundS (F f) rc ∧ R ≠ none) ∧ (∀ x, R = some x → ok3 x ∧ x.1 ≠ -2) ∧ (∀ k, 0 ≤ k → k ≤ (F f).2.1 → instS (F f) k R ≠ none) ∧ (∃ p, prcS (F f) R 1 0 rc = some p) ∧ (F f).1 = w := by
  unfold mtS at h
  split at h
  · cases h
  · split at h
    · cases h
    case h_2 x hx =>
      split at h
      · cases h
      case h_2 y hy =>
        cases h
        obtain ⟨j, p, R⟩ := x
        obtain ⟨b1, b2, b3⟩ := bestS_bd _ j p R hx
        have ok := hF j b1.1 (by omega)
        obtain ⟨c1, c2, c3, c4⟩ := candS_ok ok hr b2
        refine ⟨instS_ok ok ⟨by decide, by have := ok.1; omega⟩ c3 hy, by omega, c1.symm, hy, c2, c3, inst_all ok c2, ?_, b3⟩
        unfold candS at b2
        split at b2
        · cases b2
        · split at b2
          · split at b2
            · cases b2
            case h_2 q hq => cases b2; exact ⟨_, hq⟩
          · split at b2
            · cases b2
            · split at b2
              · cases b2
              case h_2 q hq => cases b2; exact ⟨_, hq⟩
theorem ECj.ok {m : MM} {b : Int} {e : JE} (h : ECj m b e) : JEok e := by
  have hR := h.2.2.2.1
  rcases h.2.2.2.2 with ⟨F, g, R, q1, q2, q3, q4, q5, q6, q7, q8⟩ | ⟨F, n, nr, rR, nv, vN, vR, q1, q2, q3, q4, q5⟩
  · have ok := (q2.2 g (by omega) (by omega)).1
    subst q1
    refine ⟨fun w i x hx => ?_, fun v x _ hx => absurd (show (none : Option R3) = some x from hx) (by intro q; cases q), fun w rc f R' z hr hz => (mtS_ok (by omega) (fun k k0 k1 => (q2.2 k k0 k1).1) hr hz).1, fun x hx => (hR x hx).1⟩
    unfold JEf at hx
    simp only at hx
    split at hx
    · cases hx
    case h_2 j hj =>
      split at hx
      · cases hx
      case h_2 y hy =>
        cases hx
        have jb := fstI_bd _ _ _ hj
        exact instS_ok ok ⟨by omega, by have := ok.1; omega⟩ hR hy
  · subst q1
    refine ⟨fun w i x hx => ?_, fun v x v0 hx => ?_, fun w rc f R' z hr hz => (mtS_ok q2.1.1 (fun k k0 k1 => (q2.2 k k0 k1).1) hr hz).1, fun x hx => (hR x hx).1⟩
    · unfold JEl at hx
      simp only at hx
      split at hx
      · cases hx
      case h_2 j hj =>
        cases hx
        have jb := fstI_bd _ _ _ hj
        exact (q5.2.2.2 _ (by omega) (by omega)).2.2.1
    · unfold JEl at hx
      simp only at hx
      split at hx
      · cases hx; exact (q5.1.2.2 v v0 (by omega)).2
      · cases hx
