set_option maxRecDepth 100000
/-! trees: what a line says; a node (kind, place, number, name), its parts, what stands beside it -/
abbrev ND : Type := Int × Int × Int × Int
abbrev TT : Type := Std.DTreeMap.Internal.Impl ND (fun _ => Unit)
def lf : TT := .leaf
def nd (d : ND) (c s : TT) : TT := .inner 0 d () c s
/-- how many stand beside one another -/
def lenT : TT → Nat
  | .leaf => 0
  | .inner _ _ _ _ s => lenT s + 1
def htT : TT → Nat
  | .leaf => 0
  | .inner _ _ _ c s => max (htT c + 1) (htT s)
def allP : TT → Prop
  | .leaf => True
  | .inner _ d _ _ s => (0 ≤ d.1 ∧ d.1 ≤ 25) ∧ allP s
def isTy : TT → Prop
  | .leaf => False
  | .inner _ d _ _ s => (30 ≤ d.1 ∧ d.1 ≤ 35) ∧ s = .leaf
def arT (k : Int) (n : Nat) : Prop := (0 ≤ k ∧ k ≤ 4) ∧ n = 0 ∨ (5 ≤ k ∧ k ≤ 7) ∧ 1 ≤ n ∨ k = 8 ∧ n = 3 ∨ (k = 9 ∨ k = 10 ∨ 12 ≤ k ∧ k ≤ 21) ∧ n = 2 ∨ (k = 11 ∨ k = 22 ∨ k = 23) ∧ n = 1
def plw : TT → Int → Prop
  | .leaf, _ => True
  | .inner _ d _ c s, lo => lo ≤ d.2.1 ∧ (d.1 = 33 ∨ d.1 = 35 → lo ≤ d.2.2.2) ∧ plw c lo ∧ plw s lo
def okN (d : ND) (c : TT) : Prop := (0 ≤ d.2.1 ∧ d.2.1 ≤ 400) ∧ (0 ≤ d.2.2.1 ∧ d.2.2.1 ≤ 999999999) ∧ RL d.2.2.2 ∧ (30 ≤ d.1 → 0 ≤ d.2.2.2 ∧ d.2.2.2 ≤ 400) ∧ (d.1 = 6 → d.2.2.1 ≤ 13) ∧ (d.1 = 7 → d.2.2.1 ≤ 3 ∧ (d.2.2.1 ≠ 0 → (lenT c : Int) = d.2.2.1 * d.2.2.1)) ∧ (d.1 = 30 → d.2.2.1 ≤ 1) ∧ (d.1 = 5 → plw c (d.2.1 + 1)) ∧
  (arT d.1 (lenT c) ∧ allP c ∨ (d.1 = 24 ∨ d.1 = 25) ∧ (∃ z a u ca s, c = .inner z a u ca s ∧ (0 ≤ a.1 ∧ a.1 ≤ 25) ∧ isTy s ∧ htT s ≤ 16) ∨ (30 ≤ d.1 ∧ d.1 ≤ 33) ∧ c = .leaf ∨ (d.1 = 34 ∨ d.1 = 35) ∧ isTy c)
def wfT : TT → Prop
  | .leaf => True
  | .inner _ d _ c s => okN d c ∧ wfT c ∧ wfT s
/-! notes: what is wrong, the first from the left -/
abbrev Nte : Type := Option (Int × Int)
def mn (a b : Nte) : Nte := match a, b with
  | none, b => b
  | some p, none => some p
  | some p, some q => if q.1 < p.1 ∨ q.1 = p.1 ∧ q.2 < p.2 then some q else some p
theorem mn_none {a : Nte} : mn a none = a := by cases a <;> rfl
theorem mn_none' {a : Nte} : mn none a = a := rfl
theorem mn_assoc {a b c : Nte} : mn (mn a b) c = mn a (mn b c) := by
  rcases a with - | p
  · rfl
  rcases b with - | q
  · rfl
  rcases c with - | r
  · rw [mn_none, mn_none]
  unfold mn
  simp only
  by_cases h1 : q.1 < p.1 ∨ q.1 = p.1 ∧ q.2 < p.2
  · rw [if_pos h1]
    by_cases h2 : r.1 < q.1 ∨ r.1 = q.1 ∧ r.2 < q.2
    · simp only [if_pos h2]
      rw [if_pos (by omega)]
    · simp only [if_neg h2]
      rw [if_pos h1]
  · rw [if_neg h1]
    by_cases h2 : r.1 < q.1 ∨ r.1 = q.1 ∧ r.2 < q.2
    · simp only [if_pos h2]
    · simp only [if_neg h2]
      rw [if_neg h1, if_neg (by omega)]
theorem mn_comm {a b : Nte} : mn a b = mn b a := by
  rcases a with - | ⟨p1, p2⟩
  · rw [mn_none]; rfl
  rcases b with - | ⟨q1, q2⟩
  · rfl
  unfold mn
  simp only
  by_cases h1 : q1 < p1 ∨ q1 = p1 ∧ q2 < p2
  · rw [if_pos h1, if_neg (by omega)]
  · rw [if_neg h1]
    by_cases h2 : p1 < q1 ∨ p1 = q1 ∧ p2 < q2
    · rw [if_pos h2]
    · rw [if_neg h2, show p1 = q1 by omega, show p2 = q2 by omega]
theorem mn_eq_none {a b : Nte} : mn a b = none ↔ a = none ∧ b = none := by
  rcases a with - | p
  · rcases b with - | q
    · exact ⟨fun _ => ⟨rfl, rfl⟩, fun _ => rfl⟩
    · exact ⟨fun h => (by cases h), fun h => (by cases h.2)⟩
  · rcases b with - | q
    · exact ⟨fun h => (by cases h), fun h => (by cases h.1)⟩
    · refine ⟨fun h => ?_, fun h => (by cases h.1)⟩
      unfold mn at h
      simp only at h
      split at h <;> cases h
/-! rings that are written -/
def plT : TT → Int
  | .leaf => 0
  | .inner _ d _ _ _ => d.2.1
def badM (d : ND) : Prop := d.1 = 35 ∧ (d.2.2.1 < 1 ∨ 3 < d.2.2.1)
noncomputable def overO (d : ND) (pc : Int) (i : Option R3) (n : Nte) : Option R3 × Nte :=
  let n0 : Nte := @ite _ (badM d) (Classical.propDecidable _) (some (d.2.2.2, 4)) none
  match i with
  | none => (none, mn n0 n)
  | some x => if x.1 = -2 ∨ x.2.2 ≠ 0 then (none, mn n0 (mn n (some (pc, 4)))) else if d.1 = 34 then (if x.2.1 = 2 then (none, mn n (some (d.2.1, 4))) else (some (x.1, x.2.1 + 1, x.2.2), n)) else @ite _ (badM d) (Classical.propDecidable _) (none, mn n0 n) (some (x.1, x.2.1, d.2.2.1), n)
noncomputable def tyO (R : Option R3) : TT → Option R3 × Nte
  | .leaf => (none, none)
  | .inner _ d _ c _ => if d.1 = 30 then (some (d.2.2.1, 0, 0), none) else if d.1 = 31 then (some (-2, 0, 0), none) else if d.1 = 32 then (match R with
      | none => (none, some (d.2.1, 3))
      | some x => (some x, none)) else if d.1 = 33 then (if d.2.2.1 < 2 ∨ 9973 < d.2.2.1 then (none, some (d.2.2.2, 4)) else (some (d.2.2.1, 0, 0), none)) else overO d (plT c) (tyO R c).1 (tyO R c).2
theorem tyO_ok {R : Option R3} (hR : ∀ x, R = some x → ok3 x) : ∀ (t : TT), wfT t → isTy t → ∀ x, (tyO R t).1 = some x → ok3 x := by
  intro t
  induction t with
  | leaf => intro _ h; exact h.elim
  | inner z d u c s ihc ihs =>
    intro w h x hx
    have hk := h.1
    obtain ⟨w0, wc, -⟩ := w
    unfold tyO at hx
    split at hx
    case isTrue k => cases hx; have := w0.2.2.2.2.2.2.1 k; have := w0.2.1; unfold ok3; simp only; omega
    split at hx
    · cases hx; exact Or.inl ⟨rfl, rfl, rfl⟩
    split at hx
    · rcases R with - | y
      · cases hx
      · exact hR x hx
    split at hx
    · split at hx
      · cases hx
      · cases hx; unfold ok3; simp only; omega
    · have hc : isTy c := by
        rcases w0.2.2.2.2.2.2.2.2 with q | q | q | q
        · exfalso; have := q.1; unfold arT at this; omega
        · exfalso; omega
        · exfalso; omega
        · exact q.2
      unfold overO at hx
      simp only at hx
      split at hx
      · cases hx
      case h_2 y hy =>
        have oy := ihc wc hc y hy
        split at hx
        · cases hx
        · split at hx
          · split at hx
            · cases hx
            · cases hx
              unfold ok3 at oy ⊢
              simp only
              omega
          · split at hx
            · cases hx
            case isFalse hb =>
              cases hx
              unfold badM at hb
              unfold ok3 at oy ⊢
              simp only
              omega
/-! functions that are told: name, parameters, sort of R, the parameters' names, whether R stands in a ring, the ring (from 1 on the parameters', 0 what it answers), the expression -/
abbrev FnR : Type := Int × Int × Int × (Int → Int) × (Int → Int) × (Int → R3) × TT
def instS (f : FnR) (k : Int) (R : Option R3) : Option R3 := if f.2.2.2.2.1 k = 0 then some (f.2.2.2.2.2.1 k) else match R with
  | none => none
  | some r => if (¬ ((f.2.2.2.2.2.1 k).2.1 = 0 ∧ (f.2.2.2.2.2.1 k).2.2 = 0) ∧ r.2.2 ≠ 0) ∨ 2 < r.2.1 + (f.2.2.2.2.2.1 k).2.1 then none else some (r.1, r.2.1 + (f.2.2.2.2.2.1 k).2.1, if (f.2.2.2.2.2.1 k).2.1 = 0 ∧ (f.2.2.2.2.2.1 k).2.2 = 0 then r.2.2 else (f.2.2.2.2.2.1 k).2.2)
