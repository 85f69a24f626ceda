set_option maxRecDepth 100000
/-! code: the specification -/
abbrev Ins : Type := Int × Int × Int
/-- a value goes to a ring, if it isn't there -/
noncomputable def cgTn (x z : R3) : List Ins := @ite _ (x = z) (Classical.propDecidable _) [] [(6, encC x, encC z)]
section CGS
variable (e : JE) (c : TT) (sub : Nat → Int → List Ins)
noncomputable def cgT (z : R3) (k : Nat) (p : Int) : List Ins := sub k p ++ cgTn (rgN e (prT c k)) z
/-- parts, one behind another -/
def cgN (f : Nat → Int → List Ins) : Nat → Nat → Int → List Ins
  | 0, _, _ => []
  | n + 1, k, p => f k p ++ cgN f n (k + 1) (p + ((f k p).length : Int))
noncomputable def cgCall (F : Int → FnR) (d : ND) (p : Int) : List Ins := cgN (fun k => cgT e c sub ((instS (F (clS e d.2.2.2 c).1) ((k : Int) + 1) (clS e d.2.2.2 c).2.1).getD (0, 0, 0)) k) (F (clS e d.2.2.2 c).1).2.1.toNat 0 p ++ [(8, (clS e d.2.2.2 c).1, encO (clS e d.2.2.2 c).2.1)]
noncomputable def cgF2 (d : ND) (p : Int) : List Ins := if d.2.2.1 = 0 ∨ d.2.2.1 = 2 ∨ d.2.2.1 = 3 then cgT e c sub (if d.2.2.1 = 2 then rgN e (prT c 1) else rgN e (d, c)) 1 p else []
noncomputable def cgF1 (d : ND) (p : Int) : List Ins := cgT e c sub (if d.2.2.1 = 0 then rgN e (d, c) else fnA d.2.2.1 (rgN e (prT c 0))) 0 p
noncomputable def cgFun (d : ND) (p : Int) : List Ins := cgF1 e c sub d p ++ (cgF2 e c sub d (p + ((cgF1 e c sub d p).length : Int)) ++ [(28 + d.2.2.1, encC (fnA d.2.2.1 (rgN e (prT c 0))), encC (rgN e (d, c)))])
noncomputable def cgMat (d : ND) (p : Int) : List Ins := cgN (fun k => cgT e c sub ((rgN e (d, c)).1, (rgN e (d, c)).2.1, 0) k) (lenT c) 0 p ++ [(27, encC (rgN e (d, c)), 0)]
/-- two parts with a jump between: the first's code, what stands behind it, the second's -/
noncomputable def cgIf (d : ND) (p : Int) : List Ins :=
  sub 0 p ++ ((11, p + ((sub 0 p).length : Int) + 1 + ((cgT e c sub (rgN e (d, c)) 1 (p + ((sub 0 p).length : Int) + 1)).length : Int) + 1, 0) :: (cgT e c sub (rgN e (d, c)) 1 (p + ((sub 0 p).length : Int) + 1) ++ ((10, p + ((sub 0 p).length : Int) + 1 + ((cgT e c sub (rgN e (d, c)) 1 (p + ((sub 0 p).length : Int) + 1)).length : Int) + 1 + ((cgT e c sub (rgN e (d, c)) 2 (p + ((sub 0 p).length : Int) + 1 + ((cgT e c sub (rgN e (d, c)) 1 (p + ((sub 0 p).length : Int) + 1)).length : Int) + 1)).length : Int), 0) :: cgT e c sub (rgN e (d, c)) 2 (p + ((sub 0 p).length : Int) + 1 + ((cgT e c sub (rgN e (d, c)) 1 (p + ((sub 0 p).length : Int) + 1)).length : Int) + 1))))
noncomputable def cgBool (op p : Int) : List Ins := sub 0 p ++ ((op, p + ((sub 0 p).length : Int) + 1 + ((sub 1 (p + ((sub 0 p).length : Int) + 1)).length : Int), 0) :: sub 1 (p + ((sub 0 p).length : Int) + 1))
noncomputable def cgTwo (d : ND) (p : Int) : List Ins := cgT e c sub (twJ e (d, c)) 0 p ++ (cgT e c sub (if d.1 = 19 then ((twJ e (d, c)).1, 0, 0) else twJ e (d, c)) 1 (p + ((cgT e c sub (twJ e (d, c)) 0 p).length : Int)) ++ [(d.1 + 3, encC (twJ e (d, c)), 0)])
noncomputable def cgK (F : Int → FnR) (fl : Int) (d : ND) (p : Int) : List Ins :=
  if d.1 = 0 then [(1, d.2.2.1, 0)]
  else if d.1 = 1 then [(2, 1, 0)]
  else if d.1 = 2 then [(2, 2, 0)]
  else if d.1 = 3 then [(3, d.2.2.1, encC (rgN e (d, c)))]
  else if d.1 = 4 then [(if fl = 2 then 5 else 4, nmI e d.2.2.2, encC (rgN e (d, c)))]
  else if d.1 = 5 then cgCall e c sub F d p
  else if d.1 = 6 then cgFun e c sub d p
  else if d.1 = 7 then cgMat e c sub d p
  else if d.1 = 8 then cgIf e c sub d p
  else if d.1 = 9 then cgBool sub 12 p
  else if d.1 = 10 then cgBool sub 13 p
  else if d.1 = 11 then sub 0 p ++ [(14, encC (rgN e (d, c)), 0)]
  else if d.1 = 22 then sub 0 p ++ [(25, encC (rgN e (d, c)), 0)]
  else if d.1 = 23 then sub 0 p ++ [(26, encC (rgN e (d, c)), d.2.2.1)]
  else if d.1 = 24 then cgT e c sub (rgN e (d, c)) 0 p
  else if d.1 = 25 then sub 0 p ++ [(7, encC (rgN e (prT c 0)), encC (rgN e (d, c)))]
  else cgTwo e c sub d p
end CGS
/-- the code of a chain's part at an address -/
noncomputable def cgC (F : Int → FnR) (e : JE) (fl : Int) : TT → Nat → Int → List Ins
  | .leaf, _, _ => []
  | .inner _ d _ c _, 0, p => (0, wtS e (d, c), 0) :: cgK e c (cgC F e fl c) F fl d (p + 1)
  | .inner _ _ _ _ s, k + 1, p => cgC F e fl s k p
/-- the code of one part -/
noncomputable def cg (F : Int → FnR) (e : JE) (fl : Int) (a : PT) (p : Int) : List Ins := (0, wtS e a, 0) :: cgK e a.2 (cgC F e fl a.2) F fl a.1 (p + 1)
theorem cgC_at {F : Int → FnR} {e : JE} {fl : Int} : ∀ {t : TT} {k : Nat} {p : Int}, k < lenT t → cgC F e fl t k p = cg F e fl (prT t k) p := by
  intro t
  induction t with
  | leaf => intro k p h; exact absurd h (Nat.not_lt_zero _)
  | inner z d u c s ihc ihs =>
    intro k p h
    cases k with
    | zero => rfl
    | succ k => exact ihs (by have h : k + 1 < lenT s + 1 := h; omega)
/-- code lies in a Code -/
def CoA (m : MM) (cd p : Int) (l : List Ins) : Prop := ∀ (i : Nat) (x : Ins), l[i]? = some x → m (cd + 1) (p + (i : Int)) = x.1 ∧ m (cd + 2) (p + (i : Int)) = x.2.1 ∧ m (cd + 3) (p + (i : Int)) = x.2.2
section COA
variable {m m' : MM} {cd p : Int} {l l2 : List Ins} {x : Ins}
theorem CoA.nil : CoA m cd p [] := fun i x h => by simp at h
theorem CoA.app : CoA m cd p (l ++ l2) ↔ CoA m cd p l ∧ CoA m cd (p + (l.length : Int)) l2 := by
  constructor
  · intro h
    refine ⟨fun i x hx => h i x ?_, fun i x hx => ?_⟩
    · have hl : i < l.length := by
        by_cases c : i < l.length
        · exact c
        · rw [List.getElem?_eq_none (by omega)] at hx; cases hx
      rw [List.getElem?_append_left hl]; exact hx
    · have q := h (l.length + i) x (by rw [List.getElem?_append_right (by omega), show l.length + i - l.length = i by omega]; exact hx)
      rw [show p + ((l.length + i : Nat) : Int) = p + (l.length : Int) + (i : Int) by omega] at q
      exact q
  · rintro ⟨h1, h2⟩ i x hx
    by_cases c : i < l.length
    · rw [List.getElem?_append_left c] at hx
      exact h1 i x hx
    · rw [List.getElem?_append_right (by omega)] at hx
      have q := h2 (i - l.length) x hx
      rw [show p + (l.length : Int) + ((i - l.length : Nat) : Int) = p + (i : Int) by omega] at q
      exact q
theorem CoA.cons : CoA m cd p (x :: l) ↔ (m (cd + 1) p = x.1 ∧ m (cd + 2) p = x.2.1 ∧ m (cd + 3) p = x.2.2) ∧ CoA m cd (p + 1) l := by
  constructor
  · intro h
    refine ⟨by have q := h 0 x (by simp); rw [show p + ((0 : Nat) : Int) = p by omega] at q; exact q, fun i y hy => ?_⟩
    have q := h (i + 1) y (by simp; exact hy)
    rw [show p + ((i + 1 : Nat) : Int) = p + 1 + (i : Int) by omega] at q
    exact q
  · rintro ⟨h1, h2⟩ i y hy
    cases i with
    | zero =>
      simp at hy
      subst hy
      rw [show p + ((0 : Nat) : Int) = p by omega]; exact h1
    | succ i =>
      simp at hy
      have q := h2 i y hy
      rw [show p + 1 + (i : Int) = p + ((i + 1 : Nat) : Int) by omega] at q
      exact q
theorem CoA.fr (h : CoA m cd p l) (f : ∀ c i, (c = cd + 1 ∨ c = cd + 2 ∨ c = cd + 3) → p ≤ i → i < p + (l.length : Int) → m' c i = m c i) : CoA m' cd p l := by
  intro i x hx
  have hl : i < l.length := by
    by_cases c : i < l.length
    · exact c
    · rw [List.getElem?_eq_none (by omega)] at hx; cases hx
  have q := h i x hx
  rw [f _ _ (.inl rfl) (by omega) (by omega), f _ _ (.inr (.inl rfl)) (by omega) (by omega), f _ _ (.inr (.inr rfl)) (by omega) (by omega)]
  exact q
end COA
