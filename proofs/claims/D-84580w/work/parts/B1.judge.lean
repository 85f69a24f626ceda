set_option maxRecDepth 100000
/-! whom a call means -/
/-- whether R can be that -/
def canS (f : FnR) (r : R3) : Prop := r.1 ≠ -2 ∧ ¬ (f.2.2.1 = 2 ∧ r.2.2 ≠ 0) ∧ ¬ (f.2.2.1 = 3 ∧ (r.2.1 ≠ 0 ∨ r.2.2 ≠ 0 ∨ ¬ isFb r.1)) ∧ ∀ k, 0 ≤ k → k ≤ f.2.1 → instS f k (some r) ≠ none
def askS (f : FnR) (k : Int) (a : R3) : R3 := (a.1, max 0 (a.2.1 - (f.2.2.2.2.2.1 k).2.1), if (f.2.2.2.2.2.1 k).2.1 = 0 ∧ (f.2.2.2.2.2.1 k).2.2 = 0 then a.2.2 else 0)
def fndS (f : FnR) : Int → Option R3 → List R3 → Option R3
  | _, acc, [] => acc
  | k, acc, a :: l => if f.2.2.2.2.1 k = 0 then fndS f (k + 1) acc l else if a.1 = -2 then none else match acc with
      | none => fndS f (k + 1) (some (askS f k a)) l
      | some r => match jn r (askS f k a) with
        | none => none
        | some j => fndS f (k + 1) (some j) l
def fldQ (f : FnR) (r : R3) : R3 := if f.2.2.1 = 3 ∧ r = (0, 0, 0) then (1, 0, 0) else r
noncomputable def foundS (f : FnR) (l : List R3) : Option R3 := match fndS f 1 none l with
  | none => none
  | some r => @ite _ (canS f (fldQ f r)) (Classical.propDecidable _) (some (fldQ f r)) none
def prcS (f : FnR) (R : Option R3) : Int → Int → List R3 → Option Int
  | _, acc, [] => some acc
  | k, acc, a :: l => match instS f k R with
    | none => none
    | some z => if jn a z = some z then prcS f R (k + 1) (acc + price3 a z) l else none
/-- what a function costs, with which R -/
noncomputable def candS (f : FnR) (l : List R3) : Option (Int × Option R3) := if f.2.1 ≠ (l.length : Int) then none else if f.2.2.1 = 0 then (match prcS f none 1 0 l with
    | none => none
    | some p => some (p, none)) else match foundS f l with
    | none => none
    | some r => match prcS f (some r) 1 0 l with
      | none => none
      | some p => some (p, some r)
def bettS (F : Int → FnR) (n : Int) (b : Option (Int × Int × Option R3)) (c : Option (Int × Option R3)) : Option (Int × Int × Option R3) := match c with
  | none => b
  | some (p, r) => match b with
    | none => some (n, p, r)
    | some (k, q, r') => if p < q ∨ p = q ∧ (F k).2.2.1 ≠ 0 ∧ (F n).2.2.1 = 0 then some (n, p, r) else some (k, q, r')
noncomputable def bestS (F : Int → FnR) (w : Int) (l : List R3) : Nat → Option (Int × Int × Option R3)
  | 0 => none
  | n + 1 => if (F n).1 = w then bettS F n (bestS F w l n) (candS (F n) l) else bestS F w l n
/-! rings of parts -/
/-- what a part can speak of: names, results, which names are called, whom they mean, R -/
abbrev JE : Type := (Int → Option (Int × R3)) × (Int → Option R3) × (Int → Prop) × (Int → List R3 → Option (Int × Option R3 × R3)) × Option R3
/-- Z, or polynomials in X over a field -/
def dvds (j : R3) : Prop := j = (0, 0, 0) ∨ j.1 ≠ -2 ∧ j.2.2 = 0 ∧ j.2.1 = 1 ∧ isFb j.1
noncomputable def fn2S (f : Int) (a b : R3) : Option R3 :=
  if f = 0 then (match jn a b with
    | none => none
    | some j => @ite _ (dvds j) (Classical.propDecidable _) (some j) none)
  else if a.1 = -2 ∨ a.2.2 ≠ 0 ∨ a.2.1 = 0 then none
  else if f = 2 then (if b = (0, 0, 0) then some (a.1, a.2.1 - 1, 0) else none)
  else if b.1 = -2 then none else jn (a.1, a.2.1 - 1, 0) b
noncomputable def fn1S (f : Int) (a : R3) : Option R3 :=
  if a.1 = -2 then none
  else if f = 1 then (if a.2.2 = 0 ∧ a.2.1 ≠ 0 then some (0, 0, 0) else none)
  else if f = 4 then (if a.2.2 = 0 ∧ a.2.1 ≠ 0 then some a else none)
  else if f = 5 ∨ f = 6 then (if a.2.2 ≠ 0 then some (a.1, a.2.1, 0) else none)
  else if f = 7 ∨ f = 8 then (if a.2.2 ≠ 0 then some a else none)
  else if f = 9 then @ite _ (a.2.1 = 0 ∧ (a.1 = 0 ∨ isFb a.1)) (Classical.propDecidable _) (some (frac a)) none
  else if f = 10 then (if a.2.2 ≠ 0 ∧ a.2.1 = 0 then some (a.1, 1, 0) else none)
  else if f = 11 then @ite _ (a.2.2 = 0 ∧ a.2.1 = 1 ∧ 1 < a.1 ∧ isPb a.1) (Classical.propDecidable _) (some (0, 0, 0)) none
  else if a = (0, 0, 0) ∨ a = (1, 0, 0) then some (0, 0, 0) else none
noncomputable def fnS (f : Int) (rc : List R3) : Option R3 := match rc with
  | [a] => if f = 0 ∨ f = 2 ∨ f = 3 then none else fn1S f a
  | [a, b] => if f = 0 ∨ f = 2 ∨ f = 3 then fn2S f a b else none
  | _ => none
def jnL : R3 → List R3 → Option R3
  | j, [] => some j
  | j, a :: l => match jn j a with
    | none => none
    | some k => jnL k l
def mxS (v : Int) (rc : List R3) : Option R3 := match rc with
  | [] => none
  | a :: l => match jnL a l with
    | none => none
    | some j => if 0 < v ∧ j.1 ≠ -2 ∧ j.2.2 = 0 then some (j.1, j.2.1, v) else none
noncomputable def twoS (k : Int) (a b : R3) : Option R3 := match jn a b with
  | none => none
  | some j => if k = 9 ∨ k = 10 then (if a.1 = -2 ∧ b.1 = -2 then some (-2, 0, 0) else none)
    else if k = 12 ∨ k = 13 then some (-2, 0, 0)
    else if k = 14 ∨ k = 15 then (if j = (0, 0, 0) ∨ j = (1, 0, 0) then some (-2, 0, 0) else none)
    else if k = 19 then @ite _ (j.1 ≠ -2 ∧ b.2.1 = 0 ∧ b.2.2 = 0 ∧ (j.1 = 0 ∨ isFb j.1)) (Classical.propDecidable _) (some (frac j)) none
    else if k = 20 ∨ k = 21 then @ite _ (dvds j) (Classical.propDecidable _) (some j) none
    else if j.1 = -2 then none else some j
noncomputable def ownS (e : JE) (d : ND) (rc : List R3) : Option R3 :=
  if d.1 = 0 then some (0, 0, 0) else if d.1 = 1 then some (0, 1, 0) else if d.1 = 2 then some (0, 2, 0)
  else if d.1 = 3 then e.2.1 d.2.2.1
  else if d.1 = 4 then (match e.1 d.2.2.2 with
    | none => none
    | some x => some x.2)
  else if d.1 = 5 then (match e.2.2.2.1 d.2.2.2 rc with
    | none => none
    | some x => some x.2.2)
  else if d.1 = 6 then fnS d.2.2.1 rc
  else if d.1 = 7 then mxS d.2.2.1 rc
  else match rc with
    | [a] => if d.1 = 11 then (if a.1 = -2 then some (-2, 0, 0) else none) else if d.1 = 22 then (if a.1 = -2 then none else some a) else (if a.1 ≠ -2 ∧ d.2.2.1 ≤ 12 then some a else none)
    | [a, b] => if d.1 = 24 then (if jn a b = some b then some b else none) else if d.1 = 25 then (if jn b a = some a then some b else none) else twoS d.1 a b
    | [a, b, c] => if a.1 = -2 then jn b c else none
    | _ => none
def allS : List (Option R3) → Option (List R3)
  | [] => some []
  | none :: _ => none
  | some a :: l => match allS l with
    | none => none
    | some r => some (a :: r)
noncomputable def nodeS (e : JE) (d : ND) (c : TT) (J : List (Option R3) × Nte) : Option R3 × Nte :=
  if 30 ≤ d.1 then tyO e.2.2.2.2 (nd d c lf)
  else @ite _ (d.1 = 5 ∧ ¬ e.2.2.1 d.2.2.2) (Classical.propDecidable _) (none, mn J.2 (some (d.2.1, 3)))
    (match allS J.1 with
    | none => (none, J.2)
    | some rc => match ownS e d rc with
      | some r => (some r, J.2)
      | none => (none, mn J.2 (some (d.2.1, if d.1 = 3 ∨ d.1 = 4 then 3 else 4))))
noncomputable def jdS (e : JE) : TT → List (Option R3) × Nte
  | .leaf => ([], none)
  | .inner _ d _ c s => ((nodeS e d c (jdS e c)).1 :: (jdS e s).1, mn (nodeS e d c (jdS e c)).2 (jdS e s).2)
/-- the ring of one part -/
noncomputable def rgS (e : JE) (d : ND) (c : TT) : Option R3 := (nodeS e d c (jdS e c)).1
noncomputable def ntS (e : JE) (d : ND) (c : TT) : Nte := (nodeS e d c (jdS e c)).2
