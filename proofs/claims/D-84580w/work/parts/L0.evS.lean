set_option maxRecDepth 100000
/-! what parts come to: the specification -/
/-- rings of what is spoken of, the number of an F unlike all others, calls that are open, values of names, of results -/
abbrev EVm : Type := JE × Int × Int × (Int → VV) × (Int → VV)
/-- steps, the most calls that were open -/
abbrev ES : Type := Int × Int
abbrev ER : Type := EX VV × ES
/-- the parts of a chain by number -/
def prT : TT → Nat → PT
  | .leaf, _ => acc0
  | .inner _ d _ c _, 0 => (d, c)
  | .inner _ _ _ _ s, k + 1 => prT s k
noncomputable def rgN (e : JE) (a : PT) : R3 := (rgS e a.1 a.2).getD (0, 0, 0)
def wtR (x : R3) : Int := (if x.2.2 = 0 then 1 else x.2.2 * x.2.2) * (if x.2.1 = 0 then 1 else if x.2.1 = 1 then 7 else 49)
/-- how many steps a part is -/
noncomputable def wtS (e : JE) (a : PT) : Int :=
  if a.1.1 = 18 ∨ a.1.1 = 20 ∨ a.1.1 = 21 then wtR (rgN e a)
  else if a.1.1 = 23 then wtR (rgN e a) * max 1 a.1.2.2.1
  else if a.1.1 = 6 then (if a.1.2.2.1 = 0 ∨ a.1.2.2.1 = 3 ∨ a.1.2.2.1 = 8 ∨ a.1.2.2.1 = 9 then wtR (rgN e a) else if a.1.2.2.1 = 5 ∨ a.1.2.2.1 = 10 then wtR (rgN e (prT a.2 0)) else 1)
  else 1
def andE (r : ER) (k : VV → ES → ER) : ER := match r with
  | (.ok V, s) => k V s
  | (.error x, s) => (.error x, s)
/-- so many parts from one on -/
def evN (ev1 : Nat → ES → ER) : Nat → Nat → (Nat → VV) → ES → EX (Nat → VV) × ES
  | 0, _, g, s => (.ok g, s)
  | n + 1, k, g, s => match ev1 k s with
    | (.ok V, s1) => evN ev1 n (k + 1) (fun i => if i = k then V else g i) s1
    | (.error x, s1) => (.error x, s1)
/-- the ring in which a built-in function's first part is taken -/
def fnA (f : Int) (a : R3) : R3 := if f = 9 ∨ 11 < f then frac a else a
noncomputable def fnV (f mo : Int) (a r : R3) (V W : VV) : EX VV :=
  if f = 0 then gcdV (muR r.1 mo) r.2.1 V W
  else if f = 1 then .ok (numV (odG (cof (a.2.1 - 1)) (V 0 0) 7))
  else if f = 2 then .ok (rvv (coS a.2.1 (W 0 0 0).1 (V 0 0)))
  else if f = 3 then atS (muR r.1 mo) r.2.1 r.2.2 (if a.1 = r.1 then 0 else 1) a.2.1 (V 0 0) W
  else if f = 4 then derS (muR a.1 mo) a.2.1 (V 0 0)
  else if f = 5 then okR (detS (muR a.1 mo) a.2.1 a.2.2 V)
  else if f = 6 then okR (trS (muR a.1 mo) a.2.1 a.2.2 V)
  else if f = 7 then .ok (tpV V)
  else if f = 8 then adjS (muR a.1 mo) a.2.1 a.2.2 V
  else if f = 9 then invV (muR a.1 mo) a.2.2 V
  else if f = 10 then charS (muR a.1 mo) a.2.2 V
  else if f = 11 then .ok (numV (rtS (muR a.1 mo) (V 0 0)))
  else .ok (numV (if f = 12 then (V 0 0 0).1 else (V 0 0 0).2))
/-- R as a function's expression knows it; the number of an own F then -/
noncomputable def nrmR (R : Option R3) : Option R3 := match R with
  | none => none
  | some x => if 1 < x.1 ∧ x.1 < 20000 then some ((@ite _ (isPb x.1) (Classical.propDecidable _) 20000 20001), x.2.1, x.2.2) else some x
def ownM (mo : Int) (R : Option R3) : Int := match R with
  | none => 0
  | some x => if 20000 ≤ x.1 then mo else x.1
def rootF (f : FnR) : PT := prT f.2.2.2.2.2.2 0
noncomputable def nmI (e : JE) (w : Int) : Int := match e.1 w with
  | none => 0
  | some x => x.1
noncomputable def clS (e : JE) (w : Int) (c : TT) : Int × Option R3 × R3 := (e.2.2.2.1 w ((jdS e c).1.map (fun o => o.getD (0, 0, 0)))).getD (0, none, (0, 0, 0))
section EVS
variable (F : Int → FnR) (rec : EVm → PT → ES → ER)
/-- a part, taken to a ring -/
noncomputable def evP (E : EVm) (c : TT) (z : R3) (k : Nat) (s : ES) : ER := andE (rec E (prT c k) s) (fun V s1 => (.ok (conv E.2.1 (rgN E.1 (prT c k)) z V), s1))
noncomputable def evCall (E : EVm) (a : PT) (s : ES) : ER :=
  match evN (fun k => evP rec E a.2 ((instS (F (clS E.1 a.1.2.2.2 a.2).1) ((k : Int) + 1) (clS E.1 a.1.2.2.2 a.2).2.1).getD (0, 0, 0)) k) (F (clS E.1 a.1.2.2.2 a.2).1).2.1.toNat 0 (fun _ => zV) s with
  | (.error x, s1) => (.error x, s1)
  | (.ok g, s1) => if E.2.2.1 = 20 then (.error 7, s1) else
    andE (rec (JEf F (clS E.1 a.1.2.2.2 a.2).1 (nrmR (clS E.1 a.1.2.2.2 a.2).2.1), ownM E.2.1 (clS E.1 a.1.2.2.2 a.2).2.1, E.2.2.1 + 1, (fun i => g i.toNat), E.2.2.2.2) (rootF (F (clS E.1 a.1.2.2.2 a.2).1)) (s1.1, max s1.2 (E.2.2.1 + 1)))
      (fun V s2 => (.ok (conv (ownM E.2.1 (clS E.1 a.1.2.2.2 a.2).2.1) (rgN (JEf F (clS E.1 a.1.2.2.2 a.2).1 (nrmR (clS E.1 a.1.2.2.2 a.2).2.1)) (rootF (F (clS E.1 a.1.2.2.2 a.2).1))) ((instS (F (clS E.1 a.1.2.2.2 a.2).1) 0 (nrmR (clS E.1 a.1.2.2.2 a.2).2.1)).getD (0, 0, 0)) V), s2))
noncomputable def evFun (E : EVm) (a : PT) (s : ES) : ER :=
  andE (evP rec E a.2 (if a.1.2.2.1 = 0 then rgN E.1 a else fnA a.1.2.2.1 (rgN E.1 (prT a.2 0))) 0 s) (fun V s1 =>
    if a.1.2.2.1 = 0 ∨ a.1.2.2.1 = 2 ∨ a.1.2.2.1 = 3 then andE (evP rec E a.2 (if a.1.2.2.1 = 2 then rgN E.1 (prT a.2 1) else rgN E.1 a) 1 s1) (fun W s2 => (fnV a.1.2.2.1 E.2.1 (fnA a.1.2.2.1 (rgN E.1 (prT a.2 0))) (rgN E.1 a) V W, s2))
    else (fnV a.1.2.2.1 E.2.1 (fnA a.1.2.2.1 (rgN E.1 (prT a.2 0))) (rgN E.1 a) V V, s1))
noncomputable def evMat (E : EVm) (a : PT) (s : ES) : ER :=
  match evN (fun k => evP rec E a.2 ((rgN E.1 a).1, (rgN E.1 a).2.1, 0) k) (lenT a.2) 0 (fun _ => zV) s with
  | (.error x, s1) => (.error x, s1)
  | (.ok g, s1) => (.ok (matV (rgN E.1 a).2.2 g), s1)
noncomputable def twJ (e : JE) (a : PT) : R3 := if a.1.1 = 19 then rgN e a else (jn (rgN e (prT a.2 0)) (rgN e (prT a.2 1))).getD (0, 0, 0)
noncomputable def evTwo (E : EVm) (a : PT) (s : ES) : ER :=
  andE (evP rec E a.2 (twJ E.1 a) 0 s) (fun V s1 => andE (evP rec E a.2 (if a.1.1 = 19 then ((twJ E.1 a).1, 0, 0) else twJ E.1 a) 1 s1) (fun W s2 => (binS (a.1.1 + 3) (muR (twJ E.1 a).1 E.2.1) (twJ E.1 a).2.1 (twJ E.1 a).2.2 V W, s2)))
/-- a part, its steps told -/
noncomputable def evK (E : EVm) (a : PT) (s : ES) : ER :=
  if a.1.1 = 0 then (.ok (numV a.1.2.2.1), s)
  else if a.1.1 = 1 then (.ok (rvv (unkR 1)), s)
  else if a.1.1 = 2 then (.ok (rvv (unkR 7)), s)
  else if a.1.1 = 3 then (.ok (E.2.2.2.2 a.1.2.2.1), s)
  else if a.1.1 = 4 then (.ok (E.2.2.2.1 (nmI E.1 a.1.2.2.2)), s)
  else if a.1.1 = 5 then evCall F rec E a s
  else if a.1.1 = 6 then evFun rec E a s
  else if a.1.1 = 7 then evMat rec E a s
  else if a.1.1 = 8 then andE (rec E (prT a.2 0) s) (fun V s1 => if (V 0 0 0).1 = 0 then evP rec E a.2 (rgN E.1 a) 2 s1 else evP rec E a.2 (rgN E.1 a) 1 s1)
  else if a.1.1 = 9 then andE (rec E (prT a.2 0) s) (fun V s1 => if (V 0 0 0).1 = 1 then (.ok V, s1) else rec E (prT a.2 1) s1)
  else if a.1.1 = 10 then andE (rec E (prT a.2 0) s) (fun V s1 => if (V 0 0 0).1 = 0 then (.ok V, s1) else rec E (prT a.2 1) s1)
  else if a.1.1 = 11 then andE (rec E (prT a.2 0) s) (fun V s1 => (.ok (numV (1 - (V 0 0 0).1)), s1))
  else if a.1.1 = 22 then andE (rec E (prT a.2 0) s) (fun V s1 => (.ok (negV (muR (rgN E.1 a).1 E.2.1) V), s1))
  else if a.1.1 = 23 then andE (rec E (prT a.2 0) s) (fun V s1 => (powS (muR (rgN E.1 a).1 E.2.1) (rgN E.1 a).2.1 (rgN E.1 a).2.2 a.1.2.2.1 V, s1))
  else if a.1.1 = 24 then evP rec E a.2 (rgN E.1 a) 0 s
  else if a.1.1 = 25 then andE (rec E (prT a.2 0) s) (fun V s1 => (backS (if (rgN E.1 (prT a.2 0)).1 = (rgN E.1 a).1 then 0 else 1) (muR (rgN E.1 (prT a.2 0)).1 E.2.1) (rgN E.1 a).2.1 (rgN E.1 (prT a.2 0)).2.2 (rgN E.1 a).2.2 V, s1))
  else evTwo rec E a s
end EVS
noncomputable def ev (F : Int → FnR) : Nat → EVm → PT → ES → ER
  | 0, _, _, s => (.error 99, s)
  | n + 1, E, a, s => if 20000 < s.1 + wtS E.1 a then (.error 6, (20000, s.2)) else evK F (ev F n) E a (s.1 + wtS E.1 a, s.2)
