set_option maxRecDepth 100000
/-! the parser: the specification (over tokens by their number) -/
/-- a tree of one root: its node, the chain of its parts -/
abbrev PT : Type := ND × TT
/-- a fault and its place, or rows of trees and the next token's number -/
abbrev RS : Type := Except (Int × Int) (List (List PT) × Int)
def chT : List PT → TT
  | [] => lf
  | p :: ps => nd p.1 p.2 (chT ps)
section PARS
variable (tk : Int → TK)
abbrev kdS (p : Int) : Int := (tk p).1
abbrev vlS (p : Int) : Int := (tk p).2.1
abbrev nmS' (p : Int) : Int := (tk p).2.2.1
abbrev plS (p : Int) : Int := (tk p).2.2.2
abbrev isSg (c p : Int) : Prop := kdS tk p = 5 ∧ vlS tk p = c
abbrev isKy (c p : Int) : Prop := kdS tk p = 3 ∧ vlS tk p = c
def goS (p : Int) : Except (Int × Int) Int := if 150 ≤ p then .error (2, plS tk p) else .ok (p + 1)
def opS (p o : Int) : Except (Int × Int) Int := if o = 12 ∧ p < 150 then .error (2, plS tk p) else goS tk p
def ndS (c p : Int) : Except (Int × Int) Int := if isSg tk c p then goS tk p else .error (1, plS tk p)
def nkS (c p : Int) : Except (Int × Int) Int := if isKy tk c p then goS tk p else .error (1, plS tk p)
def noS (c p o : Int) : Except (Int × Int) Int := if isSg tk c p then opS tk p o else .error (1, plS tk p)
def kdE (k p : Int) : Except (Int × Int) Unit := if kdS tk p = k then .ok () else .error (1, plS tk p)
def fstP : List (List PT) → PT
  | (p :: _) :: _ => p
  | _ => ((0, 0, 0, 0), lf)
def fstR : List (List PT) → List PT
  | r :: _ => r
  | _ => []
/-- a ring that is written -/
def pT : Nat → Int → Int → Except (Int × Int) (PT × Int)
  | 0, _, _ => .error (0, 0)
  | f + 1, p, o =>
    if kdS tk p ≠ 3 then .error (1, plS tk p)
    else if vlS tk p = 14 ∨ vlS tk p = 15 ∨ vlS tk p = 16 ∨ vlS tk p = 20 then do
      let q ← goS tk p
      pure ((((if vlS tk p = 16 then 31 else if vlS tk p = 20 then 32 else 30), plS tk p, (if vlS tk p = 15 then 1 else 0), 0), lf), q)
    else if ¬ (vlS tk p = 17 ∨ vlS tk p = 18 ∨ vlS tk p = 19) then .error (1, plS tk p)
    else do
      let q ← goS tk p
      let q1 ← noS tk 40 q o
      if vlS tk p = 17 then do
        kdE tk 1 q1
        let q2 ← goS tk q1
        let q3 ← ndS tk 41 q2
        pure (((33, plS tk p, vlS tk q1, plS tk q1), lf), q3)
      else if vlS tk p = 18 then do
        let (a, q2) ← pT f q1 (o + 1)
        let q3 ← ndS tk 41 q2
        pure (((34, plS tk p, 0, 0), chT [a]), q3)
      else do
        kdE tk 1 q1
        let q2 ← goS tk q1
        let q3 ← ndS tk 44 q2
        let (a, q4) ← pT f q3 (o + 1)
        let q5 ← ndS tk 41 q4
        pure (((35, plS tk p, vlS tk q1, plS tk q1), chT [a]), q5)
variable (rec : Nat → PT → Int → Int → RS)
def oneR (a : PT) (p : Int) : RS := .ok ([[a]], p)
abbrev acc0 : PT := ((0, 0, 0, 0), lf)
/-- 0: if, or a disjunction -/
def bExp (p o : Int) : RS :=
  if ¬ isKy tk 0 p then rec 1 acc0 p o
  else do
    let q ← opS tk p o
    let (a, q1) ← rec 0 acc0 q (o + 1)
    let q2 ← nkS tk 1 q1
    let (b, q3) ← rec 0 acc0 q2 (o + 1)
    let q4 ← nkS tk 2 q3
    let (c, q5) ← rec 0 acc0 q4 (o + 1)
    oneR ((8, plS tk p, 0, 0), chT [fstP a, fstP b, fstP c]) q5
/-- a level of two: the level below, then its loop -/
def bLev (lo lp : Nat) (p o : Int) : RS := do
  let (a, q) ← rec lo acc0 p o
  rec lp (fstP a) q o
/-- a loop: by a kind (-1 ends it) -/
def bLoop (k : Int) (lo lp : Nat) (a : PT) (p o : Int) : RS :=
  if k = -1 then oneR a p
  else do
    let q ← goS tk p
    let (b, q1) ← rec lo acc0 q o
    rec lp ((k, plS tk p, 0, 0), chT [a, fstP b]) q1 o
/-- something ahead: not, minus -/
def bAhead (is : Prop) [Decidable is] (k : Int) (me lo : Nat) (p o : Int) : RS :=
  if ¬ is then rec lo acc0 p o
  else do
    let q ← opS tk p o
    let (a, q1) ← rec me acc0 q (o + 1)
    oneR ((k, plS tk p, 0, 0), chT [fstP a]) q1
def rlK (p : Int) : Int := if isSg tk 61 p then 12 else if isSg tk 35 p then 13 else if isSg tk 60 p then 14 else if isSg tk 131 p then 15 else -1
def bRel (p o : Int) : RS := do
  let (a, q) ← rec 5 acc0 p o
  if rlK tk q = -1 then oneR (fstP a) q
  else do
    let q1 ← goS tk q
    let (b, q2) ← rec 5 acc0 q1 o
    oneR ((rlK tk q, plS tk q, 0, 0), chT [fstP a, fstP b]) q2
def smK (p : Int) : Int := if isSg tk 43 p then 16 else if isSg tk 45 p then 17 else -1
def prK (p : Int) : Int := if isSg tk 42 p then 18 else if isSg tk 47 p then 19 else if isKy tk 6 p then 20 else if isKy tk 7 p then 21 else -1
/-- what stands behind: powers, conversions -/
def bBehind (a : PT) (p o : Int) : RS :=
  if isSg tk 94 p then do
    let q ← goS tk p
    kdE tk 1 q
    let q1 ← goS tk q
    rec 18 ((23, plS tk p, vlS tk q, 0), chT [a]) q1 o
  else if isSg tk 130 p ∨ isSg tk 33 p then do
    let q ← goS tk p
    let (b, q1) ← pT tk 16 q o
    rec 18 ((if isSg tk 33 p then 25 else 24, plS tk p, 0, 0), chT [a, b]) q1 o
  else oneR a p
def rowsN (rs : List (List PT)) : Int := if (∀ r, r ∈ rs → r.length = rs.length) ∧ rs.length ≤ 3 then (rs.length : Int) else 0
def bAtom (p o : Int) : RS :=
  if kdS tk p = 1 then do
    let q ← goS tk p
    oneR ((0, plS tk p, vlS tk p, 0), lf) q
  else if kdS tk p = 2 then do
    let q ← goS tk p
    if isSg tk 40 q then do
      let q1 ← opS tk q o
      let (r, q2) ← rec 20 acc0 q1 (o + 1)
      let q3 ← ndS tk 41 q2
      oneR ((5, plS tk p, 0, nmS' tk p), chT (fstR r)) q3
    else oneR ((4, plS tk p, 0, nmS' tk p), lf) q
  else if kdS tk p = 4 then do
    let q ← goS tk p
    let q1 ← noS tk 40 q o
    let (r, q2) ← rec 20 acc0 q1 (o + 1)
    let q3 ← ndS tk 41 q2
    oneR ((6, plS tk p, vlS tk p, 0), chT (fstR r)) q3
  else if kdS tk p = 3 then
    if vlS tk p = 12 ∨ vlS tk p = 13 then do
      let q ← goS tk p
      oneR ((if vlS tk p = 12 then 1 else 2, plS tk p, 0, 0), lf) q
    else .error (1, plS tk p)
  else if isSg tk 40 p then do
    let q ← opS tk p o
    let (r, q1) ← rec 0 acc0 q (o + 1)
    let q2 ← ndS tk 41 q1
    oneR (fstP r) q2
  else if isSg tk 91 p then do
    let q ← opS tk p o
    let (rs, q1) ← rec 22 acc0 q (o + 1)
    let q2 ← ndS tk 93 q1
    oneR ((7, plS tk p, rowsN rs, 0), chT rs.flatten) q2
  else if isSg tk 37 p then do
    let q ← goS tk p
    kdE tk 1 q
    let q1 ← goS tk q
    oneR ((3, plS tk p, vlS tk q, 0), lf) q1
  else .error (1, plS tk p)
/-- 20: expressions with commas between -/
def bList (p o : Int) : RS := do
  let (a, q) ← rec 0 acc0 p o
  if isSg tk 44 q then do
    let q1 ← goS tk q
    let (r, q2) ← rec 20 acc0 q1 o
    .ok ([fstP a :: fstR r], q2)
  else oneR (fstP a) q
/-- 22: rows with commas between -/
def bRows (p o : Int) : RS := do
  let q ← noS tk 91 p o
  let (r, q1) ← rec 20 acc0 q (o + 1)
  let q2 ← ndS tk 93 q1
  if isSg tk 44 q2 then do
    let q3 ← goS tk q2
    let (rs, q4) ← rec 22 acc0 q3 o
    .ok (fstR r :: rs, q4)
  else .ok ([fstR r], q2)
end PARS
def pS (tk : Int → TK) : Nat → Nat → PT → Int → Int → RS
  | 0, _, _, _, _ => .error (0, 0)
  | f + 1, 0, _, p, o => bExp tk (pS tk f) p o
  | f + 1, 1, _, p, o => bLev (pS tk f) 2 11 p o
  | f + 1, 11, a, p, o => bLoop tk (pS tk f) (if isKy tk 4 p then 9 else -1) 2 11 a p o
  | f + 1, 2, _, p, o => bLev (pS tk f) 3 12 p o
  | f + 1, 12, a, p, o => bLoop tk (pS tk f) (if isKy tk 3 p then 10 else -1) 3 12 a p o
  | f + 1, 3, _, p, o => bAhead tk (pS tk f) (isKy tk 5 p) 11 3 4 p o
  | f + 1, 4, _, p, o => bRel tk (pS tk f) p o
  | f + 1, 5, _, p, o => bLev (pS tk f) 6 15 p o
  | f + 1, 15, a, p, o => bLoop tk (pS tk f) (smK tk p) 6 15 a p o
  | f + 1, 6, _, p, o => bLev (pS tk f) 7 16 p o
  | f + 1, 16, a, p, o => bLoop tk (pS tk f) (prK tk p) 7 16 a p o
  | f + 1, 7, _, p, o => bAhead tk (pS tk f) (isSg tk 45 p) 22 7 8 p o
  | f + 1, 8, _, p, o => bLev (pS tk f) 9 18 p o
  | f + 1, 18, a, p, o => bBehind tk (pS tk f) a p o
  | f + 1, 9, _, p, o => bAtom tk (pS tk f) p o
  | f + 1, 20, _, p, o => bList tk (pS tk f) p o
  | f + 1, 22, _, p, o => bRows tk (pS tk f) p o
  | _ + 1, _, _, _, _ => .error (0, 0)
