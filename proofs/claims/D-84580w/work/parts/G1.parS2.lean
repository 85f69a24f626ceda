set_option maxRecDepth 100000
/-! the parser: the specification of a line -/
section PARS2
variable (tk : Int → TK)
/-- parameters: name, place, ring -/
def pPar : Nat → Int → Int → Except (Int × Int) (List (Int × Int × PT) × Int)
  | 0, _, _ => .error (0, 0)
  | f + 1, p, c => do
    kdE tk 2 p
    if c = 3 then .error (2, plS tk p)
    else do
      let q ← goS tk p
      let q1 ← ndS tk 58 q
      let (a, q2) ← pT tk 16 q1 1
      if isSg tk 44 q2 then do
        let q3 ← goS tk q2
        let (r, q4) ← pPar f q3 (c + 1)
        .ok ((nmS' tk p, plS tk p, a) :: r, q4)
      else .ok ([(nmS' tk p, plS tk p, a)], q2)
/-- for: the sort of R, its place, what follows -/
def pFor (p : Int) : Except (Int × Int) (Int × Int × Int) :=
  if isKy tk 8 p then do
    let q ← goS tk p
    if isKy tk 9 q ∨ isKy tk 10 q ∨ isKy tk 11 q then do
      let q1 ← goS tk q
      .ok (1 + vlS tk q - 9, plS tk p, q1)
    else .error (1, plS tk q)
  else .ok (0, -1, p)
def pEx (p : Int) : Except (Int × Int) (PT × Int) := do
  let (r, q) ← pS tk 4000 0 acc0 p 0
  .ok (fstP r, q)
def parD (ps : List (Int × Int × PT)) (k : Int) : Int × Int × PT := ps.getD (k - 1).toNat (0, 0, acc0)
def pTold : Except (Int × Int) (DFN × Int) := do
  let q ← goS tk 0
  let q1 ← opS tk q 0
  let (ps, q2) ← pPar tk 5 q1 0
  let q3 ← ndS tk 41 q2
  let q4 ← ndS tk 58 q3
  let (a, q5) ← pT tk 16 q4 0
  let (ru, fp, q6) ← pFor tk q5
  let q7 ← ndS tk 129 q6
  let (e, q8) ← pEx tk q7
  .ok ((nmS' tk 0, plS tk 0, (ps.length : Int), ru, fp, plS tk q7, (fun k => (parD ps k).1), (fun k => (parD ps k).2.1), (fun k => if k = 0 then chT [a] else chT [(parD ps k).2.2]), e.1, e.2), q8)
/-- an expression (sort, name, its tree) or a function -/
abbrev LnR : Type := Sum (Int × Int × PT) DFN
def pEnd (r : LnR) (p : Int) : Except (Int × Int) LnR := if kdS tk p = 0 then .ok r else .error (1, plS tk p)
def pLine : Except (Int × Int) LnR :=
  if kdS tk 0 = 2 ∧ isSg tk 40 1 ∧ kdS tk 2 = 2 ∧ isSg tk 58 3 then do
    let (d, q) ← pTold tk
    pEnd tk (.inr d) q
  else if kdS tk 0 = 2 ∧ isSg tk 128 1 then do
    let q ← goS tk 0
    let q1 ← goS tk q
    let (e, q2) ← pEx tk q1
    pEnd tk (.inl (1, nmS' tk 0, e)) q2
  else do
    let (e, q) ← pEx tk 0
    pEnd tk (.inl (0, 0, e)) q
end PARS2
/-- the tokens of a line by their number; behind the last: wrong ones -/
def tkL (ts : List TK) (i : Int) : TK := if i < 0 then (6, 0, 0, 0) else ts.getD i.toNat (6, 0, 0, 0)
