set_option maxRecDepth 100000
/-! tokens: the specification -/
abbrev isLt (c : Int) : Prop := (97 ≤ c ∧ c ≤ 122) ∨ (65 ≤ c ∧ c ≤ 90)
abbrev isDg (c : Int) : Prop := 48 ≤ c ∧ c ≤ 57
/-- kind, value (the component's), name, place -/
abbrev TK : Type := Int × Int × Int × Int
def runW (tx : Int → Int) (n : Int) : Nat → Int → Int
  | 0, p => p
  | f + 1, p => if p < n ∧ (isLt (tx p) ∨ isDg (tx p)) then runW tx n f (p + 1) else p
def runD (tx : Int → Int) (n : Int) : Nat → Int → Int
  | 0, p => p
  | f + 1, p => if p < n ∧ isDg (tx p) then runD tx n f (p + 1) else p
def runB (tx : Int → Int) (n : Int) : Nat → Int → Int
  | 0, p => p
  | f + 1, p => if p < n ∧ tx p = 32 then runB tx n f (p + 1) else p
def pkS (tx : Int → Int) : Nat → Int → Int → Int
  | 0, _, a => a
  | l + 1, p, a => pkS tx l (p + 1) (256 * a + tx p)
def nuS (tx : Int → Int) : Nat → Int → Int → Int
  | 0, _, a => a
  | l + 1, p, a => nuS tx l (p + 1) (10 * a + tx p - 48)
/-- the keys' names -/
def kyn (k : Int) : Int := if k = 0 then 26982 else if k = 1 then 1952998766 else if k = 2 then 1701606245 else if k = 3 then 6385252 else if k = 4 then 28530 else if k = 5 then 7237492 else if k = 6 then 7435631 else if k = 7 then 7497069 else if k = 8 then 6713202 else if k = 9 then 1919512167 else if k = 10 then 482854660462 else if k = 11 then 439854918756 else if k = 12 then 88 else if k = 13 then 89 else if k = 14 then 90 else if k = 15 then 81 else if k = 16 then 66 else if k = 17 then 70 else if k = 18 then 80 else if k = 19 then 77 else 82
def keyI (w : Int) : Int := encP (fstI kyn w 21 0)
def fnI (w : Int) : Int := encP (fstI bfn w 14 0)
def wordS (tx : Int → Int) (q e : Int) : TK := if 8 < e - q then (6, 0, 0, q) else ((if 0 ≤ keyI (pkS tx (e - q).toNat q 0) then 3 else if 0 ≤ fnI (pkS tx (e - q).toNat q 0) then 4 else 2), max (keyI (pkS tx (e - q).toNat q 0)) (fnI (pkS tx (e - q).toNat q 0)), pkS tx (e - q).toNat q 0, q)
def numS (tx : Int → Int) (n q e : Int) : TK := ((if 9 < e - q ∨ e < n ∧ isLt (tx e) then 6 else 1), nuS tx (min 9 (e - q)).toNat q 0, 0, q)
def sg2 (c d : Int) : Int := if c = 58 ∧ d = 61 then 128 else if c = 61 ∧ d = 61 then 129 else if c = 58 ∧ d = 58 then 130 else if c = 60 ∧ d = 61 then 131 else -1
def isS (c : Int) : Prop := c = 40 ∨ c = 41 ∨ c = 91 ∨ c = 93 ∨ c = 44 ∨ c = 58 ∨ c = 61 ∨ c = 35 ∨ c = 60 ∨ c = 43 ∨ c = 45 ∨ c = 42 ∨ c = 47 ∨ c = 94 ∨ c = 33 ∨ c = 37
noncomputable def sgnS (c d q : Int) : TK × Int := if sg2 c d = -1 then (((@ite _ (isS c) (Classical.propDecidable _) 5 6), c, 0, q), q + 1) else ((5, sg2 c d, 0, q), q + 2)
/-- the token that begins at a place ahead of the end; where it ends -/
noncomputable def tokS (tx : Int → Int) (n q : Int) : TK × Int := if isLt (tx q) then (wordS tx q (runW tx n (n - q).toNat q), runW tx n (n - q).toNat q) else if isDg (tx q) then (numS tx n q (runD tx n (n - q).toNat q), runD tx n (n - q).toNat q) else sgnS (tx q) (if q + 1 < n then tx (q + 1) else -1) q
/-- tokens, one behind another -/
noncomputable def scanS (tx : Int → Int) (n : Int) : Nat → Int → List TK
  | 0, _ => []
  | f + 1, p => if runB tx n (n - p).toNat p = n then [(0, 0, 0, n)] else if (tokS tx n (runB tx n (n - p).toNat p)).1.1 = 6 then [(tokS tx n (runB tx n (n - p).toNat p)).1] else (tokS tx n (runB tx n (n - p).toNat p)).1 :: scanS tx n f (tokS tx n (runB tx n (n - p).toNat p)).2
theorem runW_bd {tx : Int → Int} {n : Int} : ∀ (f : Nat) (p : Int), p + f ≤ n → p ≤ runW tx n f p ∧ runW tx n f p ≤ p + f := by
  intro f
  induction f with
  | zero => intro p h; show p ≤ p ∧ p ≤ p + (0 : Nat); omega
  | succ f ih =>
    intro p h
    unfold runW
    split
    · have := ih (p + 1) (by omega); omega
    · omega
theorem runD_bd {tx : Int → Int} {n : Int} : ∀ (f : Nat) (p : Int), p + f ≤ n → p ≤ runD tx n f p ∧ runD tx n f p ≤ p + f := by
  intro f
  induction f with
  | zero => intro p h; show p ≤ p ∧ p ≤ p + (0 : Nat); omega
  | succ f ih =>
    intro p h
    unfold runD
    split
    · have := ih (p + 1) (by omega); omega
    · omega
theorem runB_bd {tx : Int → Int} {n : Int} : ∀ (f : Nat) (p : Int), p + f ≤ n → p ≤ runB tx n f p ∧ runB tx n f p ≤ p + f := by
  intro f
  induction f with
  | zero => intro p h; show p ≤ p ∧ p ≤ p + (0 : Nat); omega
  | succ f ih =>
    intro p h
    unfold runB
    split
    · have := ih (p + 1) (by omega); omega
    · omega
/-- a word has a letter -/
theorem runW_lt {tx : Int → Int} {n q : Int} (hq : q < n) (h : isLt (tx q)) : q < runW tx n (n - q).toNat q := by
  rw [show (n - q).toNat = (n - q - 1).toNat + 1 by omega]
  unfold runW
  rw [if_pos ⟨hq, Or.inl h⟩]
  have := runW_bd (tx := tx) (n := n) (n - q - 1).toNat (q + 1) (by omega)
  omega
theorem runD_lt {tx : Int → Int} {n q : Int} (hq : q < n) (h : isDg (tx q)) : q < runD tx n (n - q).toNat q := by
  rw [show (n - q).toNat = (n - q - 1).toNat + 1 by omega]
  unfold runD
  rw [if_pos ⟨hq, h⟩]
  have := runD_bd (tx := tx) (n := n) (n - q - 1).toNat (q + 1) (by omega)
  omega
theorem pkS_bd {tx : Int → Int} (htx : ∀ i, 0 ≤ tx i ∧ tx i ≤ 255) : ∀ (l : Nat) (p a : Int), 0 ≤ a → 0 ≤ pkS tx l p a := by
  intro l
  induction l with
  | zero => intro p a h; exact h
  | succ l ih =>
    intro p a h
    exact ih _ _ (by have := htx p; omega)
theorem nuS_bd {tx : Int → Int} : ∀ (l : Nat) (p a b : Int), (∀ i, p ≤ i → i < p + l → isDg (tx i)) → 0 ≤ a → a < b → 0 ≤ nuS tx l p a ∧ nuS tx l p a < b * 10 ^ l := by
  intro l
  induction l with
  | zero => intro p a b _ h h'; exact ⟨h, by show a < b * 10 ^ 0; omega⟩
  | succ l ih =>
    intro p a b hd h h'
    have d0 := hd p (Int.le_refl _) (by omega)
    have := ih (p + 1) (10 * a + tx p - 48) (10 * b) (fun i i0 i1 => hd i (by omega) (by omega)) (by omega) (by omega)
    refine ⟨this.1, ?_⟩
    show nuS tx l (p + 1) (10 * a + tx p - 48) < b * 10 ^ (l + 1)
    rw [Int.pow_succ]
    have e : 10 * b * 10 ^ l = b * (10 ^ l * 10) := by
      rw [Int.mul_comm 10 b, Int.mul_assoc, Int.mul_comm 10]
    rw [← e]
    exact this.2
theorem lShl8 {x : Int} (h0 : 0 ≤ x) (hx : x * 256 < 9223372036854775808) : lShl x 8 = x * 256 := by
  unfold lShl
  show ((Int64.ofInt x).toBitVec <<< (((Int32.ofInt ((8 : Nat) : Int)).toInt64 &&& 63).toBitVec.smod 64)).toInt = _
  have h2 : ((Int64.ofInt x).toBitVec <<< (((Int32.ofInt ((8 : Nat) : Int)).toInt64 &&& 63).toBitVec.smod 64)).toNat = x.toNat * 2 ^ 8 := by
    rw [BitVec.shiftLeft_eq', BitVec.toNat_shiftLeft, shkL ⟨8, by omega⟩, i64_nat, show (x % 18446744073709551616).toNat = x.toNat by omega, Nat.shiftLeft_eq]
    show x.toNat * 2 ^ 8 % 18446744073709551616 = x.toNat * 2 ^ 8
    exact Nat.mod_eq_of_lt (by omega)
  rw [i64_of_nat h2 (by omega)]
  omega
theorem lOr_pk {a c : Int} (ha : 0 ≤ a ∧ a < 36028797018963968) (hc : 0 ≤ c ∧ c ≤ 255) : lOr (lShl a 8) c = 256 * a + c := by
  rw [lShl8 ha.1 (by omega)]
  unfold lOr
  show ((Int64.ofInt (a * 256)).toBitVec ||| (Int64.ofInt c).toBitVec).toInt = _
  have h2 : ((Int64.ofInt (a * 256)).toBitVec ||| (Int64.ofInt c).toBitVec).toNat = a.toNat * 2 ^ 8 + c.toNat := by
    rw [BitVec.toNat_or, i64_nat, i64_nat, show (c % 18446744073709551616).toNat = c.toNat by omega, show (a * 256 % 18446744073709551616).toNat = a.toNat * 2 ^ 8 by omega, ← Nat.shiftLeft_eq, Nat.shiftLeft_add_eq_or_of_lt (by omega)]
  rw [i64_of_nat h2 (by omega)]
  omega
theorem pkS_snoc {tx : Int → Int} : ∀ (l : Nat) (p a : Int), pkS tx (l + 1) p a = 256 * pkS tx l p a + tx (p + l) := by
  intro l
  induction l with
  | zero => intro p a; show 256 * a + tx p = 256 * a + tx (p + (0 : Nat)); rw [show p + ((0 : Nat) : Int) = p by omega]
  | succ l ih =>
    intro p a
    show pkS tx (l + 1) (p + 1) (256 * a + tx p) = 256 * pkS tx l (p + 1) (256 * a + tx p) + tx (p + ((l + 1 : Nat) : Int))
    rw [ih, show p + 1 + (l : Int) = p + ((l + 1 : Nat) : Int) by omega]
theorem nuS_snoc {tx : Int → Int} : ∀ (l : Nat) (p a : Int), nuS tx (l + 1) p a = 10 * nuS tx l p a + tx (p + l) - 48 := by
  intro l
  induction l with
  | zero => intro p a; show 10 * a + tx p - 48 = 10 * a + tx (p + (0 : Nat)) - 48; rw [show p + ((0 : Nat) : Int) = p by omega]
  | succ l ih =>
    intro p a
    show nuS tx (l + 1) (p + 1) (10 * a + tx p - 48) = 10 * nuS tx l (p + 1) (10 * a + tx p - 48) + tx (p + ((l + 1 : Nat) : Int)) - 48
    rw [ih, show p + 1 + (l : Int) = p + ((l + 1 : Nat) : Int) by omega]
/-- within 8 letters it fits -/
theorem pkS_fit {tx : Int → Int} : ∀ (l : Nat) (p : Int), (∀ i, p ≤ i → i < p + l → 0 ≤ tx i ∧ tx i ≤ 127) → 0 ≤ pkS tx l p 0 ∧ pkS tx l p 0 < 128 * 256 ^ (l - 1) ∨ l = 0 := by
  intro l
  induction l with
  | zero => intro p _; exact Or.inr rfl
  | succ l ih =>
    intro p h
    left
    have h0 := h (p + l) (by omega) (by omega)
    rw [pkS_snoc]
    rcases ih p (fun i i0 i1 => h i i0 (by omega)) with q | q
    · cases l with
      | zero => show 0 ≤ 256 * pkS tx 0 p 0 + tx (p + (0 : Nat)) ∧ 256 * pkS tx 0 p 0 + tx (p + (0 : Nat)) < 128 * 256 ^ 0; have e : pkS tx 0 p 0 = 0 := rfl; rw [e]; omega
      | succ l =>
        have e : (256 : Int) ^ (l + 1 + 1 - 1) = 256 ^ (l + 1 - 1) * 256 := by
          rw [show l + 1 + 1 - 1 = l + 1 by omega, show l + 1 - 1 = l by omega, Int.pow_succ]
        rw [e]
        omega
    · subst q
      have e : pkS tx 0 p 0 = 0 := rfl
      rw [e]
      show 0 ≤ 256 * 0 + tx (p + (0 : Nat)) ∧ 256 * 0 + tx (p + (0 : Nat)) < 128 * 256 ^ 0
      omega
