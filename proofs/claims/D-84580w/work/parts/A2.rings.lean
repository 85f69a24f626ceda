set_option maxRecDepth 100000
/-! rings: as triples of base (those of the component), depth, size; -2 is B -/
abbrev R3 : Type := Int × Int × Int
/-- a base: Z, Q, F's number, or an F unlike all others -/
abbrev okb (b : Int) : Prop := 0 ≤ b ∧ (b ≤ 9973 ∨ b = 20000 ∨ b = 20001)
def ok3 (x : R3) : Prop := (x.1 = -2 ∧ x.2.1 = 0 ∧ x.2.2 = 0) ∨ (okb x.1 ∧ (0 ≤ x.2.1 ∧ x.2.1 ≤ 2) ∧ (0 ≤ x.2.2 ∧ x.2.2 ≤ 3))
def encC (x : R3) : Int := if x.1 = -2 then -2 else 16 * x.1 + 4 * x.2.1 + x.2.2
def bM (b : Int) : Int := if b = 20000 then 10007 else if b = 20001 then 10000 else b
theorem encC_RG {x : R3} (h : ok3 x) (hb : x.1 ≠ -2) : RG (encC x) x.1 x.2.1 x.2.2 := by
  rcases h with h | h
  · exact absurd h.1 hb
  · refine ⟨by unfold encC; rw [if_neg hb], by omega, h.2.1, h.2.2⟩
theorem encC_RB {x : R3} (h : ok3 x) : RB (encC x) x.2.1 x.2.2 := by
  by_cases hb : x.1 = -2
  · rcases h with h | h
    · exact Or.inr ⟨by unfold encC; rw [if_pos hb], h.2.1, h.2.2⟩
    · omega
  · exact Or.inl ⟨x.1, encC_RG h hb⟩
theorem encC_inj {x y : R3} (hx : ok3 x) (hy : ok3 y) (h : encC x = encC y) : x = y := by
  obtain ⟨b, d, s⟩ := x
  obtain ⟨b', d', s'⟩ := y
  unfold encC at h
  unfold ok3 at hx hy
  simp only at h hx hy
  have : b = b' ∧ d = d' ∧ s = s' := by
    by_cases c1 : b = -2
    · rw [if_pos c1] at h
      by_cases c2 : b' = -2
      · omega
      · rw [if_neg c2] at h; omega
    · rw [if_neg c1] at h
      by_cases c2 : b' = -2
      · rw [if_pos c2] at h; omega
      · rw [if_neg c2] at h; omega
  rw [this.1, this.2.1, this.2.2]
theorem encC_bd {x : R3} (h : ok3 x) : RI (encC x) ∧ (x.1 = -2 → encC x = -2) ∧ (x.1 ≠ -2 → 0 ≤ encC x) := by
  unfold encC
  unfold ok3 at h
  refine ⟨?_, fun z => by rw [if_pos z], fun z => by rw [if_neg z]; omega⟩
  split <;> constructor <;> omega
/-- the least ring to which both go -/
def jn (x y : R3) : Option R3 := if x = y then some x else if x.1 = -2 ∨ y.1 = -2 then none else if (x.1 = y.1 ∨ x.1 = 0 ∨ y.1 = 0) ∧ (x.2.2 = y.2.2 ∨ x.2.2 = 0 ∨ y.2.2 = 0) then some (if x.1 = 0 then y.1 else x.1, max x.2.1 y.2.1, max x.2.2 y.2.2) else none
def encO (o : Option R3) : Int := match o with
  | none => -1
  | some x => encC x
theorem jn_ok {x y z : R3} (hx : ok3 x) (hy : ok3 y) (h : jn x y = some z) : ok3 z := by
  unfold jn at h
  split at h
  · cases h; exact hx
  · split at h
    · cases h
    · split at h
      · cases h
        unfold ok3 at hx hy ⊢
        simp only
        right
        split <;> omega
      · cases h
section RNG
variable {Q : Int → MM → Prop} {x y : R3}
theorem c_join {m : MM} (hx : ok3 x) (hy : ok3 y) (h : Q (encO (jn x y)) m) : P_X11_join (encC x) (encC y) m Q := by
  have ex := encC_bd hx
  have ey := encC_bd hy
  refine ⟨ex.1, ey.1, ?_⟩
  by_cases c : x = y
  · subst c
    rw [if_pos rfl]
    unfold jn at h
    rw [if_pos rfl] at h
    exact h
  · rw [if_neg (fun z => c (encC_inj hx hy z))]
    unfold jn at h
    rw [if_neg c] at h
    by_cases bx : x.1 = -2
    · rw [if_pos (by rw [ex.2.1 bx]; decide)]
      rw [if_pos (Or.inl bx)] at h
      exact h
    · rw [if_neg (by have := ex.2.2 bx; omega)]
      by_cases by_ : y.1 = -2
      · rw [if_neg (by rw [ey.2.1 by_]; decide)]
        rw [if_pos (Or.inr by_)] at h
        exact h
      · rw [if_pos (ey.2.2 by_)]
        rw [if_neg (by omega)] at h
        have gx := encC_RG hx bx
        have gy := encC_RG hy by_
        obtain ⟨-, hb, hd, hs⟩ := id gx
        obtain ⟨-, hb', hd', hs'⟩ := id gy
        refine c_base gx (c_base gy (c_size gx (c_size gy ⟨by constructor <;> omega, by constructor <;> omega, ?_⟩)))
        have l71 : (x.1 = y.1 ∨ x.1 = 0 ∨ y.1 = 0) → (x.2.2 = y.2.2 ∨ x.2.2 = 0 ∨ y.2.2 = 0) → P_X11_join_71 Q (encC x) (encC y) x.1 y.1 x.2.2 y.2.2 m := by
          intro h1 h2
          rw [if_pos ⟨h1, h2⟩] at h
          refine ⟨by constructor <;> omega, c_depth gx (c_depth gy (c_max (by constructor <;> omega) (by constructor <;> omega) (c_max (by constructor <;> omega) (by constructor <;> omega) ?_)))⟩
          unfold P_X11_of
          rw [ofR (by split <;> omega) (by omega) (by omega)]
          unfold encO encC at h
          simp only at h
          rw [if_neg (by split <;> omega)] at h
          exact h
        have l52 : (x.1 = y.1 ∨ x.1 = 0 ∨ y.1 = 0) → P_X11_join_52 Q (encC x) (encC y) x.1 y.1 x.2.2 y.2.2 m := by
          intro h1
          refine ⟨by constructor <;> omega, by constructor <;> omega, ?_⟩
          by_cases s1 : x.2.2 = y.2.2
          · rw [if_pos s1]; exact l71 h1 (Or.inl s1)
          · rw [if_neg s1]
            by_cases s2 : x.2.2 = 0
            · rw [if_pos s2]; exact l71 h1 (Or.inr (Or.inl s2))
            · rw [if_neg s2]
              by_cases s3 : y.2.2 = 0
              · rw [if_pos s3]; exact l71 h1 (Or.inr (Or.inr s3))
              · rw [if_neg s3]
                rw [if_neg (by omega)] at h
                exact h
        by_cases b1 : x.1 = y.1
        · rw [if_pos b1]; exact l52 (Or.inl b1)
        · rw [if_neg b1]
          by_cases b2 : x.1 = 0
          · rw [if_pos b2]; exact l52 (Or.inr (Or.inl b2))
          · rw [if_neg b2]
            by_cases b3 : y.1 = 0
            · rw [if_pos b3]; exact l52 (Or.inr (Or.inr b3))
            · rw [if_neg b3]
              rw [if_neg (by omega)] at h
              exact h
theorem c_goes {m : MM} (hx : ok3 x) (hy : ok3 y) (h : Q (if jn x y = some y then 1 else 0) m) : P_X11_goes (encC x) (encC y) m Q := by
  have ex := encC_bd hx
  have ey := encC_bd hy
  refine ⟨ex.1, ?_⟩
  rw [if_neg (by by_cases c : x.1 = -2; rw [ex.2.1 c]; decide; have := ex.2.2 c; omega)]
  refine c_join hx hy ?_
  rcases hj : jn x y with - | z
  · rw [hj] at h
    refine ⟨by decide, ey.1, ?_⟩
    show (if (-1 : Int) = encC y then Q 1 m else Q 0 m)
    rw [if_neg (by by_cases c : y.1 = -2; rw [ey.2.1 c]; decide; have := ey.2.2 c; omega)]
    rw [if_neg (by intro z; cases z)] at h
    exact h
  · rw [hj] at h
    have hz := jn_ok hx hy hj
    refine ⟨(encC_bd hz).1, ey.1, ?_⟩
    show (if encC z = encC y then Q 1 m else Q 0 m)
    by_cases c : z = y
    · rw [if_pos (by rw [c])]
      rw [if_pos (by rw [c])] at h
      exact h
    · rw [if_neg (fun q => c (encC_inj hz hy q))]
      rw [if_neg (fun q => c (Option.some.inj q))] at h
      exact h
/-! primes -/
theorem prime_loop {m : MM} {n : Int} (hn : 2 ≤ n ∧ n ≤ 10007) (h1 : PRI n → Q 1 m) (h0 : ¬ PRI n → Q 0 m) : ∀ (k : Nat) (d : Int), 2 ≤ d → 102 - d ≤ k → d ≤ 101 → (∀ e, 2 ≤ e → e < d → n % e ≠ 0) → P_X11_isPrime_25 Q k n d m ∧ P_X10_isField_23 Q k n d m := by
  intro k
  induction k with
  | zero => intro d d0 d1 d2; omega
  | succ k ih =>
    intro d d0 d1 d2 hd
    have dd : d * d ≤ 10201 := by
      have := Int.mul_le_mul d2 d2 (by omega) (by decide)
      omega
    have dp : 0 ≤ d * d := Int.mul_nonneg (by omega) (by omega)
    by_cases c : n < d * d
    · have pr : PRI n := by
        refine ⟨hn.1, fun e e0 e1 => hd e e0 ?_⟩
        by_cases z : e < d
        · exact z
        · have := Int.mul_le_mul (show d ≤ e by omega) (show d ≤ e by omega) (by omega) (by omega)
          omega
      refine ⟨⟨by constructor <;> omega, by constructor <;> omega, ?_⟩, ⟨by constructor <;> omega, by constructor <;> omega, ?_⟩⟩
      · rw [if_pos c]; exact h1 pr
      · rw [if_pos c]; exact h1 pr
    · have tm : Int.tmod n d = n % d := tmod_pos (by omega)
      have m0 := emod_bd (x := n) (show 0 < d by omega)
      have lt : d ≤ 100 := by
        by_cases z : d = 101
        · rw [z] at c; omega
        · omega
      by_cases c2 : n % d = 0
      · have np : ¬ PRI n := fun z => z.2 d d0 (by omega) c2
        refine ⟨⟨by constructor <;> omega, by constructor <;> omega, ?_⟩, ⟨by constructor <;> omega, by constructor <;> omega, ?_⟩⟩
        · rw [if_neg c, tm]
          refine ⟨by constructor <;> omega, by omega, by constructor <;> omega, ?_⟩
          rw [if_pos c2]; exact h0 np
        · rw [if_neg c, tm]
          refine ⟨by constructor <;> omega, by omega, by constructor <;> omega, ?_⟩
          rw [if_pos c2]; exact h0 np
      · obtain ⟨i1, i2⟩ := ih (d + 1) (by omega) (by omega) (by omega) (fun e e0 e1 => by
          by_cases z : e = d
          · rw [z]; exact c2
          · exact hd e e0 (by omega))
        refine ⟨⟨by constructor <;> omega, by constructor <;> omega, ?_⟩, ⟨by constructor <;> omega, by constructor <;> omega, ?_⟩⟩
        · rw [if_neg c, tm]
          refine ⟨by constructor <;> omega, by omega, by constructor <;> omega, ?_⟩
          rw [if_neg c2]; exact i1
        · rw [if_neg c, tm]
          refine ⟨by constructor <;> omega, by omega, by constructor <;> omega, ?_⟩
          rw [if_neg c2]; exact i2
/-- bases of fields -/
def isPb (b : Int) : Prop := b = 20000 ∨ b ≤ 9973 ∧ PRI b
def isFb (b : Int) : Prop := b = 1 ∨ isPb b
noncomputable def pbN (b : Int) : Int := @ite _ (isPb b) (Classical.propDecidable _) 1 0
noncomputable def fbN (b : Int) : Int := @ite _ (isFb b) (Classical.propDecidable _) 1 0
theorem pbN_1 {b : Int} (h : isPb b) : pbN b = 1 := if_pos h
theorem pbN_0 {b : Int} (h : ¬ isPb b) : pbN b = 0 := if_neg h
theorem fbN_1 {b : Int} (h : isFb b) : fbN b = 1 := if_pos h
theorem fbN_0 {b : Int} (h : ¬ isFb b) : fbN b = 0 := if_neg h
theorem c_isPrimeC {m : MM} {b : Int} (hb : okb b ∨ b = -1) (h : Q (pbN b) m) : P_X11_isPrime b m Q := by
  refine ⟨by constructor <;> omega, ?_⟩
  by_cases c1 : b = 20000
  · rw [if_pos c1]
    rw [pbN_1 (Or.inl c1)] at h
    exact h
  · rw [if_neg c1]
    by_cases c2 : b < 2
    · rw [if_pos c2]
      rw [pbN_0 (fun z => by rcases z with z | z; exact c1 z; have := z.2.1; omega)] at h
      exact h
    · rw [if_neg c2]
      by_cases c3 : b = 20001
      · rw [if_pos c3]
        rw [pbN_0 (fun z => by rcases z with z | z; exact c1 z; omega)] at h
        exact h
      · rw [if_neg c3]
        exact ⟨100, (prime_loop (Q := Q) (by omega) (fun z => by rw [pbN_1 (Or.inr ⟨by omega, z⟩)] at h; exact h) (fun z => by rw [pbN_0 (fun q => by rcases q with q | q; exact c1 q; exact z q.2)] at h; exact h) 100 2 (by decide) (by decide) (by decide) (fun e e0 e1 => by omega)).1⟩
theorem c_isFieldC {m : MM} {b : Int} (hb : okb b ∨ b = -1) (h : Q (fbN b) m) : P_X11_isField b m Q := by
  refine ⟨by constructor <;> omega, ?_⟩
  by_cases c1 : b = 1
  · rw [if_pos c1]
    rw [fbN_1 (Or.inl c1)] at h
    exact h
  · rw [if_neg c1]
    refine c_isPrimeC hb ?_
    by_cases c : isPb b
    · rw [pbN_1 c]
      rw [fbN_1 (Or.inr c)] at h
      refine ⟨by decide, ?_⟩
      rw [if_neg (by decide)]
      exact h
    · rw [pbN_0 c]
      rw [fbN_0 (fun z => by rcases z with z | z; exact c1 z; exact c z)] at h
      refine ⟨by decide, ?_⟩
      rw [if_pos rfl]
      exact h
theorem pri_10007 : PRI 10007 := by
  refine ⟨by decide, fun d d0 d1 => ?_⟩
  have d2 : d ≤ 100 := by
    by_cases z : d ≤ 100
    · exact z
    · have := Int.mul_le_mul (show (101 : Int) ≤ d by omega) (show (101 : Int) ≤ d by omega) (by decide) (by omega)
      omega
  have key : ∀ k : Fin 99, (10007 : Int) % ((k.val : Int) + 2) ≠ 0 := by decide +kernel
  have := key ⟨(d - 2).toNat, by omega⟩
  rw [show (((d - 2).toNat : Nat) : Int) + 2 = d by omega] at this
  exact this
theorem c_isFieldM {m : MM} {b : Int} (hb : okb b ∨ b < 0 ∧ RI b) (h : Q (fbN b) m) : P_X10_isField (bM b) m Q := by
  unfold bM
  by_cases c0 : b = 20000
  · rw [if_pos c0]
    rw [fbN_1 (Or.inr (Or.inl c0))] at h
    refine ⟨by decide, ?_⟩
    rw [if_neg (by decide), if_neg (by decide), if_neg (by decide)]
    exact ⟨100, (prime_loop (Q := Q) (by decide) (fun _ => h) (fun z => absurd pri_10007 z) 100 2 (by decide) (by decide) (by decide) (fun e e0 e1 => by omega)).2⟩
  · rw [if_neg c0]
    by_cases c4 : b = 20001
    · rw [if_pos c4]
      rw [fbN_0 (fun z => by rcases z with z | z | z; omega; omega; omega)] at h
      refine ⟨by decide, ?_⟩
      rw [if_neg (by decide), if_neg (by decide), if_pos rfl]
      exact h
    · rw [if_neg c4]
      have ri : RI b := by rcases hb with z | z; constructor <;> omega; exact z.2
      refine ⟨ri, ?_⟩
      by_cases c1 : b = 1
      · rw [if_pos c1]
        rw [fbN_1 (Or.inl c1)] at h
        exact h
      · rw [if_neg c1]
        by_cases c2 : b < 2
        · rw [if_pos c2]
          rw [fbN_0 (fun z => by rcases z with z | z | z; exact c1 z; exact c0 z; have := z.2.1; omega)] at h
          exact h
        · rw [if_neg c2, if_neg (by omega)]
          exact ⟨100, (prime_loop (Q := Q) (by omega) (fun z => by rw [fbN_1 (Or.inr (Or.inr ⟨by omega, z⟩))] at h; exact h) (fun z => by rw [fbN_0 (fun q => by rcases q with q | q | q; exact c1 q; exact c0 q; exact z q.2)] at h; exact h) 100 2 (by decide) (by decide) (by decide) (fun e e0 e1 => by omega)).2⟩
end RNG
