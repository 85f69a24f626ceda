set_option maxRecDepth 100000
/-! numbers as pairs: what both sides reckon -/
abbrev PP : Type := Int × Int
abbrev EX (α : Type) : Type := Except Int α
theorem lxor_sg {x y : Int} (hx : RL x) (hy : RL y) : (0 ≤ lXor x y) ↔ ((0 ≤ x) ↔ (0 ≤ y)) := by
  have h : ∀ z : Int64, (0 ≤ z.toInt) ↔ z.toBitVec.msb = false := by
    intro z
    rw [BitVec.msb_eq_toInt]
    show 0 ≤ z.toBitVec.toInt ↔ _
    simp
  have e1 := rl_t hx
  have e2 := rl_t hy
  have h1 := h (Int64.ofInt x)
  have h2 := h (Int64.ofInt y)
  rw [e1] at h1
  rw [e2] at h2
  unfold lXor
  rw [h, Int64.toBitVec_xor, BitVec.msb_xor, h1, h2]
  cases (Int64.ofInt x).toBitVec.msb <;> cases (Int64.ofInt y).toBitVec.msb <;> simp
theorem ixor_sg {x y : Int} (hx : RI x) (hy : RI y) : (0 ≤ iXor x y) ↔ ((0 ≤ x) ↔ (0 ≤ y)) := by
  have h : ∀ z : Int32, (0 ≤ z.toInt) ↔ z.toBitVec.msb = false := by
    intro z
    rw [BitVec.msb_eq_toInt]
    show 0 ≤ z.toBitVec.toInt ↔ _
    simp
  have e1 := ri_t hx
  have e2 := ri_t hy
  have h1 := h (Int32.ofInt x)
  have h2 := h (Int32.ofInt y)
  rw [e1] at h1
  rw [e2] at h2
  unfold iXor
  rw [h, Int32.toBitVec_xor, BitVec.msb_xor, h1, h2]
  cases (Int32.ofInt x).toBitVec.msb <;> cases (Int32.ofInt y).toBitVec.msb <;> simp
theorem lxor_rl (x y : Int) : RL (lXor x y) := by
  have h1 := Int64.le_toInt (Int64.ofInt x ^^^ Int64.ofInt y)
  have h2 := Int64.toInt_lt (Int64.ofInt x ^^^ Int64.ofInt y)
  unfold lXor
  constructor <;> omega
theorem ixor_ri (x y : Int) : RI (iXor x y) := by
  have h1 := Int32.le_toInt (Int32.ofInt x ^^^ Int32.ofInt y)
  have h2 := Int32.toInt_lt (Int32.ofInt x ^^^ Int32.ofInt y)
  unfold iXor
  constructor <;> omega
theorem tmod_pos {x y : Int} (h : 0 ≤ x) : Int.tmod x y = x % y := Int.tmod_eq_emod_of_nonneg h
theorem tdiv_pos {x y : Int} (h : 0 ≤ x) : Int.tdiv x y = x / y := Int.tdiv_eq_ediv_of_nonneg h
theorem tmod_neg' {x y : Int} (h : x < 0) (hy : 0 < y) : Int.tmod x y = if x % y = 0 then 0 else x % y - y := by
  have h1 : Int.tmod x y = -((-x) % y) := by
    rw [show x = -(-x) by omega, Int.neg_tmod, tmod_pos (by omega)]
    simp
  rw [h1]
  have h2 := Int.emod_nonneg x (show y ≠ 0 by omega)
  have h3 := Int.emod_lt_of_pos x hy
  have h4 := Int.emod_nonneg (-x) (show y ≠ 0 by omega)
  have h5 := Int.emod_lt_of_pos (-x) hy
  have h6 := Int.mul_ediv_add_emod x y
  have h7 := Int.mul_ediv_add_emod (-x) y
  have h8 : (x % y + (-x) % y) % y = 0 := by rw [← Int.add_emod]; simp [Int.add_right_neg]
  have h9 : x % y + (-x) % y = 0 ∨ x % y + (-x) % y = y := by
    by_cases c : x % y + (-x) % y < y
    · left
      rw [Int.emod_eq_of_lt (by omega) c] at h8
      exact h8
    · right
      have : (x % y + (-x) % y - y) % y = 0 := by rw [Int.sub_emod_right]; exact h8
      rw [Int.emod_eq_of_lt (by omega) (by omega)] at this
      omega
  split <;> omega
/-- Math.floorMod by a number above 0 -/
theorem c_floorModL {x y : Int} {m : MM} {Q : Int → MM → Prop} (hx : RL x) (hy : RL y) (h0 : 0 < y) (h : Q (x % y) m) : P_J4_floorMod_2 x y m Q := by
  have hs := lxor_sg hx hy
  have hm := Int.emod_nonneg x (show y ≠ 0 by omega)
  have hl := Int.emod_lt_of_pos x h0
  refine ⟨hx, hy, by omega, lxor_rl _ _, ?_⟩
  by_cases c : 0 ≤ x
  · rw [if_pos (hs.2 (by constructor <;> intro <;> omega)), tmod_pos c]
    exact h
  · rw [if_neg (fun k => by have := hs.1 k; omega)]
    have e := tmod_neg' (x := x) (by omega) h0
    by_cases c2 : x % y = 0
    · rw [if_pos c2] at e
      rw [e]
      refine ⟨by decide, ?_⟩
      rw [if_pos rfl, ← c2]
      exact h
    · rw [if_neg c2] at e
      rw [e]
      refine ⟨by constructor <;> omega, ?_⟩
      rw [if_neg (by omega), show x % y - y + y = x % y by omega]
      exact h
theorem c_floorModI {x y : Int} {m : MM} {Q : Int → MM → Prop} (hx : RI x) (hy : RI y) (h0 : 0 < y) (h : Q (x % y) m) : P_J4_floorMod x y m Q := by
  have hs := ixor_sg hx hy
  have hm := Int.emod_nonneg x (show y ≠ 0 by omega)
  have hl := Int.emod_lt_of_pos x h0
  refine ⟨hx, hy, by omega, ixor_ri _ _, ?_⟩
  by_cases c : 0 ≤ x
  · rw [if_pos (hs.2 (by constructor <;> intro <;> omega)), tmod_pos c]
    exact h
  · rw [if_neg (fun k => by have := hs.1 k; omega)]
    have e := tmod_neg' (x := x) (by omega) h0
    by_cases c2 : x % y = 0
    · rw [if_pos c2] at e
      rw [e]
      refine ⟨by decide, ?_⟩
      rw [if_pos rfl, ← c2]
      exact h
    · rw [if_neg c2] at e
      rw [e]
      refine ⟨by constructor <;> omega, ?_⟩
      rw [if_neg (by omega), show x % y - y + y = x % y by omega]
      exact h
theorem c_max {x y : Int} {m : MM} {Q : Int → MM → Prop} (hx : RI x) (hy : RI y) (h : Q (max x y) m) : P_J4_max x y m Q := by
  refine ⟨hx, hy, ?_⟩
  split
  · rw [show max x y = y by omega] at h; exact h
  · rw [show max x y = x by omega] at h; exact h
theorem c_min {x y : Int} {m : MM} {Q : Int → MM → Prop} (hx : RI x) (hy : RI y) (h : Q (min x y) m) : P_J4_min x y m Q := by
  refine ⟨hx, hy, ?_⟩
  split
  · rw [show min x y = y by omega] at h; exact h
  · rw [show min x y = x by omega] at h; exact h
theorem c_maxL {x y : Int} {m : MM} {Q : Int → MM → Prop} (hx : RL x) (hy : RL y) (h : Q (max x y) m) : P_J4_max_2 x y m Q := by
  refine ⟨hx, hy, ?_⟩
  split
  · rw [show max x y = y by omega] at h; exact h
  · rw [show max x y = x by omega] at h; exact h
theorem c_abs {x : Int} {m : MM} {Q : Int → MM → Prop} (hx : RL x) (h : Q (x.natAbs : Int) m) : P_J4_abs x m Q := by
  refine ⟨hx, ?_⟩
  split
  · rw [show (x.natAbs : Int) = x by omega] at h; exact h
  · rw [show (x.natAbs : Int) = -x by omega] at h; exact h
theorem c_absI {x : Int} {m : MM} {Q : Int → MM → Prop} (hx : RI x) (h : Q (x.natAbs : Int) m) : P_J4_abs_2 x m Q := by
  refine ⟨hx, ?_⟩
  split
  · rw [show (x.natAbs : Int) = x by omega] at h; exact h
  · rw [show (x.natAbs : Int) = -x by omega] at h; exact h
/-- within 2^62 -/
abbrev R62 (x : Int) : Prop := -4611686018427387904 ≤ x ∧ x ≤ 4611686018427387904
theorem gcd_loop {Q : Int → MM → Prop} {m : MM} : ∀ (b a : Nat), (a : Int) ≤ 4611686018427387904 → (b : Int) ≤ 4611686018427387904 → Q (Nat.gcd a b : Int) m → ∃ nn, P_X8_common_12 Q nn (a : Int) (b : Int) m := by
  intro b
  induction b using Nat.strongRecOn with
  | _ b ih =>
    intro a ha hb h
    by_cases c : b = 0
    · subst c
      refine ⟨1, ?_⟩
      rw [Nat.gcd_zero_right] at h
      refine ⟨by constructor <;> omega, ?_⟩
      rw [if_pos (by rfl)]
      exact h
    · have hl : a % b < b := Nat.mod_lt _ (by omega)
      rw [Nat.gcd_comm, Nat.gcd_rec] at h
      obtain ⟨nn, k⟩ := ih (a % b) hl b hb (by omega) (by rw [Nat.gcd_comm]; exact h)
      refine ⟨nn + 1, ?_⟩
      refine ⟨by constructor <;> omega, ?_⟩
      rw [if_neg (by omega)]
      refine ⟨by constructor <;> omega, by omega, ?_⟩
      rw [← Int.ofNat_tmod]
      exact k
theorem c_X8_common {x y : Int} {m : MM} {Q : Int → MM → Prop} (hx : R62 x) (hy : R62 y) (h : Q (Int.gcd x y : Int) m) : P_X8_common x y m Q :=
  c_abs (by constructor <;> omega) (c_abs (by constructor <;> omega) (gcd_loop _ _ (by omega) (by omega) h))
theorem gcd_loopM {Q : Int → MM → Prop} {m : MM} : ∀ (b a : Nat), (a : Int) ≤ 4611686018427387904 → (b : Int) ≤ 4611686018427387904 → Q (Nat.gcd a b : Int) m → ∃ nn, P_X10_common_28 Q nn (a : Int) (b : Int) m := by
  intro b
  induction b using Nat.strongRecOn with
  | _ b ih =>
    intro a ha hb h
    by_cases c : b = 0
    · subst c
      refine ⟨1, ?_⟩
      rw [Nat.gcd_zero_right] at h
      refine ⟨by constructor <;> omega, ?_⟩
      rw [if_pos (by rfl)]
      exact h
    · have hl : a % b < b := Nat.mod_lt _ (by omega)
      rw [Nat.gcd_comm, Nat.gcd_rec] at h
      obtain ⟨nn, k⟩ := ih (a % b) hl b hb (by omega) (by rw [Nat.gcd_comm]; exact h)
      refine ⟨nn + 1, ?_⟩
      refine ⟨by constructor <;> omega, ?_⟩
      rw [if_neg (by omega)]
      refine ⟨by constructor <;> omega, by omega, ?_⟩
      rw [← Int.ofNat_tmod]
      exact k
theorem c_X10_common {x y : Int} {m : MM} {Q : Int → MM → Prop} (hx : R62 x) (hy : R62 y) (h : Q (Int.gcd x y : Int) m) : P_X10_common x y m Q := by
  have e : (if 0 ≤ x then x else -x) = ((x.natAbs : Nat) : Int) := by split <;> omega
  refine ⟨by constructor <;> omega, by constructor <;> omega, ?_⟩
  rw [e]
  split
  · have k := gcd_loopM y.natAbs x.natAbs (by omega) (by omega) h
    rw [show ((y.natAbs : Nat) : Int) = y by omega] at k
    exact k
  · have k := gcd_loopM y.natAbs x.natAbs (by omega) (by omega) h
    rw [show ((y.natAbs : Nat) : Int) = -y by omega] at k
    exact k
