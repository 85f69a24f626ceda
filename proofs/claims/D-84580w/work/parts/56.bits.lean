set_option maxRecDepth 100000
/-! bits -/
theorem shk : ∀ k : Fin 32, ((Int32.ofInt (k.val : Int) &&& 31).toBitVec.smod 32).toNat = k.val := by decide
theorem iShr_eq {x : Int} (k : Nat) (hx : RI x) (hk : k < 32) : iShr x (k : Int) = x / ((2 ^ k : Nat) : Int) := by
  unfold iShr
  show ((Int32.ofInt x).toBitVec.sshiftRight' ((Int32.ofInt (k : Int) &&& 31).toBitVec.smod 32)).toInt = _
  rw [BitVec.toInt_sshiftRight', shk ⟨k, hk⟩, Int.shiftRight_eq_div_pow]
  have := ri_t hx
  rw [show (Int32.ofInt x).toBitVec.toInt = x from this]
theorem iShr2 {x : Int} (hx : RI x) : iShr x 2 = x / 4 := iShr_eq 2 hx (by decide)
theorem iShr4 {x : Int} (hx : RI x) : iShr x 4 = x / 16 := iShr_eq 4 hx (by decide)
theorem i32_nat (x : Int) : (Int32.ofInt x).toBitVec.toNat = (x % 4294967296).toNat := BitVec.toNat_ofInt x
theorem i32_of_nat {b : BitVec 32} {n : Nat} (h : b.toNat = n) (hn : n < 2147483648) : b.toInt = (n : Int) := by
  rw [BitVec.toInt_eq_toNat_of_lt (by omega), h]
theorem iAnd_mask {x : Int} (n : Nat) (hn : n < 31) : iAnd x (((2 ^ n - 1 : Nat)) : Int) = x % ((2 ^ n : Nat) : Int) := by
  unfold iAnd
  have hp : 2 ^ n ≤ 2 ^ 30 := Nat.pow_le_pow_right (by decide) (by omega)
  have hp0 : 0 < 2 ^ n := Nat.pow_pos (by decide)
  have h2 : ((Int32.ofInt x).toBitVec &&& (Int32.ofInt ((2 ^ n - 1 : Nat) : Int)).toBitVec).toNat = (x % 4294967296).toNat % 2 ^ n := by
    rw [BitVec.toNat_and, i32_nat, i32_nat, show (((2 ^ n - 1 : Nat) : Int) % 4294967296).toNat = 2 ^ n - 1 by omega, Nat.and_two_pow_sub_one_eq_mod]
  have h3 := Nat.mod_lt (x % 4294967296).toNat hp0
  show ((Int32.ofInt x).toBitVec &&& (Int32.ofInt ((2 ^ n - 1 : Nat) : Int)).toBitVec).toInt = _
  rw [i32_of_nat h2 (by omega)]
  have d : ((2 ^ n : Nat) : Int) ∣ 4294967296 := by
    refine ⟨((2 ^ (32 - n) : Nat) : Int), ?_⟩
    rw [← Int.natCast_mul, ← Nat.pow_add, show n + (32 - n) = 32 by omega]
    rfl
  have h4 := Int.emod_emod_of_dvd x d
  have h5 := Int.emod_nonneg x (show (4294967296 : Int) ≠ 0 by decide)
  rw [Int.natCast_emod, Int.toNat_of_nonneg h5, h4]
theorem iAnd1 {x : Int} : iAnd x 1 = x % 2 := iAnd_mask 1 (by decide)
theorem iAnd3 {x : Int} : iAnd x 3 = x % 4 := iAnd_mask 2 (by decide)
theorem iAnd15 {x : Int} : iAnd x 15 = x % 16 := iAnd_mask 4 (by decide)
theorem iAnd255 {x : Int} : iAnd x 255 = x % 256 := iAnd_mask 8 (by decide)
theorem nat_andn (k x : Nat) (hx : x < 2 ^ 32) (hk : k ≤ 32) : x &&& (2 ^ (32 - k) - 1) <<< k = x / 2 ^ k * 2 ^ k := by
  rw [← Nat.shiftLeft_eq, ← Nat.shiftRight_eq_div_pow]
  apply Nat.eq_of_testBit_eq
  intro i
  rw [Nat.testBit_and, Nat.testBit_shiftLeft, Nat.testBit_shiftLeft, Nat.testBit_shiftRight, Nat.testBit_two_pow_sub_one]
  by_cases h1 : k ≤ i
  · by_cases h2 : i < 32
    · simp [h1, show i - k < 32 - k by omega, show k + (i - k) = i by omega]
    · have : x.testBit i = false := Nat.testBit_lt_two_pow (Nat.lt_of_lt_of_le hx (Nat.pow_le_pow_right (by decide) (by omega)))
      simp [h1, show k + (i - k) = i by omega, this]
  · simp [h1]
theorem iAndN {x : Int} (k : Nat) (hk : k < 31) (h0 : 0 ≤ x) (hx : RI x) : iAnd x (-((2 ^ k : Nat) : Int)) = x - x % ((2 ^ k : Nat) : Int) := by
  unfold iAnd
  have hp0 : 0 < 2 ^ k := Nat.pow_pos (by decide)
  have hp : 2 ^ k ≤ 2 ^ 30 := Nat.pow_le_pow_right (by decide) (by omega)
  have hq : (2 ^ (32 - k) - 1) <<< k = 4294967296 - 2 ^ k := by
    rw [Nat.shiftLeft_eq, Nat.sub_mul, ← Nat.pow_add, show 32 - k + k = 32 by omega]
    omega
  have h2 : ((Int32.ofInt x).toBitVec &&& (Int32.ofInt (-((2 ^ k : Nat) : Int))).toBitVec).toNat = x.toNat / 2 ^ k * 2 ^ k := by
    rw [BitVec.toNat_and, i32_nat, i32_nat, show ((-((2 ^ k : Nat) : Int)) % 4294967296).toNat = 4294967296 - 2 ^ k by omega, show (x % 4294967296).toNat = x.toNat by omega, ← hq, nat_andn k _ (by omega) (by omega)]
  have h3 := Nat.div_mul_le_self x.toNat (2 ^ k)
  show ((Int32.ofInt x).toBitVec &&& (Int32.ofInt (-((2 ^ k : Nat) : Int))).toBitVec).toInt = _
  rw [i32_of_nat h2 (by omega)]
  have h4 := Nat.div_add_mod x.toNat (2 ^ k)
  have h5 : ((x.toNat % 2 ^ k : Nat) : Int) = x % ((2 ^ k : Nat) : Int) := by
    rw [Int.natCast_emod, Int.toNat_of_nonneg h0]
  rw [Nat.mul_comm] at h4
  omega
theorem iAndM4 {x : Int} (h0 : 0 ≤ x) (hx : RI x) : iAnd x (-4) = x - x % 4 := iAndN 2 (by decide) h0 hx
theorem iAndM16 {x : Int} (h0 : 0 ≤ x) (hx : RI x) : iAnd x (-16) = x - x % 16 := iAndN 4 (by decide) h0 hx
theorem iShl_eq {x : Int} (k : Nat) (hk : k < 31) (h0 : 0 ≤ x) (hx : x * ((2 ^ k : Nat) : Int) < 2147483648) : iShl x (k : Int) = x * ((2 ^ k : Nat) : Int) := by
  unfold iShl
  have hp0 : 0 < 2 ^ k := Nat.pow_pos (by decide)
  have hx2 : x ≤ x * ((2 ^ k : Nat) : Int) := by
    have := Int.mul_le_mul_of_nonneg_left (show (1 : Int) ≤ ((2 ^ k : Nat) : Int) by omega) h0
    omega
  show ((Int32.ofInt x).toBitVec <<< ((Int32.ofInt (k : Int) &&& 31).toBitVec.smod 32)).toInt = _
  have h2 : ((Int32.ofInt x).toBitVec <<< ((Int32.ofInt (k : Int) &&& 31).toBitVec.smod 32)).toNat = x.toNat * 2 ^ k := by
    rw [BitVec.shiftLeft_eq', BitVec.toNat_shiftLeft, shk ⟨k, by omega⟩, i32_nat, show (x % 4294967296).toNat = x.toNat by omega, Nat.shiftLeft_eq]
    have : ((x.toNat * 2 ^ k : Nat) : Int) = x * ((2 ^ k : Nat) : Int) := by rw [Int.natCast_mul, Int.toNat_of_nonneg h0]
    show x.toNat * 2 ^ k % 4294967296 = x.toNat * 2 ^ k
    exact Nat.mod_eq_of_lt (by omega)
  have h3 : ((x.toNat * 2 ^ k : Nat) : Int) = x * ((2 ^ k : Nat) : Int) := by rw [Int.natCast_mul, Int.toNat_of_nonneg h0]
  rw [i32_of_nat h2 (by omega), h3]
theorem iOr_add {a : Int} {b : Int} (k : Nat) (ha : 0 ≤ a) (hb : 0 ≤ b) (hb2 : b < ((2 ^ k : Nat) : Int)) (hs : a * ((2 ^ k : Nat) : Int) + b < 2147483648) : iOr (a * ((2 ^ k : Nat) : Int)) b = a * ((2 ^ k : Nat) : Int) + b := by
  unfold iOr
  have h3 : ((a.toNat * 2 ^ k : Nat) : Int) = a * ((2 ^ k : Nat) : Int) := by rw [Int.natCast_mul, Int.toNat_of_nonneg ha]
  have h4 : 0 ≤ a * ((2 ^ k : Nat) : Int) := Int.mul_nonneg ha (by omega)
  show ((Int32.ofInt (a * ((2 ^ k : Nat) : Int))).toBitVec ||| (Int32.ofInt b).toBitVec).toInt = _
  have h2 : ((Int32.ofInt (a * ((2 ^ k : Nat) : Int))).toBitVec ||| (Int32.ofInt b).toBitVec).toNat = a.toNat * 2 ^ k + b.toNat := by
    rw [BitVec.toNat_or, i32_nat, i32_nat, show (b % 4294967296).toNat = b.toNat by omega, show (a * ((2 ^ k : Nat) : Int) % 4294967296).toNat = a.toNat * 2 ^ k by omega, ← Nat.shiftLeft_eq, Nat.shiftLeft_add_eq_or_of_lt (by omega)]
  rw [i32_of_nat h2 (by omega)]
  omega
/-- a ring's number -/
theorem ofR {b d s : Int} (hb : 0 ≤ b ∧ b ≤ 30000) (hd : 0 ≤ d ∧ d ≤ 3) (hs : 0 ≤ s ∧ s ≤ 3) : iOr (iOr (iShl b 4) (iShl d 2)) s = 16 * b + 4 * d + s := by
  have e1 : iShl b 4 = b * 16 := iShl_eq 4 (by decide) hb.1 (by show b * 16 < _; omega)
  have e2 : iShl d 2 = d * 4 := iShl_eq 2 (by decide) hd.1 (by show d * 4 < _; omega)
  rw [e1, e2]
  have e3 : iOr (b * 16) (d * 4) = b * 16 + d * 4 := iOr_add 4 hb.1 (by omega) (by show d * 4 < 16; omega) (by show b * 16 + d * 4 < _; omega)
  rw [e3, show b * 16 + d * 4 = (b * 4 + d) * 4 by omega]
  have e4 : iOr ((b * 4 + d) * 4) s = (b * 4 + d) * 4 + s := iOr_add 2 (by omega) hs.1 (by show s < 4; omega) (by show (b * 4 + d) * 4 + s < _; omega)
  rw [e4]
  omega
theorem withB {b r : Int} (hb : 0 ≤ b ∧ b ≤ 30000) : iOr (iShl b 4) (iAnd r 15) = 16 * b + r % 16 := by
  have e1 : iShl b 4 = b * 16 := iShl_eq 4 (by decide) hb.1 (by show b * 16 < _; omega)
  rw [e1, iAnd15]
  have e3 : iOr (b * 16) (r % 16) = b * 16 + r % 16 := iOr_add 4 hb.1 (by omega) (by show r % 16 < 16; omega) (by show b * 16 + r % 16 < _; omega)
  rw [e3]
  omega
/-! longs -/
theorem shkL : ∀ k : Fin 64, (((Int32.ofInt (k.val : Int)).toInt64 &&& 63).toBitVec.smod 64).toNat = k.val := by decide
theorem lShr_eq {x : Int} (k : Nat) (hx : RL x) (hk : k < 64) : lShr x (k : Int) = x / ((2 ^ k : Nat) : Int) := by
  unfold lShr
  show ((Int64.ofInt x).toBitVec.sshiftRight' (((Int32.ofInt (k : Int)).toInt64 &&& 63).toBitVec.smod 64)).toInt = _
  rw [BitVec.toInt_sshiftRight', shkL ⟨k, hk⟩, Int.shiftRight_eq_div_pow]
  have := rl_t hx
  rw [show (Int64.ofInt x).toBitVec.toInt = x from this]
theorem i64_nat (x : Int) : (Int64.ofInt x).toBitVec.toNat = (x % 18446744073709551616).toNat := BitVec.toNat_ofInt x
theorem i64_of_nat {b : BitVec 64} {n : Nat} (h : b.toNat = n) (hn : n < 9223372036854775808) : b.toInt = (n : Int) := by
  rw [BitVec.toInt_eq_toNat_of_lt (by omega), h]
theorem lAnd_mask {x : Int} (n : Nat) (hn : n < 62) : lAnd x (((2 ^ n - 1 : Nat)) : Int) = x % ((2 ^ n : Nat) : Int) := by
  unfold lAnd
  have hp : 2 ^ n ≤ 2 ^ 61 := Nat.pow_le_pow_right (by decide) (by omega)
  have hp0 : 0 < 2 ^ n := Nat.pow_pos (by decide)
  have h2 : ((Int64.ofInt x).toBitVec &&& (Int64.ofInt ((2 ^ n - 1 : Nat) : Int)).toBitVec).toNat = (x % 18446744073709551616).toNat % 2 ^ n := by
    rw [BitVec.toNat_and, i64_nat, i64_nat, show (((2 ^ n - 1 : Nat) : Int) % 18446744073709551616).toNat = 2 ^ n - 1 by omega, Nat.and_two_pow_sub_one_eq_mod]
  have h3 := Nat.mod_lt (x % 18446744073709551616).toNat hp0
  show ((Int64.ofInt x).toBitVec &&& (Int64.ofInt ((2 ^ n - 1 : Nat) : Int)).toBitVec).toInt = _
  rw [i64_of_nat h2 (by omega)]
  have d : ((2 ^ n : Nat) : Int) ∣ 18446744073709551616 := by
    refine ⟨((2 ^ (64 - n) : Nat) : Int), ?_⟩
    rw [← Int.natCast_mul, ← Nat.pow_add, show n + (64 - n) = 64 by omega]
    rfl
  have h4 := Int.emod_emod_of_dvd x d
  have h5 := Int.emod_nonneg x (show (18446744073709551616 : Int) ≠ 0 by decide)
  rw [Int.natCast_emod, Int.toNat_of_nonneg h5, h4]
theorem lAnd1 {x : Int} : lAnd x 1 = x % 2 := lAnd_mask 1 (by decide)
theorem lAnd255 {x : Int} : lAnd x 255 = x % 256 := lAnd_mask 8 (by decide)
