set_option maxRecDepth 100000
/-! Fermat's little theorem -/
def bin : Nat → Nat → Nat
  | _, 0 => 1
  | 0, _ + 1 => 0
  | n + 1, k + 1 => bin n k + bin n (k + 1)
theorem bin_zero (n : Nat) : bin n 0 = 1 := by cases n <;> rfl
theorem bin_ss (n k : Nat) : bin (n + 1) (k + 1) = bin n k + bin n (k + 1) := rfl
theorem bin_zs (k : Nat) : bin 0 (k + 1) = 0 := rfl
theorem bin_gt : ∀ (n k : Nat), n < k → bin n k = 0 := by
  intro n
  induction n with
  | zero => intro k h; cases k with
    | zero => omega
    | succ k => rfl
  | succ n ih => intro k h; cases k with
    | zero => omega
    | succ k => rw [bin_ss, ih k (by omega), ih (k + 1) (by omega)]
theorem bin_self : ∀ n, bin n n = 1 := by
  intro n
  induction n with
  | zero => rfl
  | succ n ih => rw [bin_ss, ih, bin_gt n (n + 1) (by omega)]
theorem bin_mul : ∀ n k, (k + 1) * bin (n + 1) (k + 1) = (n + 1) * bin n k := by
  intro n
  induction n with
  | zero => intro k; cases k with
    | zero => rfl
    | succ k => rw [bin_ss, bin_zs, bin_zs]; rfl
  | succ n ih => intro k; cases k with
    | zero =>
      have h := ih 0
      rw [bin_zero] at h
      rw [bin_ss, bin_zero]
      omega
    | succ k =>
      have h1 := ih k
      have h2 := ih (k + 1)
      rw [bin_ss (n + 1) (k + 1)]
      rw [bin_ss n k] at h1 ⊢
      generalize bin n k = X at *
      generalize bin n (k + 1) = Y at *
      generalize bin (n + 1) (k + 1 + 1) = Z at *
      simp only [Nat.mul_add, Nat.add_mul] at *
      omega
def bsum (n a : Nat) : Nat → Nat
  | 0 => 0
  | m + 1 => bsum n a m + bin n m * a ^ m
theorem bsum_s (n a m : Nat) : bsum n a (m + 1) = bsum n a m + bin n m * a ^ m := rfl
theorem bsum_succ (n a : Nat) : ∀ m, bsum (n + 1) a (m + 1) = a * bsum n a m + bsum n a (m + 1) := by
  intro m
  induction m with
  | zero => rw [bsum_s, bsum_s, bin_zero, bin_zero]; show 0 + 1 * a ^ 0 = a * 0 + (0 + 1 * a ^ 0); omega
  | succ m ih =>
    rw [bsum_s (n + 1) a (m + 1), ih, bin_ss, bsum_s n a (m + 1), bsum_s n a m]
    have e : a * (bin n m * a ^ m) = bin n m * a ^ (m + 1) := by rw [Nat.mul_comm a, Nat.mul_assoc, Nat.pow_succ]
    rw [Nat.mul_add, e, Nat.add_mul]
    omega
theorem bsum_pow (a : Nat) : ∀ n, bsum n a (n + 1) = (a + 1) ^ n := by
  intro n
  induction n with
  | zero => rfl
  | succ n ih =>
    have e : (a + 1) ^ (n + 1) = (a + 1) ^ n * (a + 1) := Nat.pow_succ ..
    rw [bsum_succ, bsum_s n a (n + 1), bin_gt n (n + 1) (by omega), ih, Nat.zero_mul, e, Nat.mul_add, Nat.mul_one, Nat.mul_comm a]
    omega
def PRn (p : Nat) : Prop := 2 ≤ p ∧ ∀ d, d ∣ p → d = 1 ∨ d = p
theorem PRn.cop {p k : Nat} (h : PRn p) (h0 : 0 < k) (h1 : k < p) : Nat.Coprime p k := by
  have hd := h.2 (Nat.gcd p k) (Nat.gcd_dvd_left p k)
  have hk := Nat.le_of_dvd h0 (Nat.gcd_dvd_right p k)
  rcases hd with hd | hd
  · exact hd
  · omega
theorem PRn.bin {p k : Nat} (h : PRn p) (h0 : 0 < k) (h1 : k < p) : p ∣ bin p k := by
  obtain ⟨n, rfl⟩ : ∃ n, p = n + 1 := ⟨p - 1, by have := h.1; omega⟩
  obtain ⟨j, rfl⟩ : ∃ j, k = j + 1 := ⟨k - 1, by omega⟩
  refine Nat.Coprime.dvd_of_dvd_mul_left (h.cop h0 h1) ?_
  rw [bin_mul]
  exact Nat.dvd_mul_right _ _
theorem PRn.sum {p a : Nat} (h : PRn p) : ∀ m, m < p → bsum p a (m + 1) % p = 1 := by
  intro m
  have hp := h.1
  induction m with
  | zero => intro _; rw [bsum_s, bin_zero]; show (0 + 1 * a ^ 0) % p = 1; rw [Nat.pow_zero]; exact Nat.mod_eq_of_lt (by omega)
  | succ m ih =>
    intro hm
    obtain ⟨t, ht⟩ := h.bin (k := m + 1) (by omega) hm
    rw [bsum_s, ht, Nat.mul_assoc, Nat.add_mul_mod_self_left]
    exact ih (by omega)
theorem PRn.pow {p : Nat} (h : PRn p) : ∀ a, a ^ p % p = a % p := by
  have hp := h.1
  intro a
  induction a with
  | zero => rw [Nat.zero_pow (by omega)]
  | succ a ih =>
    rw [← bsum_pow, bsum_s, bin_self, Nat.one_mul, Nat.add_mod, ih]
    obtain ⟨q, hq⟩ : ∃ q, p = q + 1 := ⟨p - 1, by omega⟩
    have := h.sum (a := a) q (by omega)
    rw [← hq] at this
    rw [this, ← Nat.mod_eq_of_lt (show 1 < p by omega), ← Nat.add_mod]
    rw [Nat.mod_eq_of_lt (show 1 < p by omega), Nat.add_comm]
theorem PRn.fermat {p a : Nat} (h : PRn p) (h0 : 0 < a) (h1 : a < p) : (a * a ^ (p - 2)) % p = 1 := by
  have hp := h.1
  have e1 : a * a ^ (p - 2) = a ^ (p - 1) := by
    rw [Nat.mul_comm, ← Nat.pow_succ, show (p - 2).succ = p - 1 by omega]
  have e2 : a ^ p = a * a ^ (p - 1) := by
    rw [Nat.mul_comm, ← Nat.pow_succ, show (p - 1).succ = p by omega]
  have pos : 1 ≤ a ^ (p - 1) := Nat.pow_pos h0
  have hm := h.pow a
  rw [e2] at hm
  have dv : p ∣ a * (a ^ (p - 1) - 1) := by
    rw [Nat.mul_sub, Nat.mul_one]
    exact Nat.dvd_of_mod_eq_zero (Nat.sub_mod_eq_zero_of_mod_eq hm)
  have dv2 := Nat.Coprime.dvd_of_dvd_mul_left (h.cop h0 h1) dv
  rw [e1]
  obtain ⟨t, ht⟩ := dv2
  rw [show a ^ (p - 1) = 1 + p * t by omega, Nat.add_mul_mod_self_left]
  exact Nat.mod_eq_of_lt (by omega)
/-! primes as both sides find them; inverses -/
def PRI (n : Int) : Prop := 2 ≤ n ∧ ∀ d, 2 ≤ d → d * d ≤ n → n % d ≠ 0
theorem PRI.nat {n : Int} (h : PRI n) : PRn n.toNat := by
  obtain ⟨h2, h3⟩ := h
  refine ⟨by omega, fun d hd => ?_⟩
  obtain ⟨e, he⟩ := hd
  have hz : d ≠ 0 := by intro z; rw [z, Nat.zero_mul] at he; omega
  have ez : e ≠ 0 := by intro z; rw [z, Nat.mul_zero] at he; omega
  by_cases c1 : d = 1
  · exact Or.inl c1
  by_cases c2 : e = 1
  · rw [c2, Nat.mul_one] at he; exact Or.inr he.symm
  exfalso
  have ne : n = (d : Int) * (e : Int) := by
    have : ((n.toNat : Nat) : Int) = ((d * e : Nat) : Int) := by rw [he]
    rw [Int.natCast_mul] at this
    omega
  by_cases c : d ≤ e
  · refine h3 d (by omega) ?_ ?_
    · rw [ne]; exact Int.mul_le_mul_of_nonneg_left (by omega) (by omega)
    · rw [ne]; exact Int.mul_emod_right _ _
  · refine h3 e (by omega) ?_ ?_
    · rw [ne]; exact Int.mul_le_mul_of_nonneg_right (by omega) (by omega)
    · rw [ne]; exact Int.mul_emod_left _ _
def invS (mu a : Int) : Int := a ^ (mu - 2).toNat % mu
theorem invS_bd {mu a : Int} (h : 2 ≤ mu) : 0 ≤ invS mu a ∧ invS mu a < mu := ⟨Int.emod_nonneg _ (by omega), Int.emod_lt_of_pos _ (by omega)⟩
theorem PRI.inv {mu a : Int} (h : PRI mu) (h0 : 0 < a) (h1 : a < mu) : (a * invS mu a) % mu = 1 := by
  have hn := h.nat.fermat (a := a.toNat) (by omega) (by omega)
  have h2 := h.1
  unfold invS
  rw [Int.mul_emod, Int.emod_emod, ← Int.mul_emod]
  obtain ⟨A, rfl⟩ := Int.eq_ofNat_of_zero_le (show 0 ≤ a by omega)
  obtain ⟨M, rfl⟩ := Int.eq_ofNat_of_zero_le (show 0 ≤ mu by omega)
  rw [show ((M : Int) - 2).toNat = M - 2 by omega, ← Int.natCast_pow, ← Int.natCast_mul, ← Int.natCast_emod]
  rw [show ((A : Int)).toNat = A by omega, show ((M : Int)).toNat = M by omega] at hn
  rw [hn]
  rfl
theorem inv_uniq {mu a x y : Int} (hx : 0 ≤ x ∧ x < mu) (hy : 0 ≤ y ∧ y < mu) (h1 : (a * x) % mu = 1) (h2 : (a * y) % mu = 1) : x = y := by
  have e1 : (x * (a * y)) % mu = x := by
    rw [Int.mul_emod, h2, Int.mul_one, Int.emod_emod]
    exact Int.emod_eq_of_lt hx.1 hx.2
  have e2 : ((a * x) * y) % mu = y := by
    rw [Int.mul_emod, h1, Int.one_mul, Int.emod_emod]
    exact Int.emod_eq_of_lt hy.1 hy.2
  rw [show x * (a * y) = a * x * y by rw [Int.mul_comm a x, Int.mul_assoc], e2] at e1
  exact e1.symm
theorem PRI.cd {mu v : Int} (h : PRI mu) (h0 : 0 < v) (h1 : v < mu) : ∀ g : Int, g ∣ v → g ∣ mu → g ∣ 1 := by
  intro g g1 g2
  have h2 := h.1
  have a1 : g.natAbs ∣ v.natAbs := Int.natAbs_dvd_natAbs.2 g1
  have a2 : g.natAbs ∣ mu.natAbs := Int.natAbs_dvd_natAbs.2 g2
  rw [show mu.natAbs = mu.toNat by omega] at a2
  have a3 := Nat.le_of_dvd (by omega) a1
  rcases h.nat.2 _ a2 with c | c
  · exact Int.natAbs_dvd_natAbs.1 (by rw [c]; exact Nat.dvd_refl 1)
  · omega
/-! Euclid's way -/
theorem euclid_loop {Q : Int → MM → Prop} {m : MM} {mu v : Int} (hmu : 2 ≤ mu ∧ mu ≤ 9973) (h : ∀ z, (0 ≤ z ∧ z < mu) → (v * z) % mu = 1 → Q z m) : ∀ (n : Nat) (a b p q : Int), b.toNat ≤ n → (0 < a ∧ a ≤ mu) → (0 ≤ b ∧ b ≤ mu) → (∀ g : Int, g ∣ a → g ∣ b → g ∣ 1) → ((0 ≤ p ∧ q ≤ 0 ∧ p ≤ mu ∧ p * b - q * a = mu) ∨ (p ≤ 0 ∧ 0 ≤ q ∧ -p ≤ mu ∧ q * a - p * b = mu)) → mu ∣ v * p - a → mu ∣ v * q - b → P_X8_inverse_10 Q (n + 1) mu a b p q m := by
  have fin : ∀ (a p q : Int), (0 < a ∧ a ≤ mu) → (∀ g : Int, g ∣ a → g ∣ 0 → g ∣ 1) → (-mu ≤ p ∧ p ≤ mu) → mu ∣ v * p - a → P_X8_inverse_53 Q mu p m := by
    intro a p q ha hg hp hv
    have ha1 : a = 1 := Int.eq_one_of_dvd_one (by omega) (hg a (Int.dvd_refl a) (Int.dvd_zero a))
    subst ha1
    refine c_floorModI (by constructor <;> omega) (by constructor <;> omega) (by omega) (h _ ⟨Int.emod_nonneg _ (by omega), Int.emod_lt_of_pos _ (by omega)⟩ ?_)
    obtain ⟨t, ht⟩ := hv
    rw [Int.mul_emod, Int.emod_emod, ← Int.mul_emod, show v * p = 1 + mu * t by omega, Int.add_mul_emod_self_left]
    exact Int.emod_eq_of_lt (by omega) (by omega)
  intro n
  induction n with
  | zero =>
    intro a b p q hn ha hb hg hs h1 h2
    have hb0 : b = 0 := by omega
    subst hb0
    refine ⟨by decide, ?_⟩
    rw [if_pos rfl]
    exact fin a p q ha hg (by omega) h1
  | succ n ih =>
    intro a b p q hn ha hb hg hs h1 h2
    refine ⟨by constructor <;> omega, ?_⟩
    by_cases c : b = 0
    · subst c
      rw [if_pos rfl]
      exact fin a p q ha hg (by omega) h1
    · rw [if_neg c]
      refine ⟨by constructor <;> omega, c, ?_⟩
      rw [tdiv_pos (by omega)]
      have hd := Int.mul_ediv_add_emod a b
      have e1 : a - a / b * b = a % b := by rw [Int.mul_comm]; omega
      have r0 := Int.emod_nonneg a (show b ≠ 0 by omega)
      have r1 := Int.emod_lt_of_pos a (show 0 < b by omega)
      have d0 : 0 ≤ a / b := Int.ediv_nonneg (by omega) (by omega)
      rw [e1]
      refine ih b (a % b) q (p - a / b * q) (by omega) (by omega) (by omega) (fun g g1 g2 => hg g ?_ g1) ?_ h2 ?_
      · rw [← hd]
        exact Int.dvd_add (Int.dvd_mul_of_dvd_left g1) g2
      · have e2 : (p - a / b * q) * b = p * b - q * (b * (a / b)) := by
          rw [Int.sub_mul, Int.mul_comm (a / b) q, Int.mul_assoc, Int.mul_comm (a / b) b]
        have e3 : q * (a % b) = q * a - q * (b * (a / b)) := by
          rw [← Int.mul_sub]
          congr 1
          omega
        rcases hs with ⟨s1, s2, s3, s4⟩ | ⟨s1, s2, s3, s4⟩
        · right
          have t1 : a / b * q ≤ 0 := Int.mul_nonpos_of_nonneg_of_nonpos d0 s2
          refine ⟨s2, by omega, ?_, by rw [e2, e3]; omega⟩
          have t2 : 0 ≤ p * b := Int.mul_nonneg s1 hb.1
          have t3 : -q * 1 ≤ -q * a := Int.mul_le_mul_of_nonneg_left (by omega) (by omega)
          rw [Int.neg_mul, Int.neg_mul, Int.mul_one] at t3
          omega
        · left
          have t1 : 0 ≤ a / b * q := Int.mul_nonneg d0 s2
          refine ⟨s2, by omega, ?_, by rw [e2, e3]; omega⟩
          have t2 : 0 ≤ -p * b := Int.mul_nonneg (by omega) hb.1
          rw [Int.neg_mul] at t2
          have t3 : q * 1 ≤ q * a := Int.mul_le_mul_of_nonneg_left (by omega) s2
          rw [Int.mul_one] at t3
          omega
      · have e4 : v * (p - a / b * q) - a % b = (v * p - a) - (a / b) * (v * q - b) := by
          rw [Int.mul_sub, Int.mul_sub, ← Int.mul_assoc v, Int.mul_comm v (a / b), Int.mul_assoc]
          have : a / b * b = b * (a / b) := Int.mul_comm _ _
          omega
        rw [e4]
        exact Int.dvd_sub h1 (Int.dvd_mul_of_dvd_right h2)
theorem c_X8_inverse {Q : Int → MM → Prop} {m : MM} {mu v : Int} (hp : PRI mu) (hm : mu ≤ 9973) (hv : 0 < v ∧ v < mu) (h : Q (invS mu v) m) : P_X8_inverse v mu m Q := by
  have h2 := hp.1
  refine ⟨mu.toNat + 1, euclid_loop (v := v) ⟨h2, hm⟩ (fun z hz e => ?_) mu.toNat v mu 1 0 (Nat.le_refl _) (by omega) (by omega) (hp.cd hv.1 hv.2) (Or.inl ⟨by decide, by decide, by omega, by omega⟩) (by rw [Int.mul_one, Int.sub_self]; exact Int.dvd_zero _) ?_⟩
  · rw [inv_uniq hz (invS_bd h2) e (hp.inv hv.1 hv.2)]
    exact h
  · rw [Int.mul_zero, Int.zero_sub]
    exact Int.dvd_neg.2 (Int.dvd_refl mu)
/-! by powers -/
theorem powm {x n : Int} : ∀ k : Nat, (x % n) ^ k % n = x ^ k % n := by
  intro k
  induction k with
  | zero => rw [Int.pow_zero, Int.pow_zero]
  | succ k ih => rw [Int.pow_succ, Int.pow_succ, Int.mul_emod, ih, Int.emod_emod, ← Int.mul_emod]
theorem pow_loop {Q : Int → MM → Prop} {m : MM} {mu a : Int} (hmu : 2 ≤ mu ∧ mu ≤ 9973) (g : Int) (h : (2 < mu → Q g m) ∧ (mu = 2 → Q a m)) : ∀ (n : Nat) (k : Nat) (p x : Int), k ≤ n → k ≤ 9973 → (0 ≤ p ∧ p < mu) → (0 ≤ x ∧ x < mu) → (p * x ^ k) % mu = g → P_X10_inverse_13 Q (n + 1) a mu p x (k : Int) m := by
  have bd : ∀ x y : Int, (0 ≤ x ∧ x < mu) → (0 ≤ y ∧ y < mu) → 0 ≤ x * y ∧ x * y ≤ 9973 * 9973 := by
    intro x y hx hy
    exact ⟨Int.mul_nonneg hx.1 hy.1, Int.mul_le_mul (by omega) (by omega) hy.1 (by decide)⟩
  have md : ∀ x : Int, 0 ≤ x % mu ∧ x % mu < mu := fun x => ⟨Int.emod_nonneg _ (by omega), Int.emod_lt_of_pos _ (by omega)⟩
  have fin : ∀ (p x : Int), (0 ≤ p ∧ p < mu) → (p * x ^ 0) % mu = g → P_X10_inverse_56 Q a mu p m := by
    intro p x hp hg
    refine ⟨by constructor <;> omega, ?_⟩
    by_cases c : mu = 2
    · rw [if_pos c]; exact h.2 c
    · rw [if_neg c]
      rw [Int.pow_zero, Int.mul_one, Int.emod_eq_of_lt hp.1 hp.2] at hg
      rw [hg]
      exact h.1 (by omega)
  intro n
  induction n with
  | zero =>
    intro k p x hn hk hp hx hg
    have : k = 0 := by omega
    subst this
    refine ⟨by decide, ?_⟩
    rw [if_pos (by decide)]
    exact fin p x hp hg
  | succ n ih =>
    intro k p x hn hk hp hx hg
    refine ⟨by constructor <;> omega, ?_⟩
    by_cases c : k = 0
    · subst c
      rw [if_pos (by decide)]
      exact fin p x hp hg
    · rw [if_neg (by omega), lAnd1]
      refine ⟨by constructor <;> omega, ?_⟩
      have e2 : lShr (k : Int) 1 = ((k / 2 : Nat) : Int) := by
        have := lShr_eq (x := (k : Int)) 1 (by constructor <;> omega) (by decide)
        rw [show ((1 : Nat) : Int) = 1 from rfl] at this
        rw [this]
        show (k : Int) / 2 = _
        omega
      have sq : x ^ (2 * (k / 2)) = (x * x) ^ (k / 2) := by
        rw [Int.pow_mul, show (2 : Nat) = 1 + 1 from rfl, Int.pow_succ, Int.pow_succ, Int.pow_zero, Int.one_mul]
      have b1 := bd x x hx hx
      have b2 := bd p x hp hx
      have step : ∀ p' : Int, (0 ≤ p' ∧ p' < mu) → (p' * (x * x) ^ (k / 2)) % mu = g → P_X10_inverse_38 Q (fun z0 z1 z2 z3 z4 z5 => P_X10_inverse_13 Q (n + 1) z0 z1 z2 z3 z4 z5) a mu p' x (k : Int) m := by
        intro p' hp' hg'
        refine ⟨by constructor <;> omega, by constructor <;> omega, by omega, ?_⟩
        rw [tmod_pos b1.1, e2]
        refine ih (k / 2) p' _ (by omega) (by omega) hp' (md _) ?_
        rw [Int.mul_emod, powm, ← Int.mul_emod]
        exact hg'
      by_cases c1 : (k : Int) % 2 = 1
      · rw [if_pos c1]
        refine ⟨by constructor <;> omega, by constructor <;> omega, by omega, ?_⟩
        rw [tmod_pos b2.1]
        refine step _ (md _) ?_
        rw [Int.mul_emod, Int.emod_emod, ← Int.mul_emod, Int.mul_assoc, ← sq, ← hg]
        congr 2
        rw [Int.mul_comm, ← Int.pow_succ]
        congr 1
        omega
      · rw [if_neg c1]
        refine step p hp ?_
        rw [← sq, ← hg, show 2 * (k / 2) = k by omega]
theorem c_X10_inverse {Q : Int → MM → Prop} {m : MM} {mu v : Int} (hm : 2 ≤ mu ∧ mu ≤ 9973) (hv : 0 < v ∧ v < mu) (h : Q (invS mu v) m) : P_X10_inverse v mu m Q := by
  have key := pow_loop (Q := Q) (m := m) (a := v) hm (invS mu v) ⟨fun _ => h, fun c => ?_⟩ (mu - 2).toNat (mu - 2).toNat 1 v (Nat.le_refl _) (by omega) (by omega) (by omega) (by rw [Int.one_mul]; rfl)
  · rw [show (((mu - 2).toNat : Nat) : Int) = mu - 2 by omega] at key
    exact ⟨_, key⟩
  · subst c
    have : v = 1 := by omega
    subst this
    exact h
