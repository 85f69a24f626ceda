set_option maxRecDepth 100000
/-! quotients of numbers of a field -/
def FD (mu : Int) : Prop := mu = 1 ∨ PRI mu
def divS (mu : Int) (p q : PP) : EX PP := if mu = 1 then nmS 1 (p.1 * q.2) (p.2 * q.1) else nmS mu (p.1 * invS mu q.1) 1
theorem divS_err {mu e : Int} {p q : PP} (h : divS mu p q = .error e) : e = 1 := by
  unfold divS at h
  split at h
  · exact nmS_err h
  · exact nmS_err h
theorem NB.div {mu : Int} {p q r : PP} (hm : MU mu) (hp : NB mu p) (hq : NB mu q) (h0 : q.1 ≠ 0) (h : divS mu p q = .ok r) : NB mu r := by
  unfold divS at h
  split at h
  case isTrue c =>
    subst c
    refine NB_nm hm (fun k => absurd rfl k) ?_ h
    exact Int.mul_ne_zero (by have := hp.p2; omega) h0
  case isFalse c => exact NB_nm hm (fun _ => rfl) (by decide) h
theorem nm_low {a b p1 p2 t : Int} (ht : 0 < t) (h2 : 0 < p2) (hg : Int.gcd p1 p2 = 1) (ea : a = t * p1) (eb : b = t * p2) : nmV 1 a b = (p1, p2) := by
  have g : (Int.gcd a b : Int) = t := by
    rw [ea, eb, Int.gcd_mul_left, hg, Nat.mul_one]
    omega
  have hb : 0 < b := by rw [eb]; exact Int.mul_pos ht h2
  show ((if b < 0 then Int.tdiv (-a) (Int.gcd a b) else Int.tdiv a (Int.gcd a b)), Int.tdiv (b.natAbs : Int) (Int.gcd a b)) = _
  rw [if_neg (by omega), show (b.natAbs : Int) = b by omega, g, ea, eb, Int.mul_tdiv_cancel_left _ (by omega), Int.mul_tdiv_cancel_left _ (by omega)]
/-- a fraction equal to one in least terms -/
theorem nm_frac {a b p1 p2 : Int} (hb : 0 < b) (h2 : 0 < p2) (hg : Int.gcd p1 p2 = 1) (h : a * p2 = b * p1) : nmV 1 a b = (p1, p2) := by
  have d : p2 ∣ b := by
    have : p2 ∣ b * p1 := ⟨a, by rw [← h, Int.mul_comm]⟩
    have t2 : p2.natAbs ∣ b.natAbs * p1.natAbs := by rw [← Int.natAbs_mul]; exact Int.natAbs_dvd_natAbs.2 this
    have cp : Nat.Coprime p2.natAbs p1.natAbs := by
      have : Nat.gcd p1.natAbs p2.natAbs = 1 := hg
      rw [Nat.gcd_comm] at this
      exact this
    exact Int.natAbs_dvd_natAbs.1 (Nat.Coprime.dvd_of_dvd_mul_right cp t2)
  obtain ⟨t, ht⟩ := d
  have t0 : 0 < t := by
    by_cases c : 0 < t
    · exact c
    · have := Int.mul_nonpos_of_nonneg_of_nonpos (show 0 ≤ p2 by omega) (show t ≤ 0 by omega)
      omega
  refine nm_low t0 h2 hg ?_ (by rw [ht, Int.mul_comm])
  have : p2 * a = p2 * (t * p1) := by rw [Int.mul_comm p2 a, h, ht, Int.mul_assoc]
  exact Int.eq_of_mul_eq_mul_left (by omega) this
theorem div_mul {mu : Int} {p q c : PP} (hM : MU mu) (hf : FD mu) (hp : NB mu p) (hq : NB mu q) (h0 : q.1 ≠ 0) (h : divS mu p q = .ok c) : mulS mu c q = .ok p := by
  have nc := NB.div hM hp hq h0 h
  rcases hf with rfl | hf
  · unfold divS at h
    rw [if_pos rfl] at h
    unfold nmS at h
    split at h
    case isFalse => cases h
    case isTrue ok =>
      cases h
      have p2 := hp.p2
      have q2 := hq.p2
      have g0 := gcd_pos (a := p.1 * q.2) (b := p.2 * q.1) (Int.mul_ne_zero (by omega) h0)
      have d1 : (Int.gcd (p.1 * q.2) (p.2 * q.1) : Int) ∣ p.1 * q.2 := Int.gcd_dvd_left ..
      have d2 : (Int.gcd (p.1 * q.2) (p.2 * q.1) : Int) ∣ p.2 * q.1 := Int.gcd_dvd_right ..
      have key : (nmV 1 (p.1 * q.2) (p.2 * q.1)).1 * (p.2 * q.1) = (nmV 1 (p.1 * q.2) (p.2 * q.1)).2 * (p.1 * q.2) := by
        show (if p.2 * q.1 < 0 then Int.tdiv (-(p.1 * q.2)) (Int.gcd (p.1 * q.2) (p.2 * q.1)) else Int.tdiv (p.1 * q.2) (Int.gcd (p.1 * q.2) (p.2 * q.1))) * (p.2 * q.1) = Int.tdiv ((p.2 * q.1).natAbs : Int) (Int.gcd (p.1 * q.2) (p.2 * q.1)) * (p.1 * q.2)
        generalize hg : (Int.gcd (p.1 * q.2) (p.2 * q.1) : Int) = g at *
        generalize hA : p.1 * q.2 = A at *
        generalize hB : p.2 * q.1 = B at *
        obtain ⟨u, rfl⟩ := d1
        obtain ⟨v, rfl⟩ := d2
        split
        case isTrue c =>
          rw [show ((g * v).natAbs : Int) = g * (-v) by rw [Int.mul_neg]; omega, ← Int.mul_neg, Int.mul_tdiv_cancel_left _ (by omega), Int.mul_tdiv_cancel_left _ (by omega), Int.neg_mul, Int.neg_mul, ← Int.mul_assoc, ← Int.mul_assoc, Int.mul_comm u g, Int.mul_comm v g, Int.mul_assoc, Int.mul_assoc, Int.mul_comm u v]
        case isFalse c =>
          rw [show ((g * v).natAbs : Int) = g * v by omega, Int.mul_tdiv_cancel_left _ (by omega), Int.mul_tdiv_cancel_left _ (by omega), ← Int.mul_assoc, ← Int.mul_assoc, Int.mul_comm u g, Int.mul_comm v g, Int.mul_assoc, Int.mul_assoc, Int.mul_comm u v]
      generalize nmV 1 (p.1 * q.2) (p.2 * q.1) = c at *
      have c2 := nc.p2
      have fr : nmV 1 (c.1 * q.1) (c.2 * q.2) = (p.1, p.2) := by
        refine nm_frac (Int.mul_pos (by omega) (by omega)) (by omega) (hp.2.2.2.1 rfl) ?_
        rw [Int.mul_assoc, Int.mul_comm q.1 p.2, key, Int.mul_assoc, Int.mul_comm q.2 p.1]
      unfold mulS nmS
      rw [if_pos rfl, fr, if_pos hp.1]
  · have h2 := hf.1
    have n1 : ¬ mu = 1 := by omega
    have q1 := hq.2.2.2.2 (by omega)
    have p1 := hp.2.2.2.2 (by omega)
    have pb : p.2 = 1 := hp.2.2.1 n1
    have hi := hf.inv (a := q.1) (by omega) (by omega)
    unfold divS at h
    rw [if_neg n1] at h
    unfold nmS at h
    split at h
    case isFalse => cases h
    case isTrue ok =>
      cases h
      unfold mulS
      rw [if_neg n1]
      unfold nmS
      have ev : nmV mu ((nmV mu (p.1 * invS mu q.1) 1).1 * q.1) 1 = p := by
        unfold nmV
        rw [if_neg (show ¬ mu = 0 by omega), if_neg n1, if_neg (show ¬ mu = 0 by omega), if_neg n1]
        show ((p.1 * invS mu q.1 % mu) * q.1 % mu, (1 : Int)) = p
        rw [Int.mul_emod, Int.emod_emod, ← Int.mul_emod, Int.mul_assoc, Int.mul_comm (invS mu q.1), Int.mul_emod, hi, Int.mul_one, Int.emod_emod, Int.emod_eq_of_lt p1.1 p1.2, ← pb]
      rw [ev, if_pos hp.1]
theorem sub_self {mu : Int} {p : PP} (hM : MU mu) (hp : NB mu p) : addS mu 1 p p = .ok (0, 1) := by
  unfold addS
  rw [if_neg (show ¬ (1 : Int) = 0 by decide)]
  have p2 := hp.p2
  by_cases c : mu = 1
  · subst c
    rw [if_pos rfl, Int.neg_mul, Int.add_right_neg]
    have pp := Int.mul_pos (show 0 < p.2 by omega) (show 0 < p.2 by omega)
    have e := nm_low (a := 0) (b := p.2 * p.2) (p1 := 0) (p2 := 1) (t := p.2 * p.2) pp (by decide) (by decide) (by omega) (by omega)
    unfold nmS
    rw [e, if_pos (by decide)]
  · rw [if_neg c, Int.add_right_neg]
    unfold nmS nmV
    by_cases c0 : mu = 0
    · rw [if_pos c0, if_pos (by decide)]
    · rw [if_neg c0, if_neg c, Int.zero_emod, if_pos (by decide)]
theorem c_X8_by {m : MM} {Q : Int → MM → Prop} {base mu x y to : Int} (hb : RI base) (hmu : muC m base = mu) (hM : MU mu) (hf : FD mu) (hx : 0 ≤ x ∧ x + 1 < 1159540) (hy : 0 ≤ y ∧ y + 1 < 1159540) (ht : 0 ≤ to ∧ to + 1 < 1159540) (nx : NB mu (pr m 379 x)) (ny : NB mu (pr m 379 y)) (h0 : (pr m 379 y).1 ≠ 0) (ok : ∀ p, divS mu (pr m 379 x) (pr m 379 y) = .ok p → Q 0 (pt m 379 to p)) (er : ∀ e, divS mu (pr m 379 x) (pr m 379 y) = .error e → Q 0 (up m 378 2 e)) : P_X8_by base x y to m Q := by
  have x1 : -999999999 ≤ m 379 x ∧ m 379 x ≤ 999999999 := nx.p1
  have x2 : 1 ≤ m 379 (x + 1) ∧ m 379 (x + 1) ≤ 999999999 := nx.p2
  have y1 : -999999999 ≤ m 379 y ∧ m 379 y ≤ 999999999 := ny.p1
  have y2 : 1 ≤ m 379 (y + 1) ∧ m 379 (y + 1) ≤ 999999999 := ny.p2
  have y0 : m 379 y ≠ 0 := h0
  refine c_X8_modulus hb ?_
  rw [hmu]
  refine ⟨by constructor <;> omega, ?_⟩
  unfold divS at ok er
  rcases hf with c | c
  · subst c
    rw [if_neg (by decide)]
    rw [if_pos rfl] at ok er
    have h1 := mul_bd x1 (y := m 379 (y + 1)) (by omega)
    have h2 := mul_bd (x := m 379 (x + 1)) (by omega) y1
    have h3 := Int.mul_ne_zero (show m 379 (x + 1) ≠ 0 by omega) y0
    exact ⟨by omega, by constructor <;> omega, by omega, by constructor <;> omega, by omega, by constructor <;> omega, by omega, by constructor <;> omega, c_X8_least (by constructor <;> omega) (by constructor <;> omega) h3 ht ok er⟩
  · have h2 := c.1
    rw [if_pos (by omega)]
    rw [if_neg (by omega)] at ok er
    have u : 0 ≤ m 379 x ∧ m 379 x < mu := nx.2.2.2.2 (by omega)
    have v : 0 ≤ m 379 y ∧ m 379 y < mu := ny.2.2.2.2 (by omega)
    have ib := invS_bd (a := m 379 y) h2
    have pb : 0 ≤ m 379 x * invS mu (m 379 y) := Int.mul_nonneg u.1 ib.1
    have pc : m 379 x * invS mu (m 379 y) ≤ 9973 * 9973 := Int.mul_le_mul (by omega) (by omega) ib.1 (by decide)
    refine ⟨by omega, by constructor <;> omega, by omega, c_X8_inverse c hM.2 (by omega) ⟨by constructor <;> omega, by constructor <;> omega, by constructor <;> omega, by omega, ?_⟩⟩
    rw [tmod_pos pb]
    have e2 : nmV mu (m 379 x * invS mu (m 379 y)) 1 = ((m 379 x * invS mu (m 379 y)) % mu, 1) := by unfold nmV; rw [if_neg (by omega), if_neg (by omega)]
    have h3 := Int.emod_nonneg (m 379 x * invS mu (m 379 y)) (show mu ≠ 0 by omega)
    have h4 := Int.emod_lt_of_pos (m 379 x * invS mu (m 379 y)) (show 0 < mu by omega)
    refine c_X8_put (by constructor <;> omega) (by decide) ht (fun k => ok _ ?_) (fun k => er _ ?_)
    · show nmS mu (m 379 x * invS mu (m 379 y)) 1 = _
      unfold nmS
      rw [e2, if_pos k]
    · show nmS mu (m 379 x * invS mu (m 379 y)) 1 = _
      unfold nmS
      rw [e2, if_neg k]
theorem c_X10_divideNumbers {m : MM} {Q : Int → MM → Prop} {base mu x y : Int} (he : m 582 84 = 0) (hB : BM m base mu) (hf : FD mu) (hx : 0 ≤ x ∧ x + 1 < 1600000) (hy : 0 ≤ y ∧ y + 1 < 1600000) (nx : NB mu (pr m 635 x)) (ny : NB mu (pr m 635 y)) (h0 : (pr m 635 y).1 ≠ 0) (h : ∀ m', MN m m' (divS mu (pr m 635 x) (pr m 635 y)) → Q 0 m') : P_X10_divideNumbers base x y m Q := by
  have x1 : -999999999 ≤ m 635 x ∧ m 635 x ≤ 999999999 := nx.p1
  have x2 : 1 ≤ m 635 (x + 1) ∧ m 635 (x + 1) ≤ 999999999 := nx.p2
  have y1 : -999999999 ≤ m 635 y ∧ m 635 y ≤ 999999999 := ny.p1
  have y2 : 1 ≤ m 635 (y + 1) ∧ m 635 (y + 1) ≤ 999999999 := ny.p2
  have y0 : m 635 y ≠ 0 := h0
  have h1 := hB.one
  obtain ⟨b0, b1, b2, b3, b4⟩ := hB
  refine ⟨by omega, by constructor <;> omega, ?_⟩
  rw [if_neg y0]
  refine ⟨by constructor <;> omega, ?_⟩
  unfold divS at h
  by_cases c : base = 1
  · have c1 := h1.1 c
    rw [if_pos c]
    rw [if_pos c1, ← c1] at h
    have q1 := mul_bd x1 (y := m 635 (y + 1)) (by omega)
    have q2 := mul_bd (x := m 635 (x + 1)) (by omega) y1
    have q3 := Int.mul_ne_zero (show m 635 (x + 1) ≠ 0 by omega) y0
    exact ⟨by omega, by omega, by omega, c_X10_number he (by constructor <;> omega) b0 b2 b3 b4 (by constructor <;> omega) (by constructor <;> omega) q3 h⟩
  · have c1 : ¬ mu = 1 := fun k => c (h1.2 k)
    rw [if_neg c]
    rw [if_neg c1] at h
    rcases hf with f | f
    · exact absurd f c1
    have h2 := f.1
    have u : 0 ≤ m 635 x ∧ m 635 x < mu := nx.2.2.2.2 (by omega)
    have v : 0 ≤ m 635 y ∧ m 635 y < mu := ny.2.2.2.2 (by omega)
    have ib := invS_bd (a := m 635 y) h2
    have pb : 0 ≤ m 635 x * invS mu (m 635 y) := Int.mul_nonneg u.1 ib.1
    have pc : m 635 x * invS mu (m 635 y) ≤ 9973 * 9973 := Int.mul_le_mul (by omega) (by omega) ib.1 (by decide)
    exact ⟨by omega, c_X10_modulo (by constructor <;> omega) b2 (by constructor <;> omega) (c_X10_inverse (by omega) (by omega) (c_X10_number he (by constructor <;> omega) b0 b2 b3 b4 (by constructor <;> omega) (by decide) (by decide) h))⟩
theorem c_X10_divideNumbers0 {m : MM} {Q : Int → MM → Prop} {base x y : Int} (he : m 582 84 = 0) (hy : 0 ≤ y ∧ y + 1 < 1600000) (h0 : (pr m 635 y).1 = 0) (h : Q 0 (up m 582 84 2)) : P_X10_divideNumbers base x y m Q := by
  have y0 : m 635 y = 0 := h0
  refine ⟨by omega, by rw [y0]; decide, ?_⟩
  rw [if_pos y0]
  refine ⟨by rw [he]; decide, ?_⟩
  rw [if_pos he]
  rintro _ rfl
  exact h
/-! degrees -/
def degG (u : Int → PP) : Nat → Int
  | 0 => -1
  | n + 1 => if (u (n : Int)).1 = 0 then degG u n else (n : Int)
def degS (u : Int → PP) : Int := degG u 7
theorem degG_bd (u : Int → PP) : ∀ n : Nat, -1 ≤ degG u n ∧ degG u n < (n : Int) := by
  intro n
  induction n with
  | zero => exact ⟨show (-1 : Int) ≤ -1 by decide, show (-1 : Int) < 0 by decide⟩
  | succ n ih => unfold degG; split <;> constructor <;> omega
theorem degG_nz {u : Int → PP} : ∀ n : Nat, 0 ≤ degG u n → (u (degG u n)).1 ≠ 0 := by
  intro n
  induction n with
  | zero => intro h; exact absurd h (show ¬ (0 : Int) ≤ -1 by decide)
  | succ n ih =>
    intro h
    unfold degG at h ⊢
    split
    case isTrue c => rw [if_pos c] at h; exact ih h
    case isFalse c => exact c
theorem degG_ab {u : Int → PP} : ∀ (n : Nat) (j : Int), degG u n < j → j < (n : Int) → (u j).1 = 0 := by
  intro n
  induction n with
  | zero => intro j h1 h2; have : -1 < j := h1; omega
  | succ n ih =>
    intro j h1 h2
    unfold degG at h1
    split at h1
    case isTrue c =>
      by_cases cc : j = n
      · rw [cc]; exact c
      · exact ih j h1 (by omega)
    case isFalse c => omega
theorem degG_le {u : Int → PP} {e : Int} : ∀ (n : Nat), -1 ≤ e → (∀ j : Int, e < j → j < (n : Int) → (u j).1 = 0) → degG u n ≤ e := by
  intro n h0 h
  by_cases c : degG u n ≤ e
  · exact c
  · exact absurd (h _ (by omega) (degG_bd u n).2) (degG_nz n (by omega))
theorem degS_bd (u : Int → PP) : -1 ≤ degS u ∧ degS u ≤ 6 := by have := degG_bd u 7; unfold degS; omega
theorem c_X8_degree {m : MM} {Q : Int → MM → Prop} {x : Int} {u : Int → PP} (hx : Cl x 14) (r : Rw (m 379) x u 7) (hr : ∀ k, 0 ≤ k → k < 7 → RI (u k).1) (h : Q (degS u) m) : P_X8_degree x m Q := by
  have L : ∀ n : Nat, n ≤ 7 → Q (degG u n) m → P_X8_degree_3 Q (n + 1) x ((n : Int) - 1) m := by
    intro n
    induction n with
    | zero => intro _ q; refine ⟨by decide, ?_⟩; rw [if_pos (by decide)]; exact q
    | succ n ih =>
      intro hn q
      have rk := (r n (by omega) (by omega)).1
      refine ⟨by constructor <;> omega, ?_⟩
      rw [if_neg (by omega), show ((n + 1 : Nat) : Int) - 1 = (n : Int) by omega, rk]
      refine ⟨by omega, hr n (by omega) (by omega), ?_⟩
      unfold degG at q
      split
      case isTrue c =>
        rw [if_pos c] at q
        have := ih (by omega) q
        rw [show (n : Int) - 1 = (n : Int) + -1 by omega] at this
        exact this
      case isFalse c => rw [if_neg c] at q; exact q
  exact ⟨8, L 7 (by decide) h⟩
theorem c_X10_degreeOf {m : MM} {Q : Int → MM → Prop} {x : Int} {u : Int → PP} (hx : Pl x 14) (r : Rw (m 635) x u 7) (hr : ∀ k, 0 ≤ k → k < 7 → RL (u k).1) (h : Q (degS u) m) : P_X10_degreeOf x m Q := by
  have L : ∀ n : Nat, n ≤ 7 → Q (degG u n) m → P_X10_degreeOf_3 Q (n + 1) x ((n : Int) - 1) m := by
    intro n
    induction n with
    | zero => intro _ q; refine ⟨by decide, ?_⟩; rw [if_pos (by decide)]; exact q
    | succ n ih =>
      intro hn q
      have rk := (r n (by omega) (by omega)).1
      refine ⟨by constructor <;> omega, ?_⟩
      rw [if_neg (by omega), show ((n + 1 : Nat) : Int) - 1 = (n : Int) by omega, rk]
      refine ⟨by omega, hr n (by omega) (by omega), ?_⟩
      unfold degG at q
      split
      case isTrue c =>
        rw [if_pos c] at q
        have := ih (by omega) q
        rw [show (n : Int) - 1 = (n : Int) + -1 by omega] at this
        exact this
      case isFalse c => rw [if_neg c] at q; exact q
  exact ⟨8, L 7 (by decide) h⟩
