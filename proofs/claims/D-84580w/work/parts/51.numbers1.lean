set_option maxRecDepth 100000
/-! one number: the specification, and that both sides reckon it -/
abbrev okP (p : PP) : Prop := -999999999 ≤ p.1 ∧ p.1 ≤ 999999999 ∧ p.2 ≤ 999999999
/-- a number by its modulus (0: Z, 1: Q) comes of two -/
def nmV (mu a b : Int) : PP := if mu = 0 then (a, b) else if mu = 1 then ((if b < 0 then Int.tdiv (-a) (Int.gcd a b) else Int.tdiv a (Int.gcd a b)), Int.tdiv (b.natAbs : Int) (Int.gcd a b)) else (a % mu, 1)
def nmS (mu a b : Int) : EX PP := if okP (nmV mu a b) then .ok (nmV mu a b) else .error 1
/-- a number of a ring is in its least form -/
def NB (mu : Int) (p : PP) : Prop := okP p ∧ 1 ≤ p.2 ∧ (mu ≠ 1 → p.2 = 1) ∧ (mu = 1 → Int.gcd p.1 p.2 = 1) ∧ (1 < mu → 0 ≤ p.1 ∧ p.1 < mu)
abbrev MU (mu : Int) : Prop := 0 ≤ mu ∧ mu ≤ 9973
def addS (mu ls : Int) (p q : PP) : EX PP := if mu = 1 then nmS 1 (p.1 * q.2 + (if ls = 0 then q.1 else -q.1) * p.2) (p.2 * q.2) else nmS mu (p.1 + (if ls = 0 then q.1 else -q.1)) 1
def mulS (mu : Int) (p q : PP) : EX PP := if mu = 1 then nmS 1 (p.1 * q.1) (p.2 * q.2) else nmS mu (p.1 * q.1) 1
def pr (m : MM) (a x : Int) : PP := (m a x, m a (x + 1))
def pt (m : MM) (a x : Int) (p : PP) : MM := up (up m a x p.1) a (x + 1) p.2
def muC (m : MM) (b : Int) : Int := if b < 20000 then b else m 378 1
def muM (m : MM) (b : Int) : Int := if b = 10007 then m 582 89 else if b = 10000 then m 582 89 else b
theorem nat_bd {x y : Int} {N : Nat} (hx : x.natAbs ≤ N) (hy : y.natAbs ≤ N) : (x * y).natAbs ≤ N * N := by
  rw [Int.natAbs_mul]
  exact Nat.mul_le_mul hx hy
theorem mul_bd {x y : Int} (hx : -999999999 ≤ x ∧ x ≤ 999999999) (hy : -999999999 ≤ y ∧ y ≤ 999999999) : -999999998000000001 ≤ x * y ∧ x * y ≤ 999999998000000001 := by
  have h := nat_bd (x := x) (y := y) (N := 999999999) (by omega) (by omega)
  omega
theorem tdiv_dvd {a g : Int} (h : g ∣ a) : Int.tdiv a g = a / g := Int.tdiv_eq_ediv_of_dvd h
theorem gcd_pos {a b : Int} (h : b ≠ 0) : 0 < (Int.gcd a b : Int) := by
  have := Int.gcd_pos_of_ne_zero_right a h
  omega
theorem ediv_ge_one {b g : Int} (hg : 0 < g) (hd : g ∣ b) (hb : 0 < b) : 1 ≤ b / g := by
  obtain ⟨k, rfl⟩ := hd
  rw [Int.mul_ediv_cancel_left _ (by omega)]
  exact Int.pos_of_mul_pos_right hb (by omega)
theorem NB_nm {mu a b : Int} {p : PP} (hm : MU mu) (hb : mu ≠ 1 → b = 1) (h0 : b ≠ 0) (h : nmS mu a b = .ok p) : NB mu p := by
  unfold nmS at h
  split at h
  case isFalse => cases h
  case isTrue c =>
    cases h
    refine ⟨c, ?_⟩
    unfold nmV
    by_cases c0 : mu = 0
    · rw [if_pos c0]
      have := hb (by omega)
      subst this
      refine ⟨Int.le_refl _, fun _ => rfl, fun k => by omega, fun k => by omega⟩
    rw [if_neg c0]
    by_cases c1 : mu = 1
    · rw [if_pos c1]
      have hg := gcd_pos (a := a) h0
      have d1 : (Int.gcd a b : Int) ∣ a := Int.gcd_dvd_left ..
      have d2 : (Int.gcd a b : Int) ∣ b := Int.gcd_dvd_right ..
      have d3 : (Int.gcd a b : Int) ∣ (b.natAbs : Int) := Int.dvd_natAbs.2 d2
      have d4 : (Int.gcd a b : Int) ∣ -a := Int.dvd_neg.2 d1
      refine ⟨?_, fun k => absurd c1 k, fun _ => ?_, fun k => by omega⟩
      · show 1 ≤ Int.tdiv (b.natAbs : Int) (Int.gcd a b)
        rw [tdiv_dvd d3]
        exact ediv_ge_one hg d3 (by omega)
      · show Int.gcd (if b < 0 then Int.tdiv (-a) (Int.gcd a b) else Int.tdiv a (Int.gcd a b)) (Int.tdiv (b.natAbs : Int) (Int.gcd a b)) = 1
        have hq := Int.gcd_ediv_gcd_ediv_gcd (i := a) (j := b) (by omega)
        rw [tdiv_dvd d3, tdiv_dvd d4, tdiv_dvd d1]
        split
        · rw [show (b.natAbs : Int) = -b by omega, Int.neg_ediv_of_dvd d1, Int.neg_ediv_of_dvd d2, Int.gcd_neg, Int.neg_gcd]
          exact hq
        · rw [show (b.natAbs : Int) = b by omega]
          exact hq
    · rw [if_neg c1]
      refine ⟨Int.le_refl _, fun _ => rfl, fun k => absurd k c1, fun k => ⟨Int.emod_nonneg _ (by omega), Int.emod_lt_of_pos _ (by omega)⟩⟩
theorem NB.p2 {mu : Int} {p : PP} (h : NB mu p) : 1 ≤ p.2 ∧ p.2 ≤ 999999999 := ⟨h.2.1, h.1.2.2⟩
theorem NB.p1 {mu : Int} {p : PP} (h : NB mu p) : -999999999 ≤ p.1 ∧ p.1 ≤ 999999999 := ⟨h.1.1, h.1.2.1⟩
theorem NB.add {mu ls : Int} {p q r : PP} (hm : MU mu) (hp : NB mu p) (hq : NB mu q) (h : addS mu ls p q = .ok r) : NB mu r := by
  unfold addS at h
  split at h
  case isTrue c =>
    subst c
    refine NB_nm hm (fun k => absurd rfl k) ?_ h
    have := Int.mul_pos (show 0 < p.2 by have := hp.p2; omega) (show 0 < q.2 by have := hq.p2; omega)
    omega
  case isFalse c => exact NB_nm hm (fun _ => rfl) (by decide) h
theorem NB.mul {mu : Int} {p q r : PP} (hm : MU mu) (hp : NB mu p) (hq : NB mu q) (h : mulS mu p q = .ok r) : NB mu r := by
  unfold mulS at h
  split at h
  case isTrue c =>
    subst c
    refine NB_nm hm (fun k => absurd rfl k) ?_ h
    have := Int.mul_pos (show 0 < p.2 by have := hp.p2; omega) (show 0 < q.2 by have := hq.p2; omega)
    omega
  case isFalse c => exact NB_nm hm (fun _ => rfl) (by decide) h
/-! the component -/
theorem c_X8_put {m : MM} {Q : Int → MM → Prop} {to a b : Int} (ha : RL a) (hb : RL b) (ht : 0 ≤ to ∧ to + 1 < 1159540) (ok : okP (a, b) → Q 0 (pt m 379 to (a, b))) (er : ¬ okP (a, b) → Q 0 (up m 378 2 1)) : P_X8_put to a b m Q := by
  unfold P_X8_put
  refine ⟨ha, ?_⟩
  split
  case isTrue c => rintro _ rfl; exact er (fun k => by have := k.2.1; simp only at this; omega)
  case isFalse c =>
    split
    case isTrue c2 => rintro _ rfl; exact er (fun k => by have := k.1; simp only at this; omega)
    case isFalse c2 =>
      refine ⟨hb, ?_⟩
      split
      case isTrue c3 =>
        refine ⟨by omega, ?_⟩
        rintro _ rfl
        refine ⟨by omega, ?_⟩
        rintro _ rfl
        exact ok ⟨by show -999999999 ≤ a; omega, by show a ≤ 999999999; omega, by show b ≤ 999999999; omega⟩
      case isFalse c3 => rintro _ rfl; exact er (fun k => by have := k.2.2; simp only at this; omega)
theorem ediv_bd {a g : Int} (hg : 0 < g) : -(a.natAbs : Int) ≤ Int.tdiv a g ∧ Int.tdiv a g ≤ (a.natAbs : Int) := by
  have h := Int.natAbs_tdiv_le_natAbs a g
  omega
theorem c_X8_least {m : MM} {Q : Int → MM → Prop} {to a b : Int} (ha : R62 a) (hb : R62 b) (h0 : b ≠ 0) (ht : 0 ≤ to ∧ to + 1 < 1159540) (ok : ∀ p, nmS 1 a b = .ok p → Q 0 (pt m 379 to p)) (er : ∀ e, nmS 1 a b = .error e → Q 0 (up m 378 2 e)) : P_X8_least to a b m Q := by
  have hg := gcd_pos (a := a) h0
  have hgb : (Int.gcd a b : Int) ≤ b.natAbs := by
    have := Nat.le_of_dvd (show 0 < b.natAbs by omega) (Int.natAbs_dvd_natAbs.2 (Int.gcd_dvd_right (a := a) (b := b)))
    omega
  unfold P_X8_least
  refine c_X8_common ha hb ?_
  refine ⟨⟨by constructor <;> omega, ?_⟩, ?_⟩
  · split <;> refine ⟨by constructor <;> omega, by constructor <;> omega, by omega⟩
  refine c_abs (by constructor <;> omega) ?_
  refine ⟨by constructor <;> omega, by constructor <;> omega, by omega, ?_⟩
  have e1 : (if 0 ≤ b then Int.tdiv a (Int.gcd a b) else Int.tdiv (-a) (Int.gcd a b)) = (if b < 0 then Int.tdiv (-a) (Int.gcd a b) else Int.tdiv a (Int.gcd a b)) := by
    split <;> split <;> first | rfl | omega
  rw [e1]
  have ev : nmV 1 a b = ((if b < 0 then Int.tdiv (-a) (Int.gcd a b) else Int.tdiv a (Int.gcd a b)), Int.tdiv (b.natAbs : Int) (Int.gcd a b)) := rfl
  have b1 := ediv_bd (a := a) hg
  have b2 := ediv_bd (a := -a) hg
  have b3 := ediv_bd (a := (b.natAbs : Int)) hg
  refine c_X8_put ?_ (by constructor <;> omega) ht (fun k => ?_) (fun k => ?_)
  · split <;> constructor <;> omega
  · exact ok _ (by unfold nmS; rw [ev, if_pos k])
  · exact er 1 (by unfold nmS; rw [ev, if_neg k])
theorem c_X8_modulus {m : MM} {Q : Int → MM → Prop} {b : Int} (hb : RI b) (h : Q (muC m b) m) : P_X8_modulus b m Q := by
  unfold P_X8_modulus
  unfold muC at h
  refine ⟨hb, ?_⟩
  split
  · rw [if_pos (by assumption)] at h; exact h
  · rw [if_neg (by assumption)] at h; exact h
theorem c_X8_add {m : MM} {Q : Int → MM → Prop} {base mu x y to ls : Int} (hb : RI base) (hmu : muC m base = mu) (hM : MU mu) (hx : 0 ≤ x ∧ x + 1 < 1159540) (hy : 0 ≤ y ∧ y + 1 < 1159540) (ht : 0 ≤ to ∧ to + 1 < 1159540) (hl : RI ls) (nx : NB mu (pr m 379 x)) (ny : NB mu (pr m 379 y)) (ok : ∀ p, addS mu ls (pr m 379 x) (pr m 379 y) = .ok p → Q 0 (pt m 379 to p)) (er : ∀ e, addS mu ls (pr m 379 x) (pr m 379 y) = .error e → Q 0 (up m 378 2 e)) : P_X8_add base x y to ls m Q := by
  have x1 : -999999999 ≤ m 379 x ∧ m 379 x ≤ 999999999 := nx.p1
  have x2 : 1 ≤ m 379 (x + 1) ∧ m 379 (x + 1) ≤ 999999999 := nx.p2
  have y1 : -999999999 ≤ m 379 y ∧ m 379 y ≤ 999999999 := ny.p1
  have y2 : 1 ≤ m 379 (y + 1) ∧ m 379 (y + 1) ≤ 999999999 := ny.p2
  unfold P_X8_add
  refine c_X8_modulus hb ?_
  rw [hmu]
  refine ⟨by omega, by constructor <;> omega, ⟨hl, ?_⟩, by constructor <;> omega, ?_⟩
  · split <;> exact ⟨by omega, by constructor <;> omega⟩
  have ev : ∀ z : Int, z = (if ls = 0 then m 379 y else -(m 379 y)) → -999999999 ≤ z ∧ z ≤ 999999999 := by
    intro z hz
    subst hz
    split <;> omega
  unfold addS at ok er
  generalize hz : (if ls = 0 then m 379 y else -(m 379 y)) = z
  have hz' : (if ls = 0 then (pr m 379 y).1 else -(pr m 379 y).1) = z := hz
  rw [hz'] at ok er
  have z1 := ev z hz.symm
  split
  case isTrue c =>
    subst c
    rw [if_neg (by decide)] at ok er
    have e0 : nmV 0 (m 379 x + z) 1 = (m 379 x + z, 1) := rfl
    refine c_X8_put (by constructor <;> omega) (by decide) ht (fun k => ok _ ?_) (fun k => er _ ?_)
    · show nmS 0 (m 379 x + z) 1 = _
      unfold nmS
      rw [e0, if_pos k]
    · show nmS 0 (m 379 x + z) 1 = _
      unfold nmS
      rw [e0, if_neg k]
  case isFalse c =>
    split
    case isTrue c1 =>
      subst c1
      rw [if_pos rfl] at ok er
      refine ⟨by omega, by constructor <;> omega, by omega, by constructor <;> omega, ?_⟩
      have h1 := mul_bd x1 (y := m 379 (y + 1)) (by omega)
      have h2 := mul_bd z1 (y := m 379 (x + 1)) (by omega)
      have h3 := mul_bd (x := m 379 (x + 1)) (y := m 379 (y + 1)) (by omega) (by omega)
      have h4 := Int.mul_pos (show 0 < m 379 (x + 1) by omega) (show 0 < m 379 (y + 1) by omega)
      exact c_X8_least (by constructor <;> omega) (by constructor <;> omega) (by omega) ht ok er
    case isFalse c1 =>
      rw [if_neg c1] at ok er
      have e2 : nmV mu (m 379 x + z) 1 = ((m 379 x + z) % mu, 1) := by unfold nmV; rw [if_neg c, if_neg c1]
      have h1 := Int.emod_nonneg (m 379 x + z) (show mu ≠ 0 by omega)
      have h2 := Int.emod_lt_of_pos (m 379 x + z) (show 0 < mu by omega)
      refine c_floorModL (by constructor <;> omega) (by constructor <;> omega) (by omega) ?_
      refine c_X8_put (by constructor <;> omega) (by decide) ht (fun k => ok _ ?_) (fun k => er _ ?_)
      · show nmS mu (m 379 x + z) 1 = _
        unfold nmS
        rw [e2, if_pos k]
      · show nmS mu (m 379 x + z) 1 = _
        unfold nmS
        rw [e2, if_neg k]
theorem c_X8_times {m : MM} {Q : Int → MM → Prop} {base mu x y to : Int} (hb : RI base) (hmu : muC m base = mu) (hM : MU mu) (hx : 0 ≤ x ∧ x + 1 < 1159540) (hy : 0 ≤ y ∧ y + 1 < 1159540) (ht : 0 ≤ to ∧ to + 1 < 1159540) (nx : NB mu (pr m 379 x)) (ny : NB mu (pr m 379 y)) (ok : ∀ p, mulS mu (pr m 379 x) (pr m 379 y) = .ok p → Q 0 (pt m 379 to p)) (er : ∀ e, mulS mu (pr m 379 x) (pr m 379 y) = .error e → Q 0 (up m 378 2 e)) : P_X8_times base x y to m Q := by
  have x1 : -999999999 ≤ m 379 x ∧ m 379 x ≤ 999999999 := nx.p1
  have x2 : 1 ≤ m 379 (x + 1) ∧ m 379 (x + 1) ≤ 999999999 := nx.p2
  have y1 : -999999999 ≤ m 379 y ∧ m 379 y ≤ 999999999 := ny.p1
  have y2 : 1 ≤ m 379 (y + 1) ∧ m 379 (y + 1) ≤ 999999999 := ny.p2
  have h1 := mul_bd x1 y1
  unfold P_X8_times
  refine c_X8_modulus hb ?_
  rw [hmu]
  refine ⟨by omega, by constructor <;> omega, by omega, by constructor <;> omega, by constructor <;> omega, ?_⟩
  unfold mulS at ok er
  split
  case isTrue c =>
    subst c
    rw [if_neg (by decide)] at ok er
    have e0 : nmV 0 (m 379 x * m 379 y) 1 = (m 379 x * m 379 y, 1) := rfl
    refine c_X8_put (by constructor <;> omega) (by decide) ht (fun k => ok _ ?_) (fun k => er _ ?_)
    · show nmS 0 (m 379 x * m 379 y) 1 = _
      unfold nmS
      rw [e0, if_pos k]
    · show nmS 0 (m 379 x * m 379 y) 1 = _
      unfold nmS
      rw [e0, if_neg k]
  case isFalse c =>
    split
    case isTrue c1 =>
      subst c1
      rw [if_pos rfl] at ok er
      refine ⟨by omega, by constructor <;> omega, by omega, by constructor <;> omega, ?_⟩
      have h3 := mul_bd (x := m 379 (x + 1)) (y := m 379 (y + 1)) (by omega) (by omega)
      have h4 := Int.mul_pos (show 0 < m 379 (x + 1) by omega) (show 0 < m 379 (y + 1) by omega)
      exact c_X8_least (by constructor <;> omega) (by constructor <;> omega) (by omega) ht ok er
    case isFalse c1 =>
      rw [if_neg c1] at ok er
      have e2 : nmV mu (m 379 x * m 379 y) 1 = ((m 379 x * m 379 y) % mu, 1) := by unfold nmV; rw [if_neg c, if_neg c1]
      have hp : 0 ≤ m 379 x * m 379 y := Int.mul_nonneg (nx.2.2.2.2 (by omega)).1 (ny.2.2.2.2 (by omega)).1
      have h3 := Int.emod_nonneg (m 379 x * m 379 y) (show mu ≠ 0 by omega)
      have h4 := Int.emod_lt_of_pos (m 379 x * m 379 y) (show 0 < mu by omega)
      refine ⟨by constructor <;> omega, by constructor <;> omega, by omega, ?_⟩
      rw [tmod_pos hp]
      refine c_X8_put (by constructor <;> omega) (by decide) ht (fun k => ok _ ?_) (fun k => er _ ?_)
      · show nmS mu (m 379 x * m 379 y) 1 = _
        unfold nmS
        rw [e2, if_pos k]
      · show nmS mu (m 379 x * m 379 y) 1 = _
        unfold nmS
        rw [e2, if_neg k]
/-! the model -/
/-- what a reckoning of one number leaves -/
def MN (m m' : MM) (r : EX PP) : Prop := (∀ c i, ¬ (c = 582 ∧ (i = 84 ∨ i = 87 ∨ i = 88)) → m' c i = m c i) ∧ (∀ p, r = .ok p → m' 582 84 = 0 ∧ m' 582 87 = p.1 ∧ m' 582 88 = p.2) ∧ (∀ e, r = .error e → m' 582 84 = e)
theorem c_X10_modulo {m : MM} {Q : Int → MM → Prop} {b mu : Int} (hb : RI b) (hm : muM m b = mu) (hr : RI mu) (h : Q mu m) : P_X10_modulo b m Q := by
  unfold P_X10_modulo
  unfold muM at hm
  refine ⟨hb, ?_⟩
  split
  · rw [if_pos (by assumption)] at hm; rw [hm]; exact ⟨hr, h⟩
  · rw [if_neg (by assumption)] at hm
    split
    · rw [if_pos (by assumption)] at hm; rw [hm]; exact ⟨hr, h⟩
    · rw [if_neg (by assumption)] at hm; rw [hm]; exact h
theorem c_X10_number_85 {m0 m : MM} {Q : Int → MM → Prop} {mu a b : Int} (hv : nmV mu a b = (m 582 87, m 582 88)) (h1 : RL (m 582 87)) (h2 : RL (m 582 88)) (he : m 582 84 = 0) (hf : ∀ c i, ¬ (c = 582 ∧ (i = 84 ∨ i = 87 ∨ i = 88)) → m c i = m0 c i) (h : ∀ m', MN m0 m' (nmS mu a b) → Q 0 m') : P_X10_number_85 Q m := by
  unfold nmS at h
  rw [hv] at h
  have er : ¬ okP (m 582 87, m 582 88) → ∀ m1 : MM, m1 = up m 582 84 1 → Q 0 m1 := by
    rintro k _ rfl
    rw [if_neg k] at h
    refine h _ ⟨fun c i q => ?_, (by intro p e; cases e), (by intro e e1; cases e1; exact up_at ..)⟩
    rw [up_ne (fun z => q ⟨z.1, Or.inl z.2⟩)]
    exact hf c i q
  refine ⟨h1, ?_⟩
  split
  case isTrue c => exact er (fun k => by have := k.2.1; simp only at this; omega)
  case isFalse c =>
    split
    case isTrue c2 => exact er (fun k => by have := k.1; simp only at this; omega)
    case isFalse c2 =>
      refine ⟨h2, ?_⟩
      split
      case isTrue c3 =>
        rw [if_pos ⟨by show -999999999 ≤ m 582 87; omega, by show m 582 87 ≤ 999999999; omega, c3⟩] at h
        exact h _ ⟨hf, (by intro p e; cases e; exact ⟨he, rfl, rfl⟩), (by intro e e1; cases e1)⟩
      case isFalse c3 => exact er (fun k => by have := k.2.2; simp only at this; omega)
theorem c_X10_number_err {m : MM} {Q : Int → MM → Prop} {base a b : Int} (he : RI (m 582 84)) (h0 : 0 < m 582 84) (h : Q 0 m) : P_X10_number base a b m Q := by
  unfold P_X10_number
  refine ⟨he, ?_⟩
  rw [if_neg (by omega)]
  exact h
theorem c_X10_number {m : MM} {Q : Int → MM → Prop} {base mu a b : Int} (he : m 582 84 = 0) (hb : RI base) (h0 : 0 ≤ base) (hmu : muM m base = mu) (hM : MU mu) (hbm : 1 < base → 1 < mu) (ha : R62 a) (hbb : R62 b) (hb0 : b ≠ 0) (h : ∀ m', MN m m' (nmS mu a b) → Q 0 m') : P_X10_number base a b m Q := by
  have f2 : ∀ x y : Int, ∀ c i, ¬ (c = 582 ∧ (i = 84 ∨ i = 87 ∨ i = 88)) → up (up m 582 87 x) 582 88 y c i = m c i := by
    intro x y c i q
    rw [up_ne (fun z => q ⟨z.1, Or.inr (Or.inr z.2)⟩), up_ne (fun z => q ⟨z.1, Or.inr (Or.inl z.2)⟩)]
  have s84 : ∀ x y : Int, up (up m 582 87 x) 582 88 y 582 84 = 0 := fun x y => by rw [up_neI (by decide), up_neI (by decide)]; exact he
  have s87 : ∀ x y : Int, up (up m 582 87 x) 582 88 y 582 87 = x := fun x y => by rw [up_neI (by decide), up_at]
  have s88 : ∀ x y : Int, up (up m 582 87 x) 582 88 y 582 88 = y := fun x y => up_at ..
  unfold P_X10_number
  refine ⟨by rw [he]; decide, ?_⟩
  rw [if_pos (by omega)]
  rintro _ rfl _ rfl
  refine ⟨hb, ?_⟩
  split
  case isTrue c =>
    have e1 : muM m base = base := by unfold muM; rw [if_neg (by omega), if_neg (by omega)]
    rw [e1] at hmu
    subst hmu
    split
    case isTrue c1 =>
      subst c1
      have hg := gcd_pos (a := a) hb0
      have hgb : (Int.gcd a b : Int) ≤ b.natAbs := by
        have := Nat.le_of_dvd (show 0 < b.natAbs by omega) (Int.natAbs_dvd_natAbs.2 (Int.gcd_dvd_right (a := a) (b := b)))
        omega
      have b1 := ediv_bd (a := a) hg
      have b3 := ediv_bd (a := b) hg
      refine c_X10_common ha hbb ?_
      refine ⟨by constructor <;> omega, ?_⟩
      have ev : nmV 1 a b = ((if b < 0 then Int.tdiv (-a) (Int.gcd a b) else Int.tdiv a (Int.gcd a b)), Int.tdiv (b.natAbs : Int) (Int.gcd a b)) := rfl
      have f3 : ∀ x y x' y' : Int, ∀ c i, ¬ (c = 582 ∧ (i = 84 ∨ i = 87 ∨ i = 88)) → up (up (up (up m 582 87 x) 582 88 y) 582 87 x') 582 88 y' c i = m c i := by
        intro x y x' y' c i q
        rw [up_ne (fun z => q ⟨z.1, Or.inr (Or.inr z.2)⟩), up_ne (fun z => q ⟨z.1, Or.inr (Or.inl z.2)⟩), f2 _ _ _ _ q]
      have t84 : ∀ x y x' y' : Int, up (up (up (up m 582 87 x) 582 88 y) 582 87 x') 582 88 y' 582 84 = 0 := fun x y x' y' => by rw [up_neI (by decide), up_neI (by decide)]; exact s84 ..
      have t87 : ∀ x y x' y' : Int, up (up (up (up m 582 87 x) 582 88 y) 582 87 x') 582 88 y' 582 87 = x' := fun x y x' y' => by rw [up_neI (by decide), up_at]
      have t88 : ∀ x y x' y' : Int, up (up (up (up m 582 87 x) 582 88 y) 582 87 x') 582 88 y' 582 88 = y' := fun x y x' y' => up_at ..
      split
      case isTrue c2 =>
        refine ⟨by constructor <;> omega, by constructor <;> omega, by omega, ?_⟩
        rintro _ rfl
        refine ⟨by constructor <;> omega, ?_⟩
        rintro _ rfl
        refine c_X10_number_85 (m0 := m) (mu := 1) (a := a) (b := b) ?_ (by rw [t87]; constructor <;> omega) (by rw [t88]; constructor <;> omega) (t84 ..) (f3 _ _ _ _) h
        rw [t87, t88, ev, if_neg (by omega), show (b.natAbs : Int) = b by omega]
      case isFalse c2 =>
        have b4 : Int.tdiv a (-(Int.gcd a b : Int)) = Int.tdiv (-a) (Int.gcd a b) := by rw [Int.tdiv_neg, Int.neg_tdiv]
        have b5 : Int.tdiv b (-(Int.gcd a b : Int)) = Int.tdiv (-b) (Int.gcd a b) := by rw [Int.tdiv_neg, Int.neg_tdiv]
        have b6 := ediv_bd (a := -a) hg
        have b7 := ediv_bd (a := -b) hg
        refine ⟨by constructor <;> omega, by constructor <;> omega, by omega, ?_⟩
        rw [b4, b5]
        rintro _ rfl
        refine ⟨by constructor <;> omega, ?_⟩
        rintro _ rfl
        refine c_X10_number_85 (m0 := m) (mu := 1) (a := a) (b := b) ?_ (by rw [t87]; constructor <;> omega) (by rw [t88]; constructor <;> omega) (t84 ..) (f3 _ _ _ _) h
        rw [t87, t88, ev, if_pos (by omega), show (b.natAbs : Int) = -b by omega]
    case isFalse c1 =>
      have c0 : base = 0 := by omega
      subst c0
      refine c_X10_number_85 (m0 := m) (mu := 0) (a := a) (b := b) ?_ (by rw [s87]; constructor <;> omega) (by rw [s88]; constructor <;> omega) (s84 ..) (f2 _ _) h
      rw [s87, s88]
      rfl
  case isFalse c =>
    have hm1 := hbm (by omega)
    have em : muM (up (up m 582 87 a) 582 88 b) base = mu := by
      unfold muM
      rw [f2 _ _ _ _ (by decide)]
      exact hmu
    refine c_X10_modulo hb em (by constructor <;> omega) ?_
    refine c_floorModL (by constructor <;> omega) (by constructor <;> omega) (by omega) ?_
    rintro _ rfl _ rfl
    have ev : nmV mu a b = (a % mu, 1) := by unfold nmV; rw [if_neg (by omega), if_neg (by omega)]
    have h1 := Int.emod_nonneg a (show mu ≠ 0 by omega)
    have h2 := Int.emod_lt_of_pos a (show 0 < mu by omega)
    refine h _ ⟨fun c i q => ?_, fun p e => ?_, fun e e1 => ?_⟩
    · rw [up_ne (fun z => q ⟨z.1, Or.inr (Or.inr z.2)⟩), up_ne (fun z => q ⟨z.1, Or.inr (Or.inl z.2)⟩), f2 _ _ _ _ q]
    · unfold nmS at e
      rw [ev, if_pos ⟨by show -999999999 ≤ a % mu; omega, by show a % mu ≤ 999999999; omega, by show (1 : Int) ≤ 999999999; decide⟩] at e
      cases e
      refine ⟨?_, ?_, up_at ..⟩
      · rw [up_neI (by decide), up_neI (by decide)]; exact s84 ..
      · rw [up_neI (by decide), up_at]
    · unfold nmS at e1
      rw [ev, if_pos ⟨by show -999999999 ≤ a % mu; omega, by show a % mu ≤ 999999999; omega, by show (1 : Int) ≤ 999999999; decide⟩] at e1
      cases e1
/-- a base and its modulus, on the model's side -/
def BM (m : MM) (base mu : Int) : Prop := 0 ≤ base ∧ base ≤ 10007 ∧ muM m base = mu ∧ MU mu ∧ (1 < base → 1 < mu)
theorem BM.one {m : MM} {base mu : Int} (h : BM m base mu) : base = 1 ↔ mu = 1 := by
  obtain ⟨h0, h1, h2, h3, h4⟩ := h
  unfold muM at h2
  constructor
  · intro e; subst e; rw [if_neg (by decide), if_neg (by decide)] at h2; exact h2.symm
  · intro e
    by_cases c : 1 < base
    · have := h4 c; omega
    · rw [if_neg (by omega), if_neg (by omega)] at h2; omega
theorem c_X10_addNumbers {m : MM} {Q : Int → MM → Prop} {base mu x y : Int} (he : m 582 84 = 0) (hB : BM m base mu) (hx : 0 ≤ x ∧ x + 1 < 1600000) (hy : 0 ≤ y ∧ y + 1 < 1600000) (nx : NB mu (pr m 635 x)) (ny : NB mu (pr m 635 y)) (h : ∀ m', MN m m' (addS mu 0 (pr m 635 x) (pr m 635 y)) → Q 0 m') : P_X10_addNumbers base x y m Q := by
  have x1 : -999999999 ≤ m 635 x ∧ m 635 x ≤ 999999999 := nx.p1
  have x2 : 1 ≤ m 635 (x + 1) ∧ m 635 (x + 1) ≤ 999999999 := nx.p2
  have y1 : -999999999 ≤ m 635 y ∧ m 635 y ≤ 999999999 := ny.p1
  have y2 : 1 ≤ m 635 (y + 1) ∧ m 635 (y + 1) ≤ 999999999 := ny.p2
  have h1 := hB.one
  obtain ⟨b0, b1, b2, b3, b4⟩ := hB
  unfold P_X10_addNumbers
  refine ⟨by constructor <;> omega, ?_⟩
  unfold addS at h
  rw [if_pos rfl] at h
  split
  case isTrue c =>
    have c1 := h1.1 c
    rw [if_pos c1, ← c1] at h
    have q1 := mul_bd x1 (y := m 635 (y + 1)) (by omega)
    have q2 := mul_bd y1 (y := m 635 (x + 1)) (by omega)
    have q3 := mul_bd (x := m 635 (x + 1)) (y := m 635 (y + 1)) (by omega) (by omega)
    have q4 := Int.mul_pos (show 0 < m 635 (x + 1) by omega) (show 0 < m 635 (y + 1) by omega)
    exact ⟨by omega, by omega, by omega, by omega, c_X10_number he (by constructor <;> omega) b0 b2 b3 b4 (by constructor <;> omega) (by constructor <;> omega) (by omega) h⟩
  case isFalse c =>
    rw [if_neg (fun k => c (h1.2 k))] at h
    exact ⟨by omega, by omega, c_X10_number he (by constructor <;> omega) b0 b2 b3 b4 (by constructor <;> omega) (by decide) (by decide) h⟩
theorem c_X10_takeNumbers {m : MM} {Q : Int → MM → Prop} {base mu x y : Int} (he : m 582 84 = 0) (hB : BM m base mu) (hx : 0 ≤ x ∧ x + 1 < 1600000) (hy : 0 ≤ y ∧ y + 1 < 1600000) (nx : NB mu (pr m 635 x)) (ny : NB mu (pr m 635 y)) (h : ∀ m', MN m m' (addS mu 1 (pr m 635 x) (pr m 635 y)) → Q 0 m') : P_X10_takeNumbers base x y m Q := by
  have x1 : -999999999 ≤ m 635 x ∧ m 635 x ≤ 999999999 := nx.p1
  have x2 : 1 ≤ m 635 (x + 1) ∧ m 635 (x + 1) ≤ 999999999 := nx.p2
  have y1 : -999999999 ≤ m 635 y ∧ m 635 y ≤ 999999999 := ny.p1
  have y2 : 1 ≤ m 635 (y + 1) ∧ m 635 (y + 1) ≤ 999999999 := ny.p2
  have h1 := hB.one
  obtain ⟨b0, b1, b2, b3, b4⟩ := hB
  unfold P_X10_takeNumbers
  refine ⟨by constructor <;> omega, ?_⟩
  unfold addS at h
  rw [if_neg (show ¬ (1 : Int) = 0 by decide)] at h
  split
  case isTrue c =>
    have c1 := h1.1 c
    rw [if_pos c1, ← c1] at h
    have q1 := mul_bd x1 (y := m 635 (y + 1)) (by omega)
    have q2 := mul_bd y1 (y := m 635 (x + 1)) (by omega)
    have q3 := mul_bd (x := m 635 (x + 1)) (y := m 635 (y + 1)) (by omega) (by omega)
    have q4 := Int.mul_pos (show 0 < m 635 (x + 1) by omega) (show 0 < m 635 (y + 1) by omega)
    have e : m 635 x * m 635 (y + 1) - m 635 y * m 635 (x + 1) = (pr m 635 x).1 * (pr m 635 y).2 + -(pr m 635 y).1 * (pr m 635 x).2 := by
      show _ = m 635 x * m 635 (y + 1) + -(m 635 y) * m 635 (x + 1)
      rw [Int.neg_mul]; omega
    rw [e]
    refine ⟨by omega, by omega, by omega, by omega, c_X10_number he (by constructor <;> omega) b0 b2 b3 b4 ?_ (by constructor <;> omega) (by omega) h⟩
    rw [← e]
    constructor <;> omega
  case isFalse c =>
    rw [if_neg (fun k => c (h1.2 k))] at h
    have e : m 635 x - m 635 y = (pr m 635 x).1 + -(pr m 635 y).1 := by show m 635 x - m 635 y = m 635 x + -(m 635 y); omega
    rw [e]
    refine ⟨by omega, by omega, c_X10_number he (by constructor <;> omega) b0 b2 b3 b4 ?_ (by decide) (by decide) h⟩
    rw [← e]
    constructor <;> omega
theorem c_X10_multiplyNumbers {m : MM} {Q : Int → MM → Prop} {base mu x y : Int} (he : m 582 84 = 0) (hB : BM m base mu) (hx : 0 ≤ x ∧ x + 1 < 1600000) (hy : 0 ≤ y ∧ y + 1 < 1600000) (nx : NB mu (pr m 635 x)) (ny : NB mu (pr m 635 y)) (h : ∀ m', MN m m' (mulS mu (pr m 635 x) (pr m 635 y)) → Q 0 m') : P_X10_multiplyNumbers base x y m Q := by
  have x1 : -999999999 ≤ m 635 x ∧ m 635 x ≤ 999999999 := nx.p1
  have x2 : 1 ≤ m 635 (x + 1) ∧ m 635 (x + 1) ≤ 999999999 := nx.p2
  have y1 : -999999999 ≤ m 635 y ∧ m 635 y ≤ 999999999 := ny.p1
  have y2 : 1 ≤ m 635 (y + 1) ∧ m 635 (y + 1) ≤ 999999999 := ny.p2
  have h1 := hB.one
  obtain ⟨b0, b1, b2, b3, b4⟩ := hB
  have q1 := mul_bd x1 y1
  have q3 := mul_bd (x := m 635 (x + 1)) (y := m 635 (y + 1)) (by omega) (by omega)
  have q4 := Int.mul_pos (show 0 < m 635 (x + 1) by omega) (show 0 < m 635 (y + 1) by omega)
  unfold P_X10_multiplyNumbers
  unfold mulS at h
  refine ⟨by omega, by omega, ⟨by constructor <;> omega, ?_⟩, ?_⟩
  · split
    · exact ⟨by omega, by omega⟩
    · trivial
  by_cases c : base = 1
  · have c1 := h1.1 c
    rw [if_pos c1, ← c1] at h
    rw [if_pos c]
    exact c_X10_number he (by constructor <;> omega) b0 b2 b3 b4 (by constructor <;> omega) (by constructor <;> omega) (by omega) h
  · rw [if_neg (fun k => c (h1.2 k))] at h
    rw [if_neg c]
    exact c_X10_number he (by constructor <;> omega) b0 b2 b3 b4 (by constructor <;> omega) (by decide) (by decide) h
