set_option maxRecDepth 100000
/-! quotients of polynomials: the model -/
theorem c_X10_number_85r {m0 m : MM} {Q : Int → MM → Prop} {mu a b : Int} (hv : nmV mu a b = (m 582 87, m 582 88)) (h1 : RL (m 582 87)) (h2 : RL (m 582 88)) (he : m 582 84 = 0) (hf : ∀ c i, ¬ (c = 582 ∧ (i = 84 ∨ i = 87 ∨ i = 88)) → m c i = m0 c i) (h : ∀ m', MN m0 m' (nmS mu a b) → RL (m' 582 87) → Q 0 m') : P_X10_number_85 Q m := by
  unfold nmS at h
  rw [hv] at h
  have er : ¬ okP (m 582 87, m 582 88) → ∀ m1 : MM, m1 = up m 582 84 1 → Q 0 m1 := by
    rintro k _ rfl
    rw [if_neg k] at h
    refine h _ ⟨fun c i q => ?_, (by intro p e; cases e), (by intro e e1; cases e1; exact up_at ..)⟩ (by rw [up_neI (by decide)]; exact h1)
    rw [up_ne (fun z => q ⟨z.1, Or.inl z.2⟩)]
    exact hf c i q
  refine ⟨h1, ?_⟩
  split
  case isTrue c => exact er (fun k => by have := k.2.1; simp only at this; omega)
  case isFalse c =>
    split
    case isTrue c2 => exact er (fun k => by have := k.1; simp only at this; omega)
    case isFalse c2 =>
      refine ⟨h2, ?_⟩
      split
      case isTrue c3 =>
        rw [if_pos ⟨by show -999999999 ≤ m 582 87; omega, by show m 582 87 ≤ 999999999; omega, c3⟩] at h
        exact h _ ⟨hf, (by intro p e; cases e; exact ⟨he, rfl, rfl⟩), (by intro e e1; cases e1)⟩ h1
      case isFalse c3 => exact er (fun k => by have := k.2.2; simp only at this; omega)
theorem c_X10_numberR {m : MM} {Q : Int → MM → Prop} {base mu a b : Int} (he : m 582 84 = 0) (hb : RI base) (h0 : 0 ≤ base) (hmu : muM m base = mu) (hM : MU mu) (hbm : 1 < base → 1 < mu) (ha : R62 a) (hbb : R62 b) (hb0 : b ≠ 0) (h : ∀ m', MN m m' (nmS mu a b) → RL (m' 582 87) → Q 0 m') : P_X10_number base a b m Q := by
  have f2 : ∀ x y : Int, ∀ c i, ¬ (c = 582 ∧ (i = 84 ∨ i = 87 ∨ i = 88)) → up (up m 582 87 x) 582 88 y c i = m c i := by
    intro x y c i q
    rw [up_ne (fun z => q ⟨z.1, Or.inr (Or.inr z.2)⟩), up_ne (fun z => q ⟨z.1, Or.inr (Or.inl z.2)⟩)]
  have s84 : ∀ x y : Int, up (up m 582 87 x) 582 88 y 582 84 = 0 := fun x y => by rw [up_neI (by decide), up_neI (by decide)]; exact he
  have s87 : ∀ x y : Int, up (up m 582 87 x) 582 88 y 582 87 = x := fun x y => by rw [up_neI (by decide), up_at]
  have s88 : ∀ x y : Int, up (up m 582 87 x) 582 88 y 582 88 = y := fun x y => up_at ..
  unfold P_X10_number
  refine ⟨by rw [he]; decide, ?_⟩
  rw [if_pos (by omega)]
  rintro _ rfl _ rfl
  refine ⟨hb, ?_⟩
  split
  case isTrue c =>
    have e1 : muM m base = base := by unfold muM; rw [if_neg (by omega), if_neg (by omega)]
    rw [e1] at hmu
    subst hmu
    split
    case isTrue c1 =>
      subst c1
      have hg := gcd_pos (a := a) hb0
      have hgb : (Int.gcd a b : Int) ≤ b.natAbs := by
        have := Nat.le_of_dvd (show 0 < b.natAbs by omega) (Int.natAbs_dvd_natAbs.2 (Int.gcd_dvd_right (a := a) (b := b)))
        omega
      have b1 := ediv_bd (a := a) hg
      have b3 := ediv_bd (a := b) hg
      refine c_X10_common ha hbb ?_
      refine ⟨by constructor <;> omega, ?_⟩
      have ev : nmV 1 a b = ((if b < 0 then Int.tdiv (-a) (Int.gcd a b) else Int.tdiv a (Int.gcd a b)), Int.tdiv (b.natAbs : Int) (Int.gcd a b)) := rfl
      have f3 : ∀ x y x' y' : Int, ∀ c i, ¬ (c = 582 ∧ (i = 84 ∨ i = 87 ∨ i = 88)) → up (up (up (up m 582 87 x) 582 88 y) 582 87 x') 582 88 y' c i = m c i := by
        intro x y x' y' c i q
        rw [up_ne (fun z => q ⟨z.1, Or.inr (Or.inr z.2)⟩), up_ne (fun z => q ⟨z.1, Or.inr (Or.inl z.2)⟩), f2 _ _ _ _ q]
      have t84 : ∀ x y x' y' : Int, up (up (up (up m 582 87 x) 582 88 y) 582 87 x') 582 88 y' 582 84 = 0 := fun x y x' y' => by rw [up_neI (by decide), up_neI (by decide)]; exact s84 ..
      have t87 : ∀ x y x' y' : Int, up (up (up (up m 582 87 x) 582 88 y) 582 87 x') 582 88 y' 582 87 = x' := fun x y x' y' => by rw [up_neI (by decide), up_at]
      have t88 : ∀ x y x' y' : Int, up (up (up (up m 582 87 x) 582 88 y) 582 87 x') 582 88 y' 582 88 = y' := fun x y x' y' => up_at ..
      split
      case isTrue c2 =>
        refine ⟨by constructor <;> omega, by constructor <;> omega, by omega, ?_⟩
        rintro _ rfl
        refine ⟨by constructor <;> omega, ?_⟩
        rintro _ rfl
        refine c_X10_number_85r (m0 := m) (mu := 1) (a := a) (b := b) ?_ (by rw [t87]; constructor <;> omega) (by rw [t88]; constructor <;> omega) (t84 ..) (f3 _ _ _ _) h
        rw [t87, t88, ev, if_neg (by omega), show (b.natAbs : Int) = b by omega]
      case isFalse c2 =>
        have b4 : Int.tdiv a (-(Int.gcd a b : Int)) = Int.tdiv (-a) (Int.gcd a b) := by rw [Int.tdiv_neg, Int.neg_tdiv]
        have b5 : Int.tdiv b (-(Int.gcd a b : Int)) = Int.tdiv (-b) (Int.gcd a b) := by rw [Int.tdiv_neg, Int.neg_tdiv]
        have b6 := ediv_bd (a := -a) hg
        have b7 := ediv_bd (a := -b) hg
        refine ⟨by constructor <;> omega, by constructor <;> omega, by omega, ?_⟩
        rw [b4, b5]
        rintro _ rfl
        refine ⟨by constructor <;> omega, ?_⟩
        rintro _ rfl
        refine c_X10_number_85r (m0 := m) (mu := 1) (a := a) (b := b) ?_ (by rw [t87]; constructor <;> omega) (by rw [t88]; constructor <;> omega) (t84 ..) (f3 _ _ _ _) h
        rw [t87, t88, ev, if_pos (by omega), show (b.natAbs : Int) = -b by omega]
    case isFalse c1 =>
      have c0 : base = 0 := by omega
      subst c0
      refine c_X10_number_85r (m0 := m) (mu := 0) (a := a) (b := b) ?_ (by rw [s87]; constructor <;> omega) (by rw [s88]; constructor <;> omega) (s84 ..) (f2 _ _) h
      rw [s87, s88]
      rfl
  case isFalse c =>
    have hm1 := hbm (by omega)
    have em : muM (up (up m 582 87 a) 582 88 b) base = mu := by
      unfold muM
      rw [f2 _ _ _ _ (by decide)]
      exact hmu
    refine c_X10_modulo hb em (by constructor <;> omega) ?_
    refine c_floorModL (by constructor <;> omega) (by constructor <;> omega) (by omega) ?_
    rintro _ rfl _ rfl
    have ev : nmV mu a b = (a % mu, 1) := by unfold nmV; rw [if_neg (by omega), if_neg (by omega)]
    have h1 := Int.emod_nonneg a (show mu ≠ 0 by omega)
    have h2 := Int.emod_lt_of_pos a (show 0 < mu by omega)
    refine h _ ⟨fun c i q => ?_, fun p e => ?_, fun e e1 => ?_⟩ (by rw [up_neI (by decide), up_at]; constructor <;> omega)
    · rw [up_ne (fun z => q ⟨z.1, Or.inr (Or.inr z.2)⟩), up_ne (fun z => q ⟨z.1, Or.inr (Or.inl z.2)⟩), f2 _ _ _ _ q]
    · unfold nmS at e
      rw [ev, if_pos ⟨by show -999999999 ≤ a % mu; omega, by show a % mu ≤ 999999999; omega, by show (1 : Int) ≤ 999999999; decide⟩] at e
      cases e
      refine ⟨?_, ?_, up_at ..⟩
      · rw [up_neI (by decide), up_neI (by decide)]; exact s84 ..
      · rw [up_neI (by decide), up_at]
    · unfold nmS at e1
      rw [ev, if_pos ⟨by show -999999999 ≤ a % mu; omega, by show a % mu ≤ 999999999; omega, by show (1 : Int) ≤ 999999999; decide⟩] at e1
      cases e1
theorem c_X10_takeNumbersR {m : MM} {Q : Int → MM → Prop} {base mu x y : Int} (he : m 582 84 = 0) (hB : BM m base mu) (hx : 0 ≤ x ∧ x + 1 < 1600000) (hy : 0 ≤ y ∧ y + 1 < 1600000) (nx : NB mu (pr m 635 x)) (ny : NB mu (pr m 635 y)) (h : ∀ m', MN m m' (addS mu 1 (pr m 635 x) (pr m 635 y)) → RL (m' 582 87) → Q 0 m') : P_X10_takeNumbers base x y m Q := by
  have x1 : -999999999 ≤ m 635 x ∧ m 635 x ≤ 999999999 := nx.p1
  have x2 : 1 ≤ m 635 (x + 1) ∧ m 635 (x + 1) ≤ 999999999 := nx.p2
  have y1 : -999999999 ≤ m 635 y ∧ m 635 y ≤ 999999999 := ny.p1
  have y2 : 1 ≤ m 635 (y + 1) ∧ m 635 (y + 1) ≤ 999999999 := ny.p2
  have h1 := hB.one
  obtain ⟨b0, b1, b2, b3, b4⟩ := hB
  unfold P_X10_takeNumbers
  refine ⟨by constructor <;> omega, ?_⟩
  unfold addS at h
  rw [if_neg (show ¬ (1 : Int) = 0 by decide)] at h
  split
  case isTrue c =>
    have c1 := h1.1 c
    rw [if_pos c1, ← c1] at h
    have q1 := mul_bd x1 (y := m 635 (y + 1)) (by omega)
    have q2 := mul_bd y1 (y := m 635 (x + 1)) (by omega)
    have q3 := mul_bd (x := m 635 (x + 1)) (y := m 635 (y + 1)) (by omega) (by omega)
    have q4 := Int.mul_pos (show 0 < m 635 (x + 1) by omega) (show 0 < m 635 (y + 1) by omega)
    have e : m 635 x * m 635 (y + 1) - m 635 y * m 635 (x + 1) = (pr m 635 x).1 * (pr m 635 y).2 + -(pr m 635 y).1 * (pr m 635 x).2 := by
      show _ = m 635 x * m 635 (y + 1) + -(m 635 y) * m 635 (x + 1)
      rw [Int.neg_mul]; omega
    rw [e]
    refine ⟨by omega, by omega, by omega, by omega, c_X10_numberR he (by constructor <;> omega) b0 b2 b3 b4 ?_ (by constructor <;> omega) (by omega) h⟩
    rw [← e]
    constructor <;> omega
  case isFalse c =>
    rw [if_neg (fun k => c (h1.2 k))] at h
    have e : m 635 x - m 635 y = (pr m 635 x).1 + -(pr m 635 y).1 := by show m 635 x - m 635 y = m 635 x + -(m 635 y); omega
    rw [e]
    refine ⟨by omega, by omega, c_X10_numberR he (by constructor <;> omega) b0 b2 b3 b4 ?_ (by decide) (by decide) h⟩
    rw [← e]
    constructor <;> omega
theorem MN.pair {m m1 : MM} {r : EX PP} {p : PP} (h : MN m m1 r) (k : r = .ok p) : m1 582 84 = 0 ∧ (m1 582 87, m1 582 88) = p := by
  obtain ⟨a, b, c⟩ := h.2.1 p k
  exact ⟨a, by rw [b, c]⟩
/-- a row as a value -/
def rvv (u : Int → PP) : VV := setE zV 0 0 u
theorem rvv_at (u : Int → PP) : rvv u 0 0 = u := by unfold rvv setE; rw [if_pos ⟨rfl, rfl⟩]
theorem rvv_ne {u : Int → PP} {i j : Int} (h : ¬ (i = 0 ∧ j = 0)) : rvv u i j = zr := if_neg h
theorem rvv_eq {mu d : Int} {V : VV} (h : NN mu d 0 V) : V = rvv (V 0 0) := by
  funext i j
  by_cases c : i = 0 ∧ j = 0
  · rw [c.1, c.2, rvv_at]
  · rw [rvv_ne c]
    funext k
    exact h.2 i j k (fun z => c (by have : rws 0 = 1 := rfl; omega))
theorem rvv_NN {mu d : Int} {u : Int → PP} (hM : MU mu) (h : NR mu (cof d) u) : NN mu d 0 (rvv u) := by
  refine ⟨fun i j k => ?_, fun i j k hn => ?_⟩
  · by_cases c : i = 0 ∧ j = 0
    · rw [c.1, c.2, rvv_at]; exact h.1 k
    · rw [rvv_ne c]; exact NB_zr hM
  · by_cases c : i = 0 ∧ j = 0
    · rw [c.1, c.2, rvv_at]
      have : rws 0 = 1 := rfl
      exact h.2 k (by omega)
    · rw [rvv_ne c]; rfl
theorem NN.nr {mu d : Int} {V : VV} (h : NN mu d 0 V) : NR mu (cof d) (V 0 0) := ⟨fun k => h.1 0 0 k, fun k hk => h.2 0 0 k (by omega)⟩
theorem VM.row {g : Int → Int} {p : Int} {u : Int → PP} (h : VM g p (rvv u)) : Rw g p u 49 := by
  have := h 0 0 (by decide) (by decide)
  rw [rvv_at, show p + 98 * (3 * 0 + 0) = p by omega] at this
  exact this
/-- only a row at the beginning is another one -/
theorem VM.chg {m m' : MM} {S : Int → Prop} {p c : Int} {u w : Int → PP} (h : VM (m 635) p (rvv u)) (f : Fm S m m') (hS : ∀ q, p + 2 * c ≤ q → q < p + 882 → ¬ S q) (r : Rw (m' 635) p w c) (h0 : 0 ≤ c) (hu : ∀ k, c ≤ k → u k = (0, 1)) (hw : ∀ k, c ≤ k → w k = (0, 1)) (hc : c ≤ 49) : VM (m' 635) p (rvv w) := by
  intro i j hi hj
  by_cases cc : i = 0 ∧ j = 0
  · rw [cc.1, cc.2, rvv_at, show p + 98 * (3 * 0 + 0) = p by omega]
    intro k k0 k1
    by_cases c3 : k < c
    · exact r k k0 c3
    · rw [hw k (by omega), f.2 _ (hS _ (by omega) (by omega)), f.2 _ (hS _ (by omega) (by omega)), ← hu k (by omega)]
      exact h.row k k0 k1
  · have := h i j hi hj
    rw [rvv_ne cc] at this ⊢
    exact this.fm f (fun q q0 q1 => hS q (by omega) (by omega))
theorem VM_clear {m : MM} {p : Int} (r : Rw (m 635) p zr 441) : VM (m 635) p zV := by
  intro k l hk hl c c0 c1
  have q := r (49 * (3 * k + l) + c) (by omega) (by omega)
  rw [show p + 98 * (3 * k + l) + 2 * c = p + 2 * (49 * (3 * k + l) + c) by omega]
  exact q
theorem rvv_zr : rvv zr = zV := by
  funext i j
  by_cases c : i = 0 ∧ j = 0
  · rw [c.1, c.2, rvv_at]; rfl
  · rw [rvv_ne c]; rfl
theorem allZ_deg {v : Int → PP} : allZ v 7 0 = true ↔ degS v < 0 := by
  rw [allZ_iff]
  constructor
  · intro h
    by_cases c : degS v < 0
    · exact c
    · have := degS_bd v
      exact absurd (h (degS v) (by omega) (by omega)) (degG_v (by omega))
  · intro h j j0 j1
    exact degG_ab 7 j (show degG v 7 < j by have : degG v 7 = degS v := rfl; omega) (by omega)
theorem NR.rl {mu c : Int} {w : Int → PP} (h : NR mu c w) (k : Int) : RL (w k).1 := by
  have := (h.1 k).p1
  constructor <;> omega
section DIVM
variable {Q : Int → MM → Prop} {base mu d x y : Int} {u v : Int → PP}
def SDk (q : Int) : Prop := 1593000 ≤ q ∧ q < 1593014 ∨ 1594000 ≤ q ∧ q < 1594002
def SDm (q : Int) : Prop := 1592000 ≤ q ∧ q < 1592014 ∨ 1593000 ≤ q ∧ q < 1593014 ∨ 1594000 ≤ q ∧ q < 1594002
theorem dvM_190 {K131 : Int → Int → Int → Int → MM → Prop} {e : Int} {c : PP} (hd : 0 ≤ d ∧ d ≤ e) (he : e ≤ 6) (hy : 0 ≤ y ∧ y + 882 ≤ 1590000) (nv : NR mu 7 v) (nc : NB mu c) (Ke : ∀ r m', RI r → RI (m' 582 84) → m' 582 84 ≠ 0 → Q 0 m' → K131 y base d r m') : ∀ (n : Nat) (i : Int) (w : Int → PP) (m : MM), 0 ≤ i → i + n = d + 1 → BM m base mu → m 582 84 = 0 → Rw (m 635) y v 7 → pr m 635 (1592000 + 2 * (e - d)) = c → Rw (m 635) 1593000 w 7 → NR mu 7 w → (∀ w' m', dvR mu v c (e - d) n i w = .ok w' → Fm SDk m m' → m' 582 84 = 0 → Rw (m' 635) 1593000 w' 7 → P_X10_divide_287 Q K131 y base d m') → (∀ z m', dvR mu v c (e - d) n i w = .error z → Fm SDk m m' → m' 582 84 = z → Q 0 m') → P_X10_divide_190 Q K131 (n + 1) y base d e i m := by
  intro n
  induction n with
  | zero =>
    intro i w m i0 i1 hB er0 ry rc rw_ nw ok er
    refine ⟨by constructor <;> omega, by constructor <;> omega, ?_⟩
    rw [if_pos (by omega)]
    exact ok w m rfl (Fm.refl m) er0 rw_
  | succ n ih =>
    intro i w m i0 i1 hB er0 ry rc rw_ nw ok er
    have hM : MU mu := hB.2.2.2.1
    refine ⟨by constructor <;> omega, by constructor <;> omega, ?_⟩
    rw [if_neg (by omega)]
    refine ⟨by rw [er0]; decide, ?_⟩
    rw [if_pos er0]
    unfold dvR at ok er
    have vi : pr m 635 (y + 2 * i) = v i := ry.at i0 (by omega)
    refine c_X10_multiplyNumbers er0 hB (by omega) (by omega) (by rw [rc]; exact nc) (by rw [vi]; exact nv.1 i) (fun m1 mn => ?_)
    rw [rc, vi] at mn
    have f1 : Fm SDk m m1 := Fm.ofMN mn
    refine c_put (by decide) ?_
    rcases ht : mulS mu c (v i) with z | t
    · have := mulS_err ht
      have e1 := mn.2.2 z ht
      rw [ht] at er
      have e1' : pt m1 635 1594000 (m1 582 87, m1 582 88) 582 84 = z := by rw [pt_oth (by decide), e1]
      refine ⟨by rw [e1', this]; decide, ?_⟩
      rw [if_neg (by rw [e1', this]; decide)]
      exact er z _ rfl (f1.trans (Fm.ofPt (Or.inr (by decide)) (Or.inr (by decide)))) e1'
    · obtain ⟨e1, p1⟩ := mn.pair ht
      rw [p1]
      rw [ht] at ok er
      simp only at ok er
      have nt := NB.mul hM nc (nv.1 i) ht
      have f2 : Fm SDk m (pt m1 635 1594000 t) := f1.trans (Fm.ofPt (Or.inr (by decide)) (Or.inr (by decide)))
      have e2 : pt m1 635 1594000 t 582 84 = 0 := by rw [pt_oth (by decide), e1]
      refine ⟨by rw [e2]; decide, ?_⟩
      rw [if_pos (by rw [e2]; decide), Int.add_comm (e - d) i]
      have rw1 : Rw (pt m1 635 1594000 t 635) 1593000 w 7 := (rw_.fm (Fm.ofMN (S := fun _ => False) mn) (fun _ _ _ z => z)).ofs (by decide)
      have wi : pr (pt m1 635 1594000 t) 635 (1593000 + 2 * (i + (e - d))) = w (i + (e - d)) := rw1.at (by omega) (by omega)
      refine c_X10_takeNumbersR e2 (f2.bm hB) (by omega) (by decide) (by rw [wi]; exact nw.1 _) (by rw [pt_at]; exact nt) (fun m3 mn3 rl3 => ?_)
      rw [wi, pt_at] at mn3
      have f3 : Fm SDk m m3 := f2.trans (Fm.ofMN mn3)
      have rw3 : Rw (m3 635) 1593000 w 7 := rw1.fm (Fm.ofMN (S := fun _ => False) mn3) (fun _ _ _ z => z)
      refine c_put (by omega) ?_
      have f4 : ∀ p : PP, Fm SDk m (pt m3 635 (1593000 + 2 * (i + (e - d))) p) := fun p => f3.trans (Fm.ofPt (Or.inl (by omega)) (Or.inl (by omega)))
      rcases hz : addS mu 1 (w (i + (e - d))) t with z | z
      · have := addS_err hz
        have e3 := mn3.2.2 z hz
        rw [hz] at er
        have e4 : pt m3 635 (1593000 + 2 * (i + (e - d))) (m3 582 87, m3 582 88) 582 84 = z := by rw [pt_oth (by decide), e3]
        have qe := er z _ rfl (f4 (m3 582 87, m3 582 88)) e4
        have k287 : P_X10_divide_287 Q K131 y base d (pt m3 635 (1593000 + 2 * (i + (e - d))) (m3 582 87, m3 582 88)) := by
          refine c_X10_degreeOf (u := setP w (i + (e - d)) (m3 582 87, m3 582 88)) (by decide) rw3.set (fun k _ _ => ?_) ?_
          · unfold setP
            split
            · exact rl3
            · exact nw.rl k
          · have bd := degS_bd (setP w (i + (e - d)) (m3 582 87, m3 582 88))
            exact Ke _ _ (by constructor <;> omega) (by rw [e4, this]; decide) (by rw [e4, this]; decide) qe
        refine ⟨by constructor <;> omega, by constructor <;> omega, ?_⟩
        by_cases cc : d < i + 1
        · rw [if_pos cc]; exact k287
        · rw [if_neg cc]
          refine ⟨by rw [e4, this]; decide, ?_⟩
          rw [if_neg (by rw [e4, this]; decide)]
          exact k287
      · obtain ⟨e3, p3⟩ := mn3.pair hz
        rw [p3]
        rw [hz] at ok er
        simp only at ok er
        have nz := NB.add hM (nw.1 _) nt hz
        refine ih (i + 1) (setP w (i + (e - d)) z) _ (by omega) (by omega) ((f4 z).bm hB) (by rw [pt_oth (by decide), e3]) (ry.fm (f4 z) (fun q q0 q1 zz => by unfold SDk at zz; omega)) ?_ rw3.set (nw.set (by omega) nz) (fun w' m' a1 a2 a3 a4 => ok w' m' a1 ((f4 z).trans a2) a3 a4) (fun z' m' a1 a2 a3 => er z' m' a1 ((f4 z).trans a2) a3)
        unfold pr
        rw [(f4 z).2 _ (by unfold SDk; omega), (f4 z).2 _ (by unfold SDk; omega)]
        exact rc
theorem dvM_131 {m : MM} (hB : BM m base mu) (hf : FD mu) (hd : 0 ≤ d ∧ d ≤ 6) (hy : 0 ≤ y ∧ y + 882 ≤ 1590000) (ry : Rw (m 635) y v 7) (nv : NR mu 7 v) (hv : (v d).1 ≠ 0) (hok : ∀ q w m', dvG mu v d 8 zr u = .ok (q, w) → Fm SDm m m' → m' 582 84 = 0 → Rw (m' 635) 1592000 q 7 → Rw (m' 635) 1593000 w 7 → Q 0 m') (her : ∀ e m', dvG mu v d 8 zr u = .error e → Fm SDm m m' → m' 582 84 = e → Q 0 m') : ∀ (n : Nat) (q w : Int → PP) (m' : MM), Fm SDm m m' → m' 582 84 = 0 → Rw (m' 635) 1592000 q 7 → Rw (m' 635) 1593000 w 7 → NR mu 7 w → degS w - d < n → dvG mu v d n q w = dvG mu v d 8 zr u → P_X10_divide_131 Q (n + 1) y base d (degS w) m' := by
  have hM : MU mu := hB.2.2.2.1
  intro n
  induction n with
  | zero =>
    intro q w m' f e rq rw_ nw hn hs
    have hb' := degS_bd w
    refine ⟨by constructor <;> omega, by constructor <;> omega, ?_⟩
    rw [if_pos (by omega)]
    exact hok q w m' hs.symm f e rq rw_
  | succ n ih =>
    intro q w m' f e rq rw_ nw hn hs
    have hb' := degS_bd w
    refine ⟨by constructor <;> omega, by constructor <;> omega, ?_⟩
    unfold dvG at hs
    by_cases c : degS w < d
    · rw [if_pos c]
      rw [if_pos c] at hs
      exact hok q w m' hs.symm f e rq rw_
    rw [if_neg c] at hs
    rw [if_neg c]
    refine ⟨by rw [e]; decide, ?_⟩
    rw [if_pos e]
    have ry' : Rw (m' 635) y v 7 := ry.fm f (fun q q0 q1 z => by unfold SDm at z; omega)
    have wi : pr m' 635 (1593000 + 2 * degS w) = w (degS w) := rw_.at (by omega) (by omega)
    have vi : pr m' 635 (y + 2 * d) = v d := ry'.at (by omega) (by omega)
    refine c_X10_divideNumbers e (f.bm hB) hf (by omega) (by omega) (by rw [wi]; exact nw.1 _) (by rw [vi]; exact nv.1 _) (by rw [vi]; exact hv) (fun m1 mn => ?_)
    rw [wi, vi] at mn
    have f1 : Fm SDm m m1 := f.trans (Fm.ofMN mn)
    rcases hc : divS mu (w (degS w)) (v d) with z | cq
    · have := divS_err hc
      have e1 := mn.2.2 z hc
      rw [hc] at hs
      refine ⟨by rw [e1, this]; decide, ?_⟩
      rw [if_neg (by rw [e1, this]; decide)]
      exact her z m1 hs.symm f1 e1
    · obtain ⟨e1, p1⟩ := mn.pair hc
      rw [hc] at hs
      simp only at hs
      have nc := NB.div hM (nw.1 _) (nv.1 _) hv hc
      refine ⟨by rw [e1]; decide, ?_⟩
      rw [if_pos (by rw [e1]; decide)]
      refine c_put (by omega) ?_
      rw [p1]
      have fz : Fm (fun _ => False) m' m1 := Fm.ofMN mn
      have rq1 : Rw (m1 635) 1592000 q 7 := rq.fm fz (fun _ _ _ z => z)
      have rw1 : Rw (m1 635) 1593000 w 7 := rw_.fm fz (fun _ _ _ z => z)
      have f2 : Fm SDm m (pt m1 635 (1592000 + 2 * (degS w - d)) cq) := f1.trans (Fm.ofPt (Or.inl (by omega)) (Or.inl (by omega)))
      refine ⟨(d + 1).toNat + 1, dvM_190 (v := v) (c := cq) (by omega) (by omega) hy nv nc (fun r m2 r0 e0 e9 q0 => ?_) (d + 1).toNat 0 w _ (by decide) (by omega) (f2.bm hB) (by rw [pt_oth (by decide), e1]) (ry.fm f2 (fun q q0 q1 z => by unfold SDm at z; omega)) pt_at (rw1.ofs (by omega)) nw (fun w' m2 a1 a2 a3 a4 => ?_) (fun z m2 a1 a2 a3 => ?_)⟩
      · refine ⟨r0, by constructor <;> omega, ?_⟩
        by_cases cc : r < d
        · rw [if_pos cc]; exact q0
        · rw [if_neg cc]
          refine ⟨e0, ?_⟩
          rw [if_neg e9]
          exact q0
      · rw [a1] at hs
        simp only at hs
        have low := dvR_deg hM hf nv nw (by omega) hv hc a1
        have nw' := dvR_NR hM nv nc _ _ _ _ (by omega) nw a1
        refine c_X10_degreeOf (by decide) a4 (fun k _ _ => nw'.rl k) ?_
        refine ih (setP q (degS w - d) cq) w' m2 (f2.trans (a2.mono (fun q z => by unfold SDk at z; unfold SDm; omega))) a3 ?_ a4 nw' (by omega) hs
        exact (rq1.set (k := degS w - d) (z := cq)).fm a2 (fun q q0 q1 z => by unfold SDk at z; omega)
      · rw [a1] at hs
        exact her z m2 hs.symm (f2.trans (a2.mono (fun q z => by unfold SDk at z; unfold SDm; omega))) a3
def SDM (q : Int) : Prop := 1592000 ≤ q ∧ q < 1592882 ∨ 1593000 ≤ q ∧ q < 1593882 ∨ 1594000 ≤ q ∧ q < 1594002
theorem SDm_M {q : Int} (h : SDm q) : SDM q := by unfold SDm at h; unfold SDM; omega
def OutDM (S : Int → Prop) (m : MM) (r : EX ((Int → PP) × (Int → PP))) (Q : Int → MM → Prop) : Prop := (∀ q w m', r = .ok (q, w) → Fm S m m' → m' 582 84 = 0 → VM (m' 635) 1592000 (rvv q) → VM (m' 635) 1593000 (rvv w) → Q 0 m') ∧ (∀ e m', r = .error e → Fm S m m' → m' 582 84 = e → Q 0 m')
theorem c_X10_divide {m : MM} (hB : BM m base mu) (hf : FD mu) (he : m 582 84 = 0) (hx : 0 ≤ x ∧ x + 882 ≤ 1590000) (hy : 0 ≤ y ∧ y + 882 ≤ 1590000) (vx : VM (m 635) x (rvv u)) (vy : VM (m 635) y (rvv v)) (nu : NR mu 7 u) (nv : NR mu 7 v) (h : OutDM SDM m (dvP mu u v) Q) : P_X10_divide x y base 1 m Q := by
  have hM : MU mu := hB.2.2.2.1
  have hbv := degS_bd v
  have hbu := degS_bd u
  refine c_clear (n := 441) (by decide) (by decide) (fun m1 f1 e1 r1 => ?_)
  have f1' : Fm SDM m m1 := f1.mono (fun q z => by have z1 : 1592000 ≤ q ∧ q < 1592000 + 2 * 441 := z; unfold SDM; omega)
  have v1 : VM (m1 635) 1592000 (rvv zr) := by rw [rvv_zr]; exact VM_clear r1
  refine c_copy (n := 882) (by omega) (by decide) (Or.inr (by omega)) (fun m2 f2 e2 cp => ?_)
  have f2' : Fm SDM m m2 := f1'.trans (f2.mono (fun q z => by have z1 : 1593000 ≤ q ∧ q < 1593000 + 882 := z; unfold SDM; omega))
  have e2' : m2 582 84 = 0 := by rw [e2, e1, he]
  have vu : VM (m2 635) 1593000 (rvv u) := (vx.fm f1' (fun q q0 q1 z => by unfold SDM at z; omega)).cpy cp
  have vq : VM (m2 635) 1592000 (rvv zr) := v1.fm f2 (fun q q0 q1 z => by have z1 : 1593000 ≤ q ∧ q < 1593000 + 882 := z; omega)
  have vy2 : VM (m2 635) y (rvv v) := vy.fm f2' (fun q q0 q1 z => by unfold SDM at z; omega)
  have ry2 : Rw (m2 635) y v 7 := vy2.row.le (by decide)
  refine c_isZero (n := 7) (u := v) (by omega) (by omega) ry2 (fun k _ _ => nv.rl k) ?_
  unfold dvP at h
  by_cases c : degS v < 0
  · rw [if_pos (allZ_deg.2 c)]
    rw [if_pos c] at h
    refine ⟨by decide, ?_⟩
    rw [if_neg (by decide)]
    rintro _ rfl
    exact h.2 2 _ rfl (f2'.trans Fm.err) (up_at ..)
  · rw [if_neg (fun z => c (allZ_deg.1 z))]
    rw [if_neg c] at h
    refine ⟨by decide, ?_⟩
    rw [if_pos rfl]
    refine ⟨by decide, ?_⟩
    rw [if_neg (by decide)]
    refine c_X10_degreeOf (by omega) ry2 (fun k _ _ => nv.rl k) (c_X10_degreeOf (by decide) (vu.row.le (by decide)) (fun k _ _ => nu.rl k) ?_)
    refine ⟨9, dvM_131 (m := m2) (u := u) (f2'.bm hB) hf (by omega) hy ry2 nv (degG_v (by omega)) (fun q w m' a1 a2 a3 a4 a5 => ?_) (fun e m' a1 a2 a3 => h.2 e m' a1 (f2'.trans (a2.mono (fun _ => SDm_M))) a3) 8 zr u m2 (Fm.refl m2) e2' (vq.row.le (by decide)) (vu.row.le (by decide)) nu (by omega) rfl⟩
    obtain ⟨nq, nw⟩ := dvG_NR hM nv (by omega) (degG_v (by omega)) _ _ _ _ _ (NR_z hM 7) nu a1
    exact h.1 q w m' a1 (f2'.trans (a2.mono (fun _ => SDm_M))) a3 (vq.chg a2 (fun q q0 q1 z => by unfold SDm at z; omega) a4 (by decide) (fun _ _ => rfl) nq.2 (by decide)) (vu.chg a2 (fun q q0 q1 z => by unfold SDm at z; omega) a5 (by decide) nu.2 nw.2 (by decide))
end DIVM
