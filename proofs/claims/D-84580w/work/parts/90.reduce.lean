set_option maxRecDepth 100000
/-! reducing a row by another one: the component -/
def rowQ (m : MM) (a : Int) : Int → PP := fun k => (m a k, 1)
/-- numbers of a row are reduced -/
def InP (p : Int) (g : Int → Int) (L : Int) : Prop := ∀ k, 0 ≤ k → k < L → 0 ≤ g k ∧ g k < p
theorem mul_p {p x y : Int} (hp : p ≤ 9973) (hx : 0 ≤ x ∧ x ≤ p) (hy : 0 ≤ y ∧ y < p) : 0 ≤ x * y ∧ x * y ≤ 99460729 := by
  refine ⟨Int.mul_nonneg hx.1 hy.1, ?_⟩
  have := Int.mul_le_mul (show x ≤ 9973 by omega) (show y ≤ 9973 by omega) hy.1 (by decide)
  omega
theorem emod_bd {x p : Int} (hp : 0 < p) : 0 ≤ x % p ∧ x % p < p := ⟨Int.emod_nonneg _ (by omega), Int.emod_lt_of_pos _ hp⟩
theorem dvd_emod {x p : Int} : p ∣ x - x % p := by
  refine ⟨x / p, ?_⟩
  have := Int.mul_ediv_add_emod x p
  omega
/-- what a step does to a row -/
def stepR (p t k h : Int) (g b : Int → Int) : Int → Int := fun i => if k - h ≤ i ∧ i ≤ k then (g i + (p - t) * b (i - (k - h))) % p else g i
/-- they differ by something of one -/
def DF (p : Int) (B X Y : PL) : Prop := ∀ S, CLp p S → S B → S (fun n => Y n - X n)
theorem DF.refl {p : Int} {B X : PL} : DF p B X X := fun S c hB => c.1 _ _ (c.2.2.1 0 B hB) (fun n => by rw [Int.zero_mul, Int.sub_self, Int.sub_self]; exact Int.dvd_zero p)
theorem DF.trans {p : Int} {B X Y Z : PL} (h : DF p B X Y) (k : DF p B Y Z) : DF p B X Z := fun S c hB => c.1 _ _ (c.2.1 _ _ (h S c hB) (k S c hB)) (fun n => by
  rw [show Y n - X n + (Z n - Y n) - (Z n - X n) = 0 by omega]
  exact Int.dvd_zero p)
theorem DF.iff {p : Int} {B X Y : PL} (h : DF p B X Y) {S : PL → Prop} (c : CLp p S) (hB : S B) : S X ↔ S Y := by
  have d := h S c hB
  constructor
  · intro hX
    exact c.1 _ _ (c.2.1 _ _ hX d) (fun n => by rw [show X n + (Y n - X n) - Y n = 0 by omega]; exact Int.dvd_zero p)
  · intro hY
    exact c.1 _ _ (c.2.1 _ _ hY (c.2.2.1 (-1) _ d)) (fun n => by rw [show Y n + -1 * (Y n - X n) - X n = 0 by omega]; exact Int.dvd_zero p)
theorem DF.rq {p e : Int} {P X Y : PL} (h : DF p P X Y) (k : RQ p P X e) : RQ p P Y e := fun S c hP => c.1 _ _ (c.2.1 _ _ (k S c hP) (h S c hP)) (fun n => by
  rw [show X n - mono e n + (Y n - X n) - (Y n - mono e n) = 0 by omega]
  exact Int.dvd_zero p)
theorem DF.of {p c k : Int} {B X Y : PL} (hk : 0 ≤ k) (h : ∀ n, p ∣ X n + c * B (n - k) - Y n) : DF p B X Y := fun S cl hB => cl.1 _ _ (cl.2.2.1 c _ (cl.shI hB hk)) (fun n => by
  have := h n
  rw [show c * B (n - k) - (Y n - X n) = X n + c * B (n - k) - Y n by omega]
  exact this)
theorem stepR_D {p t k h L Lb : Int} {g b : Int → Int} (hk : h ≤ k ∧ k < L) (hh : 0 ≤ h ∧ h < Lb) (hb : ∀ j, h < j → j < Lb → b j = 0) : DF p (PA b Lb) (PA g L) (PA (stepR p t k h g b) L) := by
  refine DF.of (c := p - t) (k := k - h) (by omega) (fun n => ?_)
  unfold PA stepR
  by_cases c1 : k - h ≤ n ∧ n ≤ k
  · rw [if_pos (by omega), if_pos (by omega), if_pos (by omega), if_pos c1]
    exact dvd_emod
  · have z : (if 0 ≤ n - (k - h) ∧ n - (k - h) < Lb then b (n - (k - h)) else 0) = 0 := by
      by_cases c2 : 0 ≤ n - (k - h) ∧ n - (k - h) < Lb
      · rw [if_pos c2]
        exact hb _ (by omega) (by omega)
      · rw [if_neg c2]
    rw [z, if_neg c1, Int.mul_zero, Int.add_zero, Int.sub_self]
    exact Int.dvd_zero p
/-- its head is gone -/
theorem stepR_0 {p t k h inv : Int} {g b : Int → Int} (hp : 2 ≤ p) (hh : 0 ≤ h) (hi : (b h * inv) % p = 1) (ht : t = g k * inv % p) : stepR p t k h g b k = 0 := by
  unfold stepR
  rw [if_pos (by omega), show k - (k - h) = h by omega]
  have d1 : p ∣ g k * inv - t := by rw [ht]; exact dvd_emod
  have d2 : p ∣ b h * inv - 1 := by
    have := dvd_emod (x := b h * inv) (p := p)
    rw [hi] at this
    exact this
  have e : g k + (p - t) * b h = p * b h + (g k * inv - t) * b h - (b h * inv - 1) * g k := by
    rw [Int.sub_mul, Int.sub_mul, Int.sub_mul, Int.mul_assoc, Int.mul_comm inv, Int.one_mul, Int.mul_comm (b h * inv) (g k)]
    omega
  rw [e]
  exact Int.emod_eq_zero_of_dvd (Int.dvd_sub (Int.dvd_add (Int.dvd_mul_right _ _) (Int.dvd_mul_of_dvd_left d1)) (Int.dvd_mul_of_dvd_left d2))
theorem stepR_P {p t k h L Lb : Int} {g b : Int → Int} (hp : 2 ≤ p) (hg : InP p g L) : InP p (stepR p t k h g b) L := by
  intro i i0 i1
  unfold stepR
  split
  · exact emod_bd (by omega)
  · exact hg i i0 i1
section RED
variable {Q : Int → MM → Prop} {p row by_ h fr : Int} {L : Nat}
def FA (a : Int) (m m' : MM) : Prop := ∀ c i, c ≠ a → m' c i = m c i
theorem FA.trans {a : Int} {m m1 m2 : MM} (h : FA a m m1) (k : FA a m1 m2) : FA a m m2 := fun c i z => (k c i z).trans (h c i z)
theorem FA.up {a i v : Int} {m : MM} : FA a m (up m a i v) := fun c j z => up_ne (fun q => z q.1)
theorem redC_34 {K13 : Int → Int → Int → Int → Int → Int → MM → Prop} {m0 : MM} {inv k t : Int} (hp : 2 ≤ p ∧ p ≤ 9973) (hr : lyA row = some (.inl (0, L))) (hb : lyA by_ = some (.inl (0, 7))) (hne : row ≠ by_) (hh : 0 ≤ h ∧ h ≤ 6) (hk : h ≤ k ∧ k < (L : Int)) (ht : 0 ≤ t ∧ t < p) (ir : InP p (m0 row) L) (ib : InP p (m0 by_) 7) (fin : ∀ m', FA row m0 m' → (∀ i, m' row i = stepR p t k h (m0 row) (m0 by_) i) → K13 row by_ h p inv (k + (-1)) m') : ∀ (n : Nat) (j : Int) (m' : MM), 0 ≤ j → j + n = h + 1 → FA row m0 m' → (∀ i, m' row i = if k - h ≤ i ∧ i < k - h + j then (m0 row i + (p - t) * m0 by_ (i - (k - h))) % p else m0 row i) → P_X6_reduce_34 Q K13 (n + 1) row by_ h p inv k t j m' := by
  intro n
  induction n with
  | zero =>
    intro j m' j0 j1 f hm
    refine ⟨by constructor <;> omega, by constructor <;> omega, ?_⟩
    rw [if_pos (by omega)]
    refine fin m' f (fun i => ?_)
    rw [hm i]
    unfold stepR
    by_cases c : k - h ≤ i ∧ i ≤ k
    · rw [if_pos c, if_pos (by omega)]
    · rw [if_neg c, if_neg (by omega)]
  | succ n ih =>
    intro j m' j0 j1 f hm
    refine ⟨by constructor <;> omega, by constructor <;> omega, ?_⟩
    rw [if_neg (by omega)]
    have e1 : m' row (k - h + j) = m0 row (k - h + j) := by rw [hm, if_neg (by omega)]
    have e2 : m' by_ j = m0 by_ j := f _ _ (fun z => hne z.symm)
    have b1 := ir (k - h + j) (by omega) (by omega)
    have b2 := ib j j0 (by omega)
    have b3 := mul_p hp.2 (show 0 ≤ p - t ∧ p - t ≤ p by omega) b2
    rw [e1, e2]
    refine ⟨⟨L, hr, by omega, by omega⟩, ⟨7, hb, by omega, by show j < 7; omega⟩, by constructor <;> omega, by constructor <;> omega, by omega, ?_⟩
    rintro _ rfl
    rw [tmod_pos (by omega)]
    refine ih (j + 1) _ (by omega) (by omega) (f.trans FA.up) (fun i => ?_)
    by_cases c : i = k - h + j
    · subst c
      rw [up_at, if_pos (by omega), show k - h + j - (k - h) = j by omega]
    · rw [up_neI c, hm i]
      by_cases c2 : k - h ≤ i ∧ i < k - h + j
      · rw [if_pos c2, if_pos (by omega)]
      · rw [if_neg c2, if_neg (by omega)]
theorem c_X6_reduce {m : MM} (hp : PRI p) (hp9 : p ≤ 9973) (hr : lyA row = some (.inl (0, L))) (hb : lyA by_ = some (.inl (0, 7))) (hne : row ≠ by_) (hL : L ≤ 14) (hh : 0 ≤ h ∧ h ≤ 6) (hf : -1 ≤ fr ∧ fr < (L : Int)) (ir : InP p (m row) L) (ib : InP p (m by_) 7) (bh : m by_ h ≠ 0) (bz : ∀ j, h < j → j < 7 → m by_ j = 0) (rz : ∀ j, fr < j → j < (L : Int) → m row j = 0) (fin : ∀ m', FA row m m' → InP p (m' row) L → (∀ j, h ≤ j → j < (L : Int) → m' row j = 0) → DF p (PA (m by_) 7) (PA (m row) L) (PA (m' row) L) → Q 0 m') : P_X6_reduce row fr by_ h p m Q := by
  have p2 := hp.1
  have bb := ib h hh.1 (by omega)
  refine ⟨⟨7, hb, hh.1, by show h < 7; omega⟩, c_X8_inverse hp hp9 (by omega) ?_⟩
  have iv := invS_bd (a := m by_ h) p2
  have hi := hp.inv (a := m by_ h) (by omega) (by omega)
  generalize invS p (m by_ h) = inv at *
  have Lp : ∀ (n : Nat) (k : Int) (m' : MM), k ≤ fr ∧ -1 ≤ k → k - h + 1 ≤ n → FA row m m' → InP p (m' row) L → (∀ j, k < j → j < (L : Int) → h ≤ j → m' row j = 0) → DF p (PA (m by_) 7) (PA (m row) L) (PA (m' row) L) → P_X6_reduce_13 Q (n + 1) row by_ h p inv k m' := by
    intro n
    induction n with
    | zero =>
      intro k m' k0 k1 f i z s
      refine ⟨by constructor <;> omega, by constructor <;> omega, ?_⟩
      rw [if_pos (by omega)]
      exact fin m' f i (fun j j0 j1 => z j (by omega) j1 j0) s
    | succ n ih =>
      intro k m' k0 k1 f i z s
      refine ⟨by constructor <;> omega, by constructor <;> omega, ?_⟩
      by_cases c : k < h
      · rw [if_pos c]
        exact fin m' f i (fun j j0 j1 => z j (by omega) j1 j0) s
      · rw [if_neg c]
        have b1 := i k (by omega) (by omega)
        have b2 := mul_p hp9 (show 0 ≤ m' row k ∧ m' row k ≤ p by omega) iv
        refine ⟨⟨L, hr, by omega, by omega⟩, by constructor <;> omega, by constructor <;> omega, by omega, ?_⟩
        rw [tmod_pos b2.1]
        have fb : ∀ j, m' by_ j = m by_ j := fun j => f _ _ (fun z => hne z.symm)
        have ib' : InP p (m' by_) 7 := fun j j0 j1 => by rw [fb]; exact ib j j0 j1
        refine ⟨_, redC_34 (m0 := m') ⟨p2, hp9⟩ hr hb hne hh (by omega) (emod_bd (by omega)) i ib' (fun m2 f2 h2 => ?_) (h + 1).toNat 0 m' (by decide) (by omega) (fun _ _ _ => rfl) (fun q => by rw [if_neg (by omega)])⟩
        have hg : m2 row = stepR p (m' row k * inv % p) k h (m' row) (m' by_) := funext h2
        have hbf : m' by_ = m by_ := funext fb
        refine ih (k + (-1)) m2 (by omega) (by omega) (f.trans f2) ?_ (fun j j0 j1 j2 => ?_) (s.trans ?_)
        · rw [hg]
          exact stepR_P (Lb := 7) p2 i
        · rw [hg]
          by_cases cj : j = k
          · rw [cj]
            exact stepR_0 p2 hh.1 (by rw [fb]; exact hi) rfl
          · have : stepR p (m' row k * inv % p) k h (m' row) (m' by_) j = m' row j := by
              unfold stepR
              rw [if_neg (by omega)]
            rw [this]
            exact z j (by omega) j1 j2
        · have := stepR_D (p := p) (t := m' row k * inv % p) (k := k) (h := h) (L := (L : Int)) (Lb := 7) (g := m' row) (b := m' by_) (by omega) (by omega) (fun j j0 j1 => by rw [fb]; exact bz j j0 j1)
          rw [← hg, hbf] at this
          exact this
  exact ⟨_, Lp 15 fr m ⟨Int.le_refl _, hf.1⟩ (by omega) (fun _ _ _ => rfl) ir (fun j j0 j1 _ => rz j j0 j1) DF.refl⟩
theorem c_X6_high {m : MM} {a : Int} (ha : lyA a = some (.inl (0, 7))) (hr : ∀ k, 0 ≤ k → k < 7 → RI (m a k)) (h : Q (degS (rowQ m a)) m) : P_X6_high a m Q := by
  have Lp : ∀ n : Nat, n ≤ 7 → Q (degG (rowQ m a) n) m → P_X6_high_3 Q (n + 1) a ((n : Int) - 1) m := by
    intro n
    induction n with
    | zero => intro _ q; refine ⟨by decide, ?_⟩; rw [if_pos (by decide)]; exact q
    | succ n ih =>
      intro hn q
      refine ⟨by constructor <;> omega, ?_⟩
      rw [if_neg (by omega), show ((n + 1 : Nat) : Int) - 1 = (n : Int) by omega]
      refine ⟨⟨7, ha, by omega, by show (n : Int) < 7; omega⟩, hr n (by omega) (by omega), ?_⟩
      unfold degG at q
      by_cases c : m a (n : Int) = 0
      · rw [if_pos c]
        rw [if_pos (show (rowQ m a (n : Int)).1 = 0 from c)] at q
        have := ih (by omega) q
        rw [show (n : Int) - 1 = (n : Int) + -1 by omega] at this
        exact this
      · rw [if_neg c]
        rw [if_neg (show ¬ (rowQ m a (n : Int)).1 = 0 from c)] at q
        exact q
  exact ⟨8, Lp 7 (by decide) h⟩
end RED
