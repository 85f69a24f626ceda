set_option maxRecDepth 100000
/-! tokens: the model -/
def TXm (m : MM) (tx : Int → Int) (n : Int) : Prop := (0 ≤ n ∧ n ≤ 400) ∧ ∀ i, 0 ≤ i → i < n → m 586 i = tx i ∧ (0 ≤ tx i ∧ tx i ≤ 255)
def KYM (m : MM) : Prop := ∀ k, 0 ≤ k → k < 21 → m 583 k = kyn k
def kT (k : Int) : Int := if k = 1 then 4 else if k = 2 then 1 else if k = 3 then 2 else if k = 4 then 3 else k
def sM (v : Int) : Int := if v = 128 then 14909 else if v = 129 then 15677 else if v = 130 then 14906 else if v = 131 then 15421 else v
section TOKM
variable {Q : Int → MM → Prop} {m : MM} {tx : Int → Int} {n q t c : Int}
theorem c_ltM (rc : RI c) (h1 : isLt c → Q 1 m) (h0 : ¬ isLt c → Q 0 m) : P_X10_isLetter c m Q := by
  have l12 : ¬ (97 ≤ c ∧ c ≤ 122) → P_X10_isLetter_12 Q c m := by
    intro g
    refine ⟨rc, ?_⟩
    by_cases a : c < 65
    · rw [if_pos a]; exact h0 (by unfold isLt; omega)
    · rw [if_neg a]
      by_cases b : 90 < c
      · rw [if_pos b]; exact h0 (by unfold isLt; omega)
      · rw [if_neg b]; exact h1 (by unfold isLt; omega)
  refine ⟨rc, ?_⟩
  by_cases a : c < 97
  · rw [if_pos a]; exact l12 (by omega)
  · rw [if_neg a]
    by_cases b : c ≤ 122
    · rw [if_pos b]; exact h1 (by unfold isLt; omega)
    · rw [if_neg b]; exact l12 (by omega)
theorem c_dgM (rc : RI c) (h1 : isDg c → Q 1 m) (h0 : ¬ isDg c → Q 0 m) : P_X10_isDigit c m Q := by
  refine ⟨rc, ?_⟩
  by_cases a : c < 48
  · rw [if_pos a]; exact h0 (by unfold isDg; omega)
  · rw [if_neg a]
    by_cases b : 57 < c
    · rw [if_pos b]; exact h0 (by unfold isDg; omega)
    · rw [if_neg b]; exact h1 (by unfold isDg; omega)
theorem c_builtAny {w : Int} (hB : BFM m) (hw : RL w) (h : Q (fnI w) m) : P_X10_builtInOf w m Q := by
  obtain ⟨fd, hfd⟩ : ∃ fd, fd = fstI bfn w 14 0 := ⟨_, rfl⟩
  unfold fnI at h
  rw [← hfd] at h
  have L : ∀ (r : Nat) (j : Int), 0 ≤ j → j + r = 14 → fd = fstI bfn w r j → P_X10_builtInOf_2 Q (r + 1) w j m := by
    intro r
    induction r with
    | zero =>
      intro j j0 j1 e
      refine ⟨by constructor <;> omega, ?_⟩
      rw [if_pos (by omega)]
      rw [e] at h
      exact h
    | succ r ih =>
      intro j j0 j1 e
      unfold P_X10_builtInOf_2
      rw [hB j j0 (by omega)]
      refine ⟨by constructor <;> omega, ?_⟩
      rw [if_neg (by omega)]
      refine ⟨by omega, bfn_rl, hw, ?_⟩
      unfold fstI at e
      by_cases cc : bfn j = w
      · rw [if_pos cc] at e ⊢
        rw [e] at h
        exact h
      · rw [if_neg cc] at e ⊢
        exact ih (j + 1) (by omega) (by omega) e
  exact ⟨_, L 14 0 (by decide) (by decide) hfd⟩
theorem rl_ite {p : Prop} [Decidable p] {a b : Int} (ha : RL a) (hb : RL b) : RL (if p then a else b) := by
  by_cases h : p
  · rw [if_pos h]; exact ha
  · rw [if_neg h]; exact hb
theorem kyn_rl {k : Int} : RL (kyn k) := by
  unfold kyn
  iterate 20 refine rl_ite (by decide) ?_
  decide
theorem keyI_bd {w : Int} : -1 ≤ keyI w ∧ keyI w < 21 := by
  unfold keyI
  rcases h : fstI kyn w 21 0 with - | j
  · decide
  · have := fstI_bd _ _ _ h
    show -1 ≤ j ∧ j < 21
    omega
theorem fnI_bd {w : Int} : -1 ≤ fnI w ∧ fnI w < 14 := by
  unfold fnI
  rcases h : fstI bfn w 14 0 with - | j
  · decide
  · have := fstI_bd _ _ _ h
    show -1 ≤ j ∧ j < 14
    omega
theorem c_wordKindM {w : Int} (hK : KYM m) (hB : BFM m) (hw : RL w) (h : Q (kT (if 0 ≤ keyI w then 3 else if 0 ≤ fnI w then 4 else 2)) m) : P_X10_wordKind w m Q := by
  obtain ⟨fd, hfd⟩ : ∃ fd, fd = fstI kyn w 21 0 := ⟨_, rfl⟩
  have hk : keyI w = encP fd := by rw [hfd]; rfl
  rw [hk] at h
  have L : ∀ (r : Nat) (j : Int), 0 ≤ j → j + r = 21 → fd = fstI kyn w r j → P_X10_wordKind_2 Q (r + 1) w j m := by
    intro r
    induction r with
    | zero =>
      intro j j0 j1 e
      refine ⟨by constructor <;> omega, ?_⟩
      rw [if_pos (by omega)]
      have e' : fd = none := e
      rw [e', if_neg (show ¬ 0 ≤ encP none by decide)] at h
      refine c_builtAny hB hw ?_
      have fb := fnI_bd (w := w)
      refine ⟨by constructor <;> omega, ?_⟩
      by_cases f0 : 0 ≤ fnI w
      · rw [if_neg (by omega)]
        rw [if_pos f0] at h
        exact h
      · rw [if_pos (by omega)]
        rw [if_neg f0] at h
        exact h
    | succ r ih =>
      intro j j0 j1 e
      unfold P_X10_wordKind_2
      rw [hK j j0 (by omega)]
      refine ⟨by constructor <;> omega, ?_⟩
      rw [if_neg (by omega)]
      refine ⟨by omega, kyn_rl, hw, ?_⟩
      unfold fstI at e
      by_cases cc : kyn j = w
      · rw [if_pos cc] at e ⊢
        rw [e, if_pos (show 0 ≤ encP (some j) from j0)] at h
        exact h
      · rw [if_neg cc] at e ⊢
        exact ih (j + 1) (by omega) (by omega) e
  exact ⟨_, L 21 0 (by decide) (by decide) hfd⟩
/-- what a token leaves -/
def TKm (m : MM) (t : Int) (k : TK) : Prop := m 587 t = kT k.1 ∧ (k.1 = 1 → m 589 t = k.2.1) ∧ (k.1 = 2 ∨ k.1 = 3 ∨ k.1 = 4 → m 589 t = k.2.2.1) ∧ (k.1 = 5 → m 589 t = sM k.2.1)
def F1t (t : Int) (m m' : MM) : Prop := ∀ c i, ¬ ((c = 587 ∨ c = 589) ∧ i = t) → m' c i = m c i
theorem c_wordM (hT : TXm m tx n) (hK : KYM m) (hB : BFM m) (hq : 0 ≤ q ∧ q < n) (ht : m 582 8 = t) (tb : 0 ≤ t ∧ t < 420) (h6 : m 587 t = 6) (hl : isLt (tx q)) (h : ∀ m', F1t t m m' → TKm m' t (tokS tx n q).1 → Q (tokS tx n q).2 m') : ∃ nn, P_X10_token_20 Q nn q n q 0 m := by
  have nb := hT.1
  obtain ⟨e, he⟩ : ∃ e, e = runW tx n (n - q).toNat q := ⟨_, rfl⟩
  have tk : tokS tx n q = (wordS tx q e, e) := by unfold tokS; rw [if_pos hl, he]
  rw [tk] at h
  have eb := runW_bd (tx := tx) (n := n) (n - q).toNat q (by omega)
  rw [← he] at eb
  have fin : ∀ x5, (e - q ≤ 8 → x5 = pkS tx (e - q).toNat q 0) → (∀ i, q ≤ i → i < e → isLt (tx i) ∨ isDg (tx i)) → P_X10_token_83 Q q e x5 m := by
    intro x5 hx5 hw
    unfold P_X10_token_83
    rw [ht]
    refine ⟨tb, ?_⟩
    rintro m1 rfl
    refine ⟨by constructor <;> omega, ?_⟩
    by_cases c8 : 8 < e - q
    · rw [if_pos c8]
      refine h _ (fun c i z => up_ne (fun y => z ⟨Or.inr y.1, y.2⟩)) ?_
      unfold wordS
      rw [if_pos c8]
      refine ⟨?_, fun z => (by cases z), fun z => (by rcases z with z | z | z <;> cases z), fun z => (by cases z)⟩
      rw [up_ne (by omega)]
      exact h6
    · rw [if_neg c8]
      have hx := hx5 (by omega)
      have fit := pkS_fit (tx := tx) (e - q).toNat q (fun i i0 i1 => by
        have := hw i i0 (by omega)
        unfold isLt isDg at this
        omega)
      have rw8 : RL x5 := by
        rw [hx]
        rcases fit with z | z
        · have p8 : (256 : Int) ^ ((e - q).toNat - 1) ≤ 256 ^ 7 := by
            have : ∀ a b : Nat, a ≤ b → (256 : Int) ^ a ≤ 256 ^ b := by
              intro a b hab
              obtain ⟨k, rfl⟩ := Nat.exists_eq_add_of_le hab
              induction k with
              | zero => exact Int.le_refl _
              | succ k ih =>
                have := ih (by omega)
                rw [show a + (k + 1) = a + k + 1 by omega, Int.pow_succ]
                have p0 : (0 : Int) ≤ 256 ^ (a + k) := Int.pow_nonneg (by decide)
                omega
            exact this _ _ (by omega)
          have e7 : (256 : Int) ^ 7 = 72057594037927936 := by decide
          rw [e7] at p8
          constructor <;> omega
        · rw [z]
          have : pkS tx 0 q 0 = 0 := rfl
          rw [this]
          decide
      refine c_wordKindM (fun k k0 k1 => by rw [up_ne (by omega)]; exact hK k k0 k1) (fun k k0 k1 => by rw [up_ne (by omega)]; exact hB k k0 k1) rw8 ?_
      have e8 : up m 589 t x5 582 8 = t := by rw [up_ne (by omega)]; exact ht
      rw [e8]
      refine ⟨tb, ?_⟩
      rintro m3 rfl
      refine h _ (fun c i z => by rw [up_ne (fun y => z ⟨Or.inl y.1, y.2⟩), up_ne (fun y => z ⟨Or.inr y.1, y.2⟩)]) ?_
      unfold wordS
      rw [if_neg c8, ← hx]
      have v89 : up (up m 589 t x5) 587 t (kT (if 0 ≤ keyI x5 then 3 else if 0 ≤ fnI x5 then 4 else 2)) 589 t = x5 := by rw [up_ne (by omega), up_at]
      refine ⟨up_at .., fun z => ?_, fun _ => v89, fun z => ?_⟩
      · exfalso
        simp only at z
        split at z
        · cases z
        · split at z <;> cases z
      · exfalso
        simp only at z
        split at z
        · cases z
        · split at z <;> cases z
  have L : ∀ (f : Nat) (p x5 : Int), q ≤ p → p + f = n → (p - q ≤ 8 → x5 = pkS tx (p - q).toNat q 0) → (∀ i, q ≤ i → i < p → isLt (tx i) ∨ isDg (tx i)) → e = runW tx n f p → P_X10_token_20 Q (f + 1) q n p x5 m := by
    intro f
    induction f with
    | zero =>
      intro p x5 p0 p1 hx hw hr
      have ep : e = p := hr
      refine ⟨by constructor <;> omega, by constructor <;> omega, ?_⟩
      rw [if_pos (by omega), ← ep]
      exact fin x5 (by rw [ep]; exact hx) (by rw [ep]; exact hw)
    | succ f ih =>
      intro p x5 p0 p1 hx hw hr
      obtain ⟨c1, c2⟩ := hT.2 p (by omega) (by omega)
      have rc : RI (tx p) := by constructor <;> omega
      unfold runW at hr
      have stop : ¬ (isLt (tx p) ∨ isDg (tx p)) → P_X10_token_83 Q q p x5 m := by
        intro z
        rw [if_neg (fun y => z y.2)] at hr
        rw [← hr]
        exact fin x5 (by rw [hr]; exact hx) (by rw [hr]; exact hw)
      have go : (isLt (tx p) ∨ isDg (tx p)) → P_X10_token_52 Q (fun z0 z1 z2 z3 z4 => P_X10_token_20 Q (f + 1) z0 z1 z2 z3 z4) q n p x5 m := by
        intro z
        rw [if_pos ⟨by omega, z⟩] at hr
        have hw' : ∀ i, q ≤ i → i < p + 1 → isLt (tx i) ∨ isDg (tx i) := fun i i0 i1 => by
          by_cases y : i = p
          · rw [y]; exact z
          · exact hw i i0 (by omega)
        unfold P_X10_token_52
        refine ⟨by constructor <;> omega, ?_⟩
        by_cases c8 : 8 ≤ p - q
        · rw [if_pos c8]
          exact ih (p + 1) x5 (by omega) (by omega) (fun y => by omega) hw' hr
        · rw [if_neg c8, c1]
          refine ⟨by omega, rc, ih (p + 1) _ (by omega) (by omega) (fun y => ?_) hw' hr⟩
          have hx' := hx (by omega)
          have pk0 : 0 ≤ x5 ∧ x5 < 36028797018963968 := by
            rw [hx']
            have fit := pkS_fit (tx := tx) (p - q).toNat q (fun i i0 i1 => by
              have := hw i i0 (by omega)
              unfold isLt isDg at this
              omega)
            rcases fit with z | z
            · have p6 : (256 : Int) ^ ((p - q).toNat - 1) ≤ 256 ^ 6 := by
                have : ∀ a b : Nat, a ≤ b → (256 : Int) ^ a ≤ 256 ^ b := by
                  intro a b hab
                  obtain ⟨k, rfl⟩ := Nat.exists_eq_add_of_le hab
                  induction k with
                  | zero => exact Int.le_refl _
                  | succ k ih =>
                    have := ih (by omega)
                    rw [show a + (k + 1) = a + k + 1 by omega, Int.pow_succ]
                    have p0 : (0 : Int) ≤ 256 ^ (a + k) := Int.pow_nonneg (by decide)
                    omega
                exact this _ _ (by omega)
              have e6 : (256 : Int) ^ 6 = 281474976710656 := by decide
              rw [e6] at p6
              omega
            · rw [z]
              have : pkS tx 0 q 0 = 0 := rfl
              rw [this]
              decide
          rw [lOr_pk pk0 c2, hx', show (p + 1 - q).toNat = (p - q).toNat + 1 by omega, pkS_snoc, show q + ((p - q).toNat : Int) = p by omega]
      refine ⟨by constructor <;> omega, by constructor <;> omega, ?_⟩
      rw [if_neg (by omega)]
      refine ⟨by omega, ?_⟩
      rw [c1]
      refine c_ltM rc (fun y => ⟨by decide, ?_⟩) (fun y => ⟨by decide, ?_⟩)
      · rw [if_neg (by decide)]
        exact go (Or.inl y)
      · rw [if_pos rfl, c1]
        refine c_dgM rc (fun y' => ⟨by decide, ?_⟩) (fun y' => ⟨by decide, ?_⟩)
        · rw [if_neg (by decide)]
          exact go (Or.inr y')
        · rw [if_pos rfl]
          exact stop (fun z => by rcases z with z | z; exact y z; exact y' z)
  refine ⟨_, L (n - q).toNat q 0 (Int.le_refl _) (by omega) (fun _ => ?_) (fun i i0 i1 => by omega) he⟩
  rw [show (q - q).toNat = 0 by omega]
  rfl
end TOKM
