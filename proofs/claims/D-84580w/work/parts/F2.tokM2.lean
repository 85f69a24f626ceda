set_option maxRecDepth 100000
/-! tokens: the model's numbers, signs and tokens -/
section TOKN
variable {Q : Int → MM → Prop} {m : MM} {tx : Int → Int} {n q t c d : Int}
theorem c_numM (hT : TXm m tx n) (hq : 0 ≤ q ∧ q < n) (ht : m 582 8 = t) (tb : 0 ≤ t ∧ t < 420) (h6 : m 587 t = 6) (hl : ¬ isLt (tx q)) (hd : isDg (tx q)) (h : ∀ m', F1t t m m' → TKm m' t (tokS tx n q).1 → Q (tokS tx n q).2 m') : ∃ nn, P_X10_token_128 Q nn q n q 0 m := by
  have nb := hT.1
  obtain ⟨e, he⟩ : ∃ e, e = runD tx n (n - q).toNat q := ⟨_, rfl⟩
  have tk : tokS tx n q = (numS tx n q e, e) := by unfold tokS; rw [if_neg hl, if_pos hd, he]
  rw [tk] at h
  have eb := runD_bd (tx := tx) (n := n) (n - q).toNat q (by omega)
  rw [← he] at eb
  have fin : ∀ x5, (x5 = nuS tx (min 9 (e - q)).toNat q 0) → P_X10_token_183 Q q n e x5 m := by
    intro x5 hx
    unfold P_X10_token_183
    rw [ht]
    refine ⟨tb, ?_⟩
    rintro m1 rfl
    have e8 : up m 589 t x5 582 8 = t := by rw [up_ne (by omega)]; exact ht
    have bad : (9 < e - q ∨ e < n ∧ isLt (tx e)) → Q e (up m 589 t x5) := by
      intro z
      refine h _ (fun c i z => up_ne (fun y => z ⟨Or.inr y.1, y.2⟩)) ?_
      unfold numS
      rw [if_pos z]
      refine ⟨?_, fun z => (by cases z), fun z => (by rcases z with z | z | z <;> cases z), fun z => (by cases z)⟩
      rw [up_ne (by omega)]
      exact h6
    have good : ¬ (9 < e - q ∨ e < n ∧ isLt (tx e)) → ∀ m2, m2 = up (up m 589 t x5) 587 t 4 → Q e m2 := by
      rintro z m2 rfl
      refine h _ (fun c i z => by rw [up_ne (fun y => z ⟨Or.inl y.1, y.2⟩), up_ne (fun y => z ⟨Or.inr y.1, y.2⟩)]) ?_
      unfold numS
      rw [if_neg z]
      refine ⟨up_at .., fun _ => ?_, fun z => (by rcases z with z | z | z <;> cases z), fun z => (by cases z)⟩
      rw [up_ne (by omega), up_at]
      exact hx
    refine ⟨by constructor <;> omega, ?_⟩
    by_cases c9 : 9 < e - q
    · rw [if_pos c9]
      exact bad (Or.inl c9)
    · rw [if_neg c9]
      refine ⟨by constructor <;> omega, by constructor <;> omega, ?_⟩
      by_cases en : e = n
      · rw [if_pos en, e8]
        exact ⟨tb, good (by omega)⟩
      · rw [if_neg en]
        obtain ⟨c1, c2⟩ := hT.2 e (by omega) (by omega)
        have c1' : up m 589 t x5 586 e = tx e := by rw [up_ne (by omega)]; exact c1
        refine ⟨by omega, ?_⟩
        rw [c1']
        refine c_ltM (by constructor <;> omega) (fun y => ⟨by decide, ?_⟩) (fun y => ⟨by decide, ?_⟩)
        · rw [if_neg (by decide)]
          exact bad (Or.inr ⟨by omega, y⟩)
        · rw [if_pos rfl, e8]
          exact ⟨tb, good (fun z => z.elim (fun z => c9 z) (fun z => y z.2))⟩
  have L : ∀ (f : Nat) (p x5 : Int), q ≤ p → p + f = n → (x5 = nuS tx (min 9 (p - q)).toNat q 0) → e = runD tx n f p → P_X10_token_128 Q (f + 1) q n p x5 m := by
    intro f
    induction f with
    | zero =>
      intro p x5 p0 p1 hx hr
      have ep : e = p := hr
      refine ⟨by constructor <;> omega, by constructor <;> omega, ?_⟩
      rw [if_pos (by omega), ← ep]
      exact fin x5 (by rw [ep]; exact hx)
    | succ f ih =>
      intro p x5 p0 p1 hx hr
      obtain ⟨c1, c2⟩ := hT.2 p (by omega) (by omega)
      have rc : RI (tx p) := by constructor <;> omega
      unfold runD at hr
      refine ⟨by constructor <;> omega, by constructor <;> omega, ?_⟩
      rw [if_neg (by omega)]
      refine ⟨by omega, ?_⟩
      rw [c1]
      refine c_dgM rc (fun y => ⟨by decide, ?_⟩) (fun y => ⟨by decide, ?_⟩)
      · rw [if_neg (by decide)]
        rw [if_pos ⟨by omega, y⟩] at hr
        refine ⟨by constructor <;> omega, ?_⟩
        by_cases c9 : 9 ≤ p - q
        · rw [if_pos c9]
          refine ih (p + 1) x5 (by omega) (by omega) ?_ hr
          rw [hx, show (min 9 (p + 1 - q)).toNat = (min 9 (p - q)).toNat by omega]
        · rw [if_neg c9, c1]
          refine ⟨rc, ih (p + 1) _ (by omega) (by omega) ?_ hr⟩
          rw [hx, show (min 9 (p + 1 - q)).toNat = (min 9 (p - q)).toNat + 1 by omega, nuS_snoc, show q + ((min 9 (p - q)).toNat : Int) = p by omega]
      · rw [if_pos rfl]
        rw [if_neg (fun z => y z.2)] at hr
        rw [← hr]
        exact fin x5 (by rw [hr]; exact hx)
  refine ⟨_, L (n - q).toNat q 0 (Int.le_refl _) (by omega) ?_ he⟩
  rw [show (min 9 (q - q)).toNat = 0 by omega]
  rfl
theorem or1 {p r : Prop} [Decidable p] [Decidable r] : (if p then (1 : Int) else (if r then 1 else 0)) = if p ∨ r then 1 else 0 := by
  by_cases hp : p
  · rw [if_pos hp, if_pos (Or.inl hp)]
  · rw [if_neg hp]
    by_cases hr : r
    · rw [if_pos hr, if_pos (Or.inr hr)]
    · rw [if_neg hr, if_neg (fun z => z.elim hp hr)]
theorem sg2_cmp : sg2 c (if q + 1 < n then tx (q + 1) else -1) = sg2 c (if n ≤ q + 1 then 0 else tx (q + 1)) := by
  by_cases h : n ≤ q + 1
  · rw [if_neg (by omega), if_pos h]
    unfold sg2
    rw [if_neg (by omega), if_neg (by omega), if_neg (by omega), if_neg (by omega), if_neg (by omega), if_neg (by omega), if_neg (by omega), if_neg (by omega)]
  · rw [if_pos (by omega), if_neg h]
theorem c_432 (ht : m 582 8 = t) (tb : 0 ≤ t ∧ t < 420) (h6 : m 587 t = 6) (rc : RI c) (rd : RI d) (hs : ¬ isS c) (hg : sg2 c d = -1) (h : ∀ m', F1t t m m' → TKm m' t (sgnS c d q).1 → Q (sgnS c d q).2 m') : P_X10_token_432 Q q c d 0 m := by
  unfold P_X10_token_432
  rw [ht, if_pos rfl, if_pos rfl]
  refine ⟨⟨by decide, rc⟩, tb, ?_⟩
  rintro m1 rfl
  refine ⟨by decide, ?_⟩
  rw [if_pos rfl]
  unfold sgnS at h
  rw [if_pos hg, if_neg hs] at h
  refine h _ (fun c i z => up_ne (fun y => z ⟨Or.inr y.1, y.2⟩)) ?_
  refine ⟨?_, fun z => (by cases z), fun z => (by rcases z with z | z | z <;> cases z), fun z => (by cases z)⟩
  rw [up_ne (by omega)]
  exact h6
theorem c_422 (ht : m 582 8 = t) (tb : 0 ≤ t ∧ t < 420) (rc : RI c) (rd : RI d) (hs : isS c) (h : ∀ m', F1t t m m' → TKm m' t (sgnS c d q).1 → Q (sgnS c d q).2 m') : P_X10_token_422 Q q c d (if sg2 c d = -1 then 0 else 1) m := by
  unfold P_X10_token_422
  rw [ht]
  refine ⟨tb, ?_⟩
  rintro m1 rfl
  unfold P_X10_token_432
  have e8 : up m 587 t 5 582 8 = t := by rw [up_ne (by omega)]; exact ht
  rw [e8]
  unfold sgnS at h
  by_cases hg : sg2 c d = -1
  · rw [if_pos hg] at h
    rw [if_pos hg, if_pos rfl, if_pos rfl]
    refine ⟨⟨by decide, rc⟩, tb, ?_⟩
    rintro m1 rfl
    refine ⟨by decide, ?_⟩
    rw [if_pos rfl]
    rw [if_pos hs] at h
    refine h _ (fun c i z => by rw [up_ne (fun y => z ⟨Or.inr y.1, y.2⟩), up_ne (fun y => z ⟨Or.inl y.1, y.2⟩)]) ?_
    refine ⟨?_, fun z => (by cases z), fun z => (by rcases z with z | z | z <;> cases z), fun _ => ?_⟩
    · rw [up_ne (by omega), up_at]; rfl
    · rw [up_at]
      show c = sM c
      unfold isS at hs
      unfold sM
      rw [if_neg (by omega), if_neg (by omega), if_neg (by omega), if_neg (by omega)]
  · rw [if_neg hg] at h
    rw [if_neg hg, if_neg (by decide), if_neg (by decide)]
    refine ⟨⟨by decide, rc, rd⟩, tb, ?_⟩
    rintro m1 rfl
    refine ⟨by decide, ?_⟩
    rw [if_neg (by decide)]
    refine h _ (fun c i z => by rw [up_ne (fun y => z ⟨Or.inr y.1, y.2⟩), up_ne (fun y => z ⟨Or.inl y.1, y.2⟩)]) ?_
    refine ⟨?_, fun z => (by cases z), fun z => (by rcases z with z | z | z <;> cases z), fun _ => ?_⟩
    · rw [up_ne (by omega), up_at]; rfl
    · rw [up_at]
      show 256 * c + d = sM (sg2 c d)
      unfold sg2 at hg ⊢
      by_cases a : c = 58 ∧ d = 61
      · rw [if_pos a, a.1, a.2]; rfl
      · rw [if_neg a] at hg ⊢
        by_cases a : c = 61 ∧ d = 61
        · rw [if_pos a, a.1, a.2]; rfl
        · rw [if_neg a] at hg ⊢
          by_cases a : c = 58 ∧ d = 58
          · rw [if_pos a, a.1, a.2]; rfl
          · rw [if_neg a] at hg ⊢
            by_cases a : c = 60 ∧ d = 61
            · rw [if_pos a, a.1, a.2]; rfl
            · rw [if_neg a] at hg
              exact absurd rfl hg
theorem ch14 : (if c = 91 then 1 else (if c = 93 then 1 else (if c = 44 then 1 else (if c = 58 then 1 else (if c = 61 then 1 else (if c = 35 then 1 else (if c = 60 then 1 else (if c = 43 then 1 else (if c = 45 then 1 else (if c = 42 then 1 else (if c = 47 then 1 else (if c = 94 then 1 else (if c = 33 then 1 else (if c = 37 then 1 else 0 : Int) : Int) : Int) : Int) : Int) : Int) : Int) : Int) : Int) : Int) : Int) : Int) : Int) : Int) = if (c = 91 ∨ c = 93 ∨ c = 44 ∨ c = 58 ∨ c = 61 ∨ c = 35 ∨ c = 60 ∨ c = 43 ∨ c = 45 ∨ c = 42 ∨ c = 47 ∨ c = 94 ∨ c = 33 ∨ c = 37) then 1 else 0 := by
  simp only [or1]
theorem sg2_276 (h58 : c ≠ 58) : (if c = 61 then (if d = 61 then 1 else (if c = 60 then (if d = 61 then 1 else 0 : Int) else 0 : Int) : Int) else (if c = 60 then (if d = 61 then 1 else 0 : Int) else 0 : Int) : Int) = (if sg2 c d = -1 then 0 else 1) := by
  unfold sg2
  rw [if_neg (show ¬ (c = 58 ∧ d = 61) by omega), if_neg (show ¬ (c = 58 ∧ d = 58) by omega)]
  by_cases a : c = 61
  · subst a
    by_cases b : d = 61
    · subst b; decide
    · rw [if_pos rfl, if_neg b, if_neg (by decide), if_neg (show ¬ ((61 : Int) = 61 ∧ d = 61) by omega), if_neg (show ¬ ((61 : Int) = 60 ∧ d = 61) by omega)]; decide
  · rw [if_neg a, if_neg (show ¬ (c = 61 ∧ d = 61) by omega)]
    by_cases a : c = 60
    · subst a
      by_cases b : d = 61
      · subst b; decide
      · rw [if_pos rfl, if_neg b, if_neg (show ¬ ((60 : Int) = 60 ∧ d = 61) by omega)]; decide
    · rw [if_neg a, if_neg (show ¬ (c = 60 ∧ d = 61) by omega)]; decide
theorem c_276 (ht : m 582 8 = t) (tb : 0 ≤ t ∧ t < 420) (h6 : m 587 t = 6) (rc : RI c) (rd : RI d) (h58 : c ≠ 58) (h : ∀ m', F1t t m m' → TKm m' t (sgnS c d q).1 → Q (sgnS c d q).2 m') : P_X10_token_276 Q q c d m := by
  unfold P_X10_token_276
  rw [sg2_276 h58, ch14]
  have rs : RI (if sg2 c d = -1 then 0 else 1) := by
    by_cases a : sg2 c d = -1
    · rw [if_pos a]; decide
    · rw [if_neg a]; decide
  have k405 : isS c → P_X10_token_405 Q q c d (if sg2 c d = -1 then 0 else 1) m := by
    intro hs
    refine ⟨rs, ?_⟩
    have k := c_422 (Q := Q) (q := q) ht tb rc rd hs h
    by_cases a : (if sg2 c d = -1 then (0 : Int) else 1) = 0
    · rw [if_pos a, if_neg (by decide)]; exact k
    · rw [if_neg a]; exact k
  refine ⟨⟨rc, ?_⟩, rc, ?_⟩
  · by_cases a : c = 61
    · rw [if_pos a]; exact rd
    · rw [if_neg a]
      by_cases a : c = 60
      · rw [if_pos a]; exact rd
      · rw [if_neg a]; trivial
  by_cases a40 : c = 40
  · rw [if_pos a40]; exact k405 (by unfold isS; omega)
  rw [if_neg a40]
  by_cases a41 : c = 41
  · rw [if_pos a41]; exact k405 (by unfold isS; omega)
  rw [if_neg a41]
  refine ⟨rs, ?_⟩
  by_cases hg : sg2 c d = -1
  · rw [if_pos hg, if_pos rfl]
    by_cases hs : isS c
    · rw [if_pos (show c = 91 ∨ c = 93 ∨ c = 44 ∨ c = 58 ∨ c = 61 ∨ c = 35 ∨ c = 60 ∨ c = 43 ∨ c = 45 ∨ c = 42 ∨ c = 47 ∨ c = 94 ∨ c = 33 ∨ c = 37 by unfold isS at hs; omega)]
      refine ⟨by decide, ?_⟩
      rw [if_neg (by decide)]
      have k := c_422 (Q := Q) (q := q) ht tb rc rd hs h
      rw [if_pos hg] at k
      exact k
    · rw [if_neg (show ¬ (c = 91 ∨ c = 93 ∨ c = 44 ∨ c = 58 ∨ c = 61 ∨ c = 35 ∨ c = 60 ∨ c = 43 ∨ c = 45 ∨ c = 42 ∨ c = 47 ∨ c = 94 ∨ c = 33 ∨ c = 37) by unfold isS at hs; omega)]
      refine ⟨by decide, ?_⟩
      rw [if_pos rfl]
      exact c_432 ht tb h6 rc rd hs hg h
  · rw [if_neg hg, if_neg (by decide)]
    have hs : isS c := by
      unfold sg2 at hg
      unfold isS
      by_cases a : c = 61
      · omega
      · by_cases b : c = 60
        · omega
        · exfalso
          rw [if_neg (by omega), if_neg (by omega), if_neg (by omega), if_neg (by omega)] at hg
          exact hg rfl
    have k := c_422 (Q := Q) (q := q) ht tb rc rd hs h
    rw [if_neg hg] at k
    exact k
theorem sg2_58 : (if d = 61 then 1 else (if d = 58 then 1 else 0 : Int) : Int) = (if sg2 58 d = -1 then 0 else 1) := by
  unfold sg2
  by_cases b : d = 61
  · subst b; decide
  · by_cases b' : d = 58
    · subst b'; decide
    · rw [if_neg b, if_neg b', if_neg (show ¬ ((58 : Int) = 58 ∧ d = 61) by omega), if_neg (show ¬ ((58 : Int) = 61 ∧ d = 61) by omega), if_neg (show ¬ ((58 : Int) = 58 ∧ d = 58) by omega), if_neg (show ¬ ((58 : Int) = 60 ∧ d = 61) by omega)]; decide
theorem c_tokenM (hT : TXm m tx n) (hK : KYM m) (hB : BFM m) (hq : 0 ≤ q ∧ q < n) (ht : m 582 8 = t) (tb : 0 ≤ t ∧ t < 420) (h6 : m 587 t = 6) (h : ∀ m', F1t t m m' → TKm m' t (tokS tx n q).1 → Q (tokS tx n q).2 m') : P_X10_token q n m Q := by
  have nb := hT.1
  obtain ⟨c1, c2⟩ := hT.2 q (by omega) (by omega)
  have rc : RI (tx q) := by constructor <;> omega
  refine ⟨by omega, ?_⟩
  rw [c1]
  refine c_ltM rc (fun y => ⟨by decide, ?_⟩) (fun y => ⟨by decide, ?_⟩)
  · rw [if_neg (by decide)]
    exact c_wordM hT hK hB hq ht tb h6 y h
  rw [if_pos rfl]
  refine c_dgM rc (fun z => ⟨by decide, ?_⟩) (fun z => ⟨by decide, ?_⟩)
  · rw [if_neg (by decide)]
    exact c_numM hT hq ht tb h6 y z h
  rw [if_pos rfl]
  have tk : tokS tx n q = sgnS (tx q) (if q + 1 < n then tx (q + 1) else -1) q := by unfold tokS; rw [if_neg y, if_neg z]
  have dd : (if n ≤ q + 1 then 0 else m 586 (q + 1) : Int) = (if n ≤ q + 1 then 0 else tx (q + 1)) := by
    by_cases a : n ≤ q + 1
    · rw [if_pos a, if_pos a]
    · rw [if_neg a, if_neg a]; exact (hT.2 (q + 1) (by omega) (by omega)).1
  have rd : RI (if n ≤ q + 1 then 0 else tx (q + 1) : Int) := by
    by_cases a : n ≤ q + 1
    · rw [if_pos a]; decide
    · rw [if_neg a]
      have := (hT.2 (q + 1) (by omega) (by omega)).2
      constructor <;> omega
  have tk' : tokS tx n q = sgnS (tx q) (if n ≤ q + 1 then 0 else tx (q + 1)) q := by
    rw [tk]; unfold sgnS; rw [sg2_cmp]
  rw [tk'] at h
  rw [dd]
  generalize (if n ≤ q + 1 then 0 else tx (q + 1) : Int) = d at h rd ⊢
  refine ⟨⟨by constructor <;> omega, by constructor <;> omega, ?_⟩, rc, ?_⟩
  · by_cases a : n ≤ q + 1
    · rw [if_pos a]; trivial
    · rw [if_neg a]; omega
  by_cases a58 : tx q = 58
  · rw [a58] at h ⊢
    simp only [Int.reduceEq, reduceIte]
    rw [sg2_58]
    have k := c_422 (Q := Q) (q := q) ht tb (show RI 58 by decide) rd (by unfold isS; omega) h
    refine ⟨rd, ?_⟩
    by_cases hg : sg2 58 d = -1
    · rw [if_pos hg] at k ⊢
      exact ⟨by decide, (by rw [if_pos rfl]; exact ⟨by decide, k⟩)⟩
    · rw [if_neg hg] at k ⊢
      exact ⟨by decide, (by rw [if_neg (by decide)]; exact k)⟩
  · rw [if_neg a58]
    exact c_276 ht tb h6 rc rd a58 h
end TOKN
