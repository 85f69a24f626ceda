set_option maxRecDepth 100000
/-! tokens: the component's words, numbers and signs -/
def TKc (m : MM) (t : Int) (k : TK) : Prop := m 368 t = k.1 ∧ m 369 t = k.2.1 ∧ m 370 t = k.2.2.2 ∧ (k.1 = 2 ∨ k.1 = 3 ∨ k.1 = 4 → m 371 t = k.2.2.1)
def F1c (t : Int) (m m' : MM) : Prop := ∀ c i, ¬ ((c = 368 ∨ c = 369 ∨ c = 370 ∨ c = 371) ∧ i = t) → ¬ (c = 366 ∧ i = 2) → m' c i = m c i
section TOKC
variable {Q : Int → MM → Prop} {T : MM → Prop} {m : MM} {tx : Int → Int} {n q t c d : Int}
theorem c_ltC (rc : RI c) (h1 : isLt c → Q 1 m) (h0 : ¬ isLt c → Q 0 m) : P_X4_isLetter c m Q := by
  have l12 : ¬ (97 ≤ c ∧ c ≤ 122) → P_X4_isLetter_12 Q c m := by
    intro g
    refine ⟨rc, ?_⟩
    by_cases a : c < 65
    · rw [if_pos a]; exact h0 (by unfold isLt; omega)
    · rw [if_neg a]
      by_cases b : 90 < c
      · rw [if_pos b]; exact h0 (by unfold isLt; omega)
      · rw [if_neg b]; exact h1 (by unfold isLt; omega)
  refine ⟨rc, ?_⟩
  by_cases a : c < 97
  · rw [if_pos a]; exact l12 (by omega)
  · rw [if_neg a]
    by_cases b : c ≤ 122
    · rw [if_pos b]; exact h1 (by unfold isLt; omega)
    · rw [if_neg b]; exact l12 (by omega)
theorem c_dgC (rc : RI c) (h1 : isDg c → Q 1 m) (h0 : ¬ isDg c → Q 0 m) : P_X4_isDigit c m Q := by
  refine ⟨rc, ?_⟩
  by_cases a : c < 48
  · rw [if_pos a]; exact h0 (by unfold isDg; omega)
  · rw [if_neg a]
    by_cases b : 57 < c
    · rw [if_pos b]; exact h0 (by unfold isDg; omega)
    · rw [if_neg b]; exact h1 (by unfold isDg; omega)
theorem c_putC {a b p : Int} (ht : m 366 2 = t) (tb : 0 ≤ t ∧ t < 401) (h : ∀ m', F1c t m m' → m' 366 2 = t + 1 → m' 368 t = a → m' 369 t = b → m' 370 t = p → m' 371 t = m 371 t → Q 0 m') : P_X4_put a b p m Q := by
  unfold P_X4_put
  rw [ht]
  refine ⟨tb, ?_⟩
  rintro m1 rfl
  have a1 : up m 368 t a 366 2 = t := by rw [up_ne (by omega)]; exact ht
  rw [a1]
  refine ⟨tb, ?_⟩
  rintro m2 rfl
  have a2 : up (up m 368 t a) 369 t b 366 2 = t := by rw [up_ne (by omega)]; exact a1
  rw [a2]
  refine ⟨tb, ?_⟩
  rintro m3 rfl
  have a3 : up (up (up m 368 t a) 369 t b) 370 t p 366 2 = t := by rw [up_ne (by omega)]; exact a2
  rw [a3]
  rintro m4 rfl
  refine h _ (fun c i z z' => ?_) (up_at ..) ?_ ?_ ?_ ?_
  · rw [up_ne z', up_ne (fun y => z ⟨by omega, y.2⟩), up_ne (fun y => z ⟨by omega, y.2⟩), up_ne (fun y => z ⟨by omega, y.2⟩)]
  · rw [up_ne (by omega), up_ne (by omega), up_ne (by omega), up_at]
  · rw [up_ne (by omega), up_ne (by omega), up_at]
  · rw [up_ne (by omega), up_at]
  · rw [up_ne (by omega), up_ne (by omega), up_ne (by omega), up_ne (by omega)]
theorem c_wordC (hT : TXc m tx n) (hq : 0 ≤ q ∧ q < n) (ht : m 366 2 = t) (tb : 0 ≤ t ∧ t < 401) (hl : isLt (tx q)) (h : ∀ m', F1c t m m' → m' 366 2 = t + 1 → TKc m' t (tokS tx n q).1 → Q (tokS tx n q).2 m') : P_X4_word q m Q T := by
  have nb := hT.1
  obtain ⟨e, he⟩ : ∃ e, e = runW tx n (n - q).toNat q := ⟨_, rfl⟩
  have tk : tokS tx n q = (wordS tx q e, e) := by unfold tokS; rw [if_pos hl, he]
  rw [tk] at h
  have eb := runW_bd (tx := tx) (n := n) (n - q).toNat q (by omega)
  rw [← he] at eb
  have fin : ∀ x5, (e - q ≤ 8 → x5 = pkS tx (e - q).toNat q 0) → (∀ i, q ≤ i → i < e → isLt (tx i) ∨ isDg (tx i)) → P_X4_word_44 Q T q e x5 m := by
    intro x5 hx5 hw
    refine ⟨by constructor <;> omega, ?_⟩
    by_cases c8 : e - q ≤ 8
    · rw [if_pos c8]
      have hx := hx5 c8
      refine c_findC hT wlK ⟨hq.1, by omega, by omega⟩ hw ?_
      refine c_findC hT wlF ⟨hq.1, by omega, by omega⟩ hw ?_
      rw [← hx]
      have kb := keyI_bd (w := x5)
      have fb := fnI_bd (w := x5)
      show _ ∧ ∀ m3, _ → (RI (keyI x5) ∧ (if keyI x5 < 0 then RI (fnI x5) else True)) ∧ P_J4_max (keyI x5) (fnI x5) m3 (fun r3 m4 => P_X4_put (if keyI x5 < 0 then (if fnI x5 < 0 then 2 else 4) else 3) r3 q m4 (fun r4 m5 => Q e m5))
      rw [ht]
      refine ⟨tb, ?_⟩
      rintro m3 rfl
      have rf : RI (fnI x5) := by constructor <;> omega
      have rk : RI (keyI x5) := by constructor <;> omega
      refine ⟨⟨rk, ?_⟩, rk, rf, ?_⟩
      · split
        · exact rf
        · trivial
      have fin2 : ∀ v, v = max (keyI x5) (fnI x5) → P_X4_put (if keyI x5 < 0 then (if fnI x5 < 0 then 2 else 4) else 3) v q (up m 371 t x5) (fun r4 m5 => Q e m5) := by
        intro v hv
        refine c_putC (t := t) (by rw [up_ne (by omega)]; exact ht) tb (fun m' fr h2 h8 h9 h10 h11 => h m' (fun c i z z' => ?_) h2 ?_)
        · rw [fr c i z z', up_ne (fun y => z ⟨by omega, y.2⟩)]
        · unfold wordS
          rw [if_neg (by omega), ← hx]
          refine ⟨?_, ?_, h10, fun _ => ?_⟩
          · rw [h8]
            show _ = ite _ _ _
            by_cases u : 0 ≤ keyI x5
            · rw [if_neg (by omega), if_pos u]
            · rw [if_pos (by omega), if_neg u]
              by_cases v : 0 ≤ fnI x5
              · rw [if_neg (by omega), if_pos v]
              · rw [if_pos (by omega), if_neg v]
          · rw [h9]; exact hv
          · rw [h11, up_at]
      by_cases u : keyI x5 < fnI x5
      · rw [if_pos u]
        exact fin2 _ (by omega)
      · rw [if_neg u]
        exact fin2 _ (by omega)
    · rw [if_neg c8]
      refine c_putC ht tb (fun m' fr h2 h8 h9 h10 h11 => h m' fr h2 ?_)
      unfold wordS
      rw [if_pos (by omega)]
      exact ⟨h8, h9, h10, fun z => (by rcases z with z | z | z <;> cases z)⟩
  have L : ∀ (f : Nat) (p x5 : Int), q ≤ p → p + f = n → (p - q ≤ 8 → x5 = pkS tx (p - q).toNat q 0) → (∀ i, q ≤ i → i < p → isLt (tx i) ∨ isDg (tx i)) → e = runW tx n f p → P_X4_word_4 Q T (f + 1) q p x5 m := by
    intro f
    induction f with
    | zero =>
      intro p x5 p0 p1 hx hw hr
      have ep : e = p := hr
      refine c_see hT (by omega) (fun z => by omega) (fun _ => ?_)
      refine c_ltC (by decide) (fun z => (by unfold isLt at z; omega)) (fun _ => ⟨by decide, ?_⟩)
      rw [if_pos rfl]
      refine c_see hT (by omega) (fun z => by omega) (fun _ => ?_)
      refine c_dgC (by decide) (fun z => (by unfold isDg at z; omega)) (fun _ => ⟨by decide, ?_⟩)
      rw [if_pos rfl, ← ep]
      exact fin x5 (by rw [ep]; exact hx) (by rw [ep]; exact hw)
    | succ f ih =>
      intro p x5 p0 p1 hx hw hr
      have c2 := (hT.2.2 p (by omega) (by omega)).2
      have rc : RI (tx p) := by constructor <;> omega
      unfold runW at hr
      have go : (isLt (tx p) ∨ isDg (tx p)) → P_X4_word_26 Q T (fun z0 z1 z2 z3 => P_X4_word_4 Q T (f + 1) z0 z1 z2 z3) q p x5 m := by
        intro z
        rw [if_pos ⟨by omega, z⟩] at hr
        have hw' : ∀ i, q ≤ i → i < p + 1 → isLt (tx i) ∨ isDg (tx i) := fun i i0 i1 => by
          by_cases y : i = p
          · rw [y]; exact z
          · exact hw i i0 (by omega)
        refine c_see hT (by omega) (fun _ _ => ?_) (fun z => by omega)
        refine ⟨rc, ih (p + 1) _ (by omega) (by omega) (fun y => ?_) hw' hr⟩
        have hx' := hx (by omega)
        have pk0 : 0 ≤ x5 ∧ x5 < 36028797018963968 := by
          rw [hx']
          have fit := pkS_fit (tx := tx) (p - q).toNat q (fun i i0 i1 => by
            have := hw i i0 (by omega)
            unfold isLt isDg at this
            omega)
          rcases fit with z | z
          · have p6 : (256 : Int) ^ ((p - q).toNat - 1) ≤ 256 ^ 6 := by
              have : ∀ a b : Nat, a ≤ b → (256 : Int) ^ a ≤ 256 ^ b := by
                intro a b hab
                obtain ⟨k, rfl⟩ := Nat.exists_eq_add_of_le hab
                induction k with
                | zero => exact Int.le_refl _
                | succ k ih =>
                  have := ih (by omega)
                  rw [show a + (k + 1) = a + k + 1 by omega, Int.pow_succ]
                  have p0 : (0 : Int) ≤ 256 ^ (a + k) := Int.pow_nonneg (by decide)
                  omega
              exact this _ _ (by omega)
            have e6 : (256 : Int) ^ 6 = 281474976710656 := by decide
            rw [e6] at p6
            omega
          · rw [z]
            have : pkS tx 0 q 0 = 0 := rfl
            rw [this]
            decide
        rw [lOr_pk pk0 c2, hx', show (p + 1 - q).toNat = (p - q).toNat + 1 by omega, pkS_snoc, show q + ((p - q).toNat : Int) = p by omega]
      refine c_see hT (by omega) (fun _ _ => ?_) (fun z => by omega)
      refine c_ltC rc (fun y => ⟨by decide, ?_⟩) (fun y => ⟨by decide, ?_⟩)
      · rw [if_neg (by decide)]
        exact go (Or.inl y)
      · rw [if_pos rfl]
        refine c_see hT (by omega) (fun _ _ => ?_) (fun z => by omega)
        refine c_dgC rc (fun y' => ⟨by decide, ?_⟩) (fun y' => ⟨by decide, ?_⟩)
        · rw [if_neg (by decide)]
          exact go (Or.inr y')
        · rw [if_pos rfl]
          rw [if_neg (fun u => by rcases u.2 with z | z; exact y z; exact y' z)] at hr
          rw [← hr]
          exact fin x5 (by rw [hr]; exact hx) (by rw [hr]; exact hw)
  refine ⟨_, L (n - q).toNat q 0 (Int.le_refl _) (by omega) (fun _ => ?_) (fun i i0 i1 => by omega) he⟩
  rw [show (q - q).toNat = 0 by omega]
  rfl
theorem c_numC (hT : TXc m tx n) (hq : 0 ≤ q ∧ q < n) (ht : m 366 2 = t) (tb : 0 ≤ t ∧ t < 401) (hl : ¬ isLt (tx q)) (hd : isDg (tx q)) (h : ∀ m', F1c t m m' → m' 366 2 = t + 1 → TKc m' t (tokS tx n q).1 → Q (tokS tx n q).2 m') : P_X4_number q m Q := by
  have nb := hT.1
  obtain ⟨e, he⟩ : ∃ e, e = runD tx n (n - q).toNat q := ⟨_, rfl⟩
  have tk : tokS tx n q = (numS tx n q e, e) := by unfold tokS; rw [if_neg hl, if_pos hd, he]
  rw [tk] at h
  have eb := runD_bd (tx := tx) (n := n) (n - q).toNat q (by omega)
  rw [← he] at eb
  have fin : ∀ x5, (x5 = nuS tx (min 9 (e - q)).toNat q 0) → P_X4_number_43 Q q e x5 m := by
    intro x5 hx
    have bad : (9 < e - q ∨ e < n ∧ isLt (tx e)) → P_X4_put 6 x5 q m (fun r3 m3 => Q e m3) := by
      intro z
      refine c_putC ht tb (fun m' fr h2 h8 h9 h10 h11 => h m' fr h2 ?_)
      unfold numS
      rw [if_pos z]
      exact ⟨h8, by rw [h9]; exact hx, h10, fun z => (by rcases z with z | z | z <;> cases z)⟩
    have good : ¬ (9 < e - q ∨ e < n ∧ isLt (tx e)) → P_X4_put 1 x5 q m (fun r3 m3 => Q e m3) := by
      intro z
      refine c_putC ht tb (fun m' fr h2 h8 h9 h10 h11 => h m' fr h2 ?_)
      unfold numS
      rw [if_neg z]
      exact ⟨h8, by rw [h9]; exact hx, h10, fun z => (by rcases z with z | z | z <;> cases z)⟩
    refine ⟨by constructor <;> omega, ?_⟩
    by_cases c9 : 9 < e - q
    · rw [if_pos c9]
      exact bad (Or.inl c9)
    · rw [if_neg c9]
      refine c_see hT (by omega) (fun a a' => ?_) (fun a => ?_)
      · refine c_ltC (by constructor <;> omega) (fun y => ⟨by decide, ?_⟩) (fun y => ⟨by decide, ?_⟩)
        · rw [if_neg (by decide)]; exact bad (Or.inr ⟨a, y⟩)
        · rw [if_pos rfl]; exact good (fun z => z.elim (fun z => c9 z) (fun z => y z.2))
      · refine c_ltC (by decide) (fun y => (by unfold isLt at y; omega)) (fun y => ⟨by decide, ?_⟩)
        rw [if_pos rfl]; exact good (by omega)
  have L : ∀ (f : Nat) (p x5 : Int), q ≤ p → p + f = n → (x5 = nuS tx (min 9 (p - q)).toNat q 0) → e = runD tx n f p → P_X4_number_4 Q (f + 1) q p x5 m := by
    intro f
    induction f with
    | zero =>
      intro p x5 p0 p1 hx hr
      have ep : e = p := hr
      refine c_see hT (by omega) (fun z => by omega) (fun _ => ?_)
      refine c_dgC (by decide) (fun z => (by unfold isDg at z; omega)) (fun _ => ⟨by decide, ?_⟩)
      rw [if_pos rfl, ← ep]
      exact fin x5 (by rw [ep]; exact hx)
    | succ f ih =>
      intro p x5 p0 p1 hx hr
      have c2 := (hT.2.2 p (by omega) (by omega)).2
      have rc : RI (tx p) := by constructor <;> omega
      unfold runD at hr
      refine c_see hT (by omega) (fun _ _ => ?_) (fun z => by omega)
      refine c_dgC rc (fun y => ⟨by decide, ?_⟩) (fun y => ⟨by decide, ?_⟩)
      · rw [if_neg (by decide)]
        rw [if_pos ⟨by omega, y⟩] at hr
        refine ⟨by constructor <;> omega, ?_⟩
        by_cases c9 : 9 ≤ p - q
        · rw [if_pos c9]
          refine ih (p + 1) x5 (by omega) (by omega) ?_ hr
          rw [hx, show (min 9 (p + 1 - q)).toNat = (min 9 (p - q)).toNat by omega]
        · rw [if_neg c9]
          refine c_see hT (by omega) (fun _ _ => ?_) (fun z => by omega)
          refine ih (p + 1) _ (by omega) (by omega) ?_ hr
          rw [hx, show (min 9 (p + 1 - q)).toNat = (min 9 (p - q)).toNat + 1 by omega, nuS_snoc, show q + ((min 9 (p - q)).toNat : Int) = p by omega]
      · rw [if_pos rfl]
        rw [if_neg (fun z => y z.2)] at hr
        rw [← hr]
        exact fin x5 (by rw [hr]; exact hx)
  refine ⟨_, L (n - q).toNat q 0 (Int.le_refl _) (by omega) ?_ he⟩
  rw [show (min 9 (q - q)).toNat = 0 by omega]
  rfl
end TOKC
