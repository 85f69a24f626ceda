set_option maxRecDepth 100000
/-! tokens are in order -/
section TOKF
variable {tx : Int → Int} {n q : Int}
theorem runW_in : ∀ (f : Nat) (p i : Int), p ≤ i → i < runW tx n f p → isLt (tx i) ∨ isDg (tx i) := by
  intro f
  induction f with
  | zero => intro p i h1 h2; have h2 : i < p := h2; omega
  | succ f ih =>
    intro p i h1 h2
    unfold runW at h2
    by_cases c : p < n ∧ (isLt (tx p) ∨ isDg (tx p))
    · rw [if_pos c] at h2
      by_cases e : i = p
      · rw [e]; exact c.2
      · exact ih (p + 1) i (by omega) h2
    · rw [if_neg c] at h2; omega
theorem runD_in : ∀ (f : Nat) (p i : Int), p ≤ i → i < runD tx n f p → isDg (tx i) := by
  intro f
  induction f with
  | zero => intro p i h1 h2; have h2 : i < p := h2; omega
  | succ f ih =>
    intro p i h1 h2
    unfold runD at h2
    by_cases c : p < n ∧ isDg (tx p)
    · rw [if_pos c] at h2
      by_cases e : i = p
      · rw [e]; exact c.2
      · exact ih (p + 1) i (by omega) h2
    · rw [if_neg c] at h2; omega
theorem p256 : ∀ l : Fin 8, (256 : Int) ^ l.val ≤ 72057594037927936 := by decide +kernel
theorem p10 : ∀ l : Fin 10, (10 : Int) ^ l.val ≤ 1000000000 := by decide +kernel
theorem kb_ne' : ∀ (a : Fin 21) (b : Fin 14), kyn (a.val : Int) ≠ bfn (b.val : Int) := by decide +kernel
theorem kb_ne {i j : Int} (hi : 0 ≤ i ∧ i < 21) (hj : 0 ≤ j ∧ j < 14) : kyn i ≠ bfn j := by
  intro e
  refine kb_ne' ⟨i.toNat, by omega⟩ ⟨j.toNat, by omega⟩ ?_
  show kyn ((i.toNat : Nat) : Int) = bfn ((j.toNat : Nat) : Int)
  rw [Int.toNat_of_nonneg hi.1, Int.toNat_of_nonneg hj.1]; exact e
theorem keyI_cs (w : Int) : (keyI w = -1) ∨ ((0 ≤ keyI w ∧ keyI w < 21) ∧ kyn (keyI w) = w) := by
  unfold keyI
  cases h : fstI kyn w 21 0 with
  | none => exact .inl rfl
  | some j =>
    have := fstI_bd 21 0 j h
    exact .inr ⟨by show 0 ≤ j ∧ j < 21; omega, this.2.2⟩
theorem fnI_cs (w : Int) : (fnI w = -1) ∨ ((0 ≤ fnI w ∧ fnI w < 14) ∧ bfn (fnI w) = w) := by
  unfold fnI
  cases h : fstI bfn w 14 0 with
  | none => exact .inl rfl
  | some j =>
    have := fstI_bd 14 0 j h
    exact .inr ⟨by show 0 ≤ j ∧ j < 14; omega, this.2.2⟩
theorem tok_ok (hq : 0 ≤ q ∧ q < n) (nb : n ≤ 400) : TkW (tokS tx n q).1 := by
  have kd := tok_kd (tx := tx) (n := n) (q := q)
  have pl : 0 ≤ (tokS tx n q).1.2.2.2 ∧ (tokS tx n q).1.2.2.2 ≤ 400 := by rw [kd.2]; omega
  refine ⟨by omega, ?_⟩
  revert pl
  unfold tokS
  by_cases a : isLt (tx q)
  · rw [if_pos a]
    have rb := runW_bd (tx := tx) (n := n) (n - q).toNat q (by omega)
    have ri := runW_in (tx := tx) (n := n) (n - q).toNat q
    have rl := runW_lt hq.2 a
    generalize runW tx n (n - q).toNat q = e at rb ri rl
    unfold wordS
    by_cases b : 8 < e - q
    · rw [if_pos b]
      intro pl
      exact ⟨fun z => absurd z (by show ¬ (6 : Int) = 1; decide), fun z => absurd z (by show ¬ (6 : Int) = 3; decide), fun z => absurd z (by show ¬ (6 : Int) = 4; decide), fun z => absurd z (by show ¬ (6 : Int) = 5; decide), fun z => absurd z (by show ¬ (6 : Int) = 2; decide), pl⟩
    · rw [if_neg b]
      have fit := pkS_fit (tx := tx) (e - q).toNat q (fun i i0 i1 => by
        have := ri i i0 (by omega)
        unfold isLt isDg at this
        omega)
      have RLw : RL (pkS tx (e - q).toNat q 0) := by
        rcases fit with ⟨f1, f2⟩ | f
        · have b7 : (256 : Int) ^ ((e - q).toNat - 1) ≤ 72057594037927936 := p256 ⟨(e - q).toNat - 1, by omega⟩
          constructor <;> omega
        · omega
      generalize pkS tx (e - q).toNat q 0 = w at RLw
      intro pl
      rcases keyI_cs w with hk | ⟨hk, hk'⟩
      · rw [hk, if_neg (by decide)]
        rcases fnI_cs w with hf | ⟨hf, hf'⟩
        · rw [hf, if_neg (by decide)]
          exact ⟨fun z => absurd z (by show ¬ (2 : Int) = 1; decide), fun z => absurd z (by show ¬ (2 : Int) = 3; decide), fun z => absurd z (by show ¬ (2 : Int) = 4; decide), fun z => absurd z (by show ¬ (2 : Int) = 5; decide), fun _ => RLw, pl⟩
        · rw [if_pos hf.1]
          have em : max (-1) (fnI w) = fnI w := by omega
          refine ⟨fun z => absurd z (by show ¬ (4 : Int) = 1; decide), fun z => absurd z (by show ¬ (4 : Int) = 3; decide), fun _ => ?_, fun z => absurd z (by show ¬ (4 : Int) = 5; decide), fun z => absurd z (by show ¬ (4 : Int) = 2; decide), pl⟩
          show (0 ≤ max (-1) (fnI w) ∧ max (-1) (fnI w) ≤ 13) ∧ w = bfn (max (-1) (fnI w))
          rw [em]
          exact ⟨by omega, hf'.symm⟩
      · rw [if_pos hk.1]
        have hf : fnI w = -1 := by
          rcases fnI_cs w with hf | ⟨hf, hf'⟩
          · exact hf
          · exact absurd (hk'.trans hf'.symm) (kb_ne hk hf)
        have em : max (keyI w) (fnI w) = keyI w := by omega
        refine ⟨fun z => absurd z (by show ¬ (3 : Int) = 1; decide), fun _ => ?_, fun z => absurd z (by show ¬ (3 : Int) = 4; decide), fun z => absurd z (by show ¬ (3 : Int) = 5; decide), fun z => absurd z (by show ¬ (3 : Int) = 2; decide), pl⟩
        show (0 ≤ max (keyI w) (fnI w) ∧ max (keyI w) (fnI w) ≤ 20) ∧ w = kyn (max (keyI w) (fnI w))
        rw [em]
        exact ⟨by omega, hk'.symm⟩
  · rw [if_neg a]
    by_cases b : isDg (tx q)
    · rw [if_pos b]
      have rb := runD_bd (tx := tx) (n := n) (n - q).toNat q (by omega)
      have ri := runD_in (tx := tx) (n := n) (n - q).toNat q
      generalize runD tx n (n - q).toNat q = e at rb ri
      intro pl
      have nu := nuS_bd (tx := tx) (min 9 (e - q)).toNat q 0 1 (fun i i0 i1 => ri i i0 (by omega)) (by decide) (by decide)
      have b9 : (10 : Int) ^ (min 9 (e - q)).toNat ≤ 1000000000 := p10 ⟨(min 9 (e - q)).toNat, by omega⟩
      have fst : ((if 9 < e - q ∨ e < n ∧ isLt (tx e) then (6 : Int) else 1) = 6 ∨ (if 9 < e - q ∨ e < n ∧ isLt (tx e) then (6 : Int) else 1) = 1) := by
        by_cases c : 9 < e - q ∨ e < n ∧ isLt (tx e)
        · rw [if_pos c]; exact .inl rfl
        · rw [if_neg c]; exact .inr rfl
      refine ⟨fun _ => ?_, fun z => ?_, fun z => ?_, fun z => ?_, fun z => ?_, pl⟩
      · show 0 ≤ nuS tx (min 9 (e - q)).toNat q 0 ∧ nuS tx (min 9 (e - q)).toNat q 0 ≤ 999999999
        omega
      · exfalso; have z' : (if 9 < e - q ∨ e < n ∧ isLt (tx e) then (6 : Int) else 1) = 3 := z; omega
      · exfalso; have z' : (if 9 < e - q ∨ e < n ∧ isLt (tx e) then (6 : Int) else 1) = 4 := z; omega
      · exfalso; have z' : (if 9 < e - q ∨ e < n ∧ isLt (tx e) then (6 : Int) else 1) = 5 := z; omega
      · exfalso; have z' : (if 9 < e - q ∨ e < n ∧ isLt (tx e) then (6 : Int) else 1) = 2 := z; omega
    · rw [if_neg b]
      generalize (if q + 1 < n then tx (q + 1) else -1) = d
      generalize tx q = c
      unfold sgnS
      by_cases s : sg2 c d = -1
      · rw [if_pos s]
        intro pl
        by_cases i : isS c
        · rw [if_pos i]
          refine ⟨fun z => absurd z (by show ¬ (5 : Int) = 1; decide), fun z => absurd z (by show ¬ (5 : Int) = 3; decide), fun z => absurd z (by show ¬ (5 : Int) = 4; decide), fun _ => ?_, fun z => absurd z (by show ¬ (5 : Int) = 2; decide), pl⟩
          show 0 ≤ c ∧ c ≤ 131
          unfold isS at i
          omega
        · rw [if_neg i]
          exact ⟨fun z => absurd z (by show ¬ (6 : Int) = 1; decide), fun z => absurd z (by show ¬ (6 : Int) = 3; decide), fun z => absurd z (by show ¬ (6 : Int) = 4; decide), fun z => absurd z (by show ¬ (6 : Int) = 5; decide), fun z => absurd z (by show ¬ (6 : Int) = 2; decide), pl⟩
      · rw [if_neg s]
        intro pl
        refine ⟨fun z => absurd z (by show ¬ (5 : Int) = 1; decide), fun z => absurd z (by show ¬ (5 : Int) = 3; decide), fun z => absurd z (by show ¬ (5 : Int) = 4; decide), fun _ => ?_, fun z => absurd z (by show ¬ (5 : Int) = 2; decide), pl⟩
        show 0 ≤ sg2 c d ∧ sg2 c d ≤ 131
        unfold sg2 at s ⊢
        by_cases s1 : c = 58 ∧ d = 61
        · rw [if_pos s1]; decide
        rw [if_neg s1] at s ⊢
        by_cases s1 : c = 61 ∧ d = 61
        · rw [if_pos s1]; decide
        rw [if_neg s1] at s ⊢
        by_cases s1 : c = 58 ∧ d = 58
        · rw [if_pos s1]; decide
        rw [if_neg s1] at s ⊢
        by_cases s1 : c = 60 ∧ d = 61
        · rw [if_pos s1]; decide
        rw [if_neg s1] at s; exact absurd rfl s
/-- a list of tokens: ends with what is none; places grow -/
def SO : List TK → Int → Prop
  | [], _ => False
  | [k], lo => (k.1 = 0 ∨ k.1 = 6) ∧ TkW k ∧ lo ≤ k.2.2.2
  | k :: k' :: ks, lo => (1 ≤ k.1 ∧ k.1 ≤ 5) ∧ TkW k ∧ lo ≤ k.2.2.2 ∧ SO (k' :: ks) (k.2.2.2 + 1)
theorem SO.mono {lo lo' : Int} : ∀ {ts : List TK}, SO ts lo → lo' ≤ lo → SO ts lo' := by
  intro ts h w
  cases ts with
  | nil => exact h
  | cons k ks => cases ks with
    | nil => exact ⟨h.1, h.2.1, by have := h.2.2; omega⟩
    | cons k' ks => exact ⟨h.1, h.2.1, by have := h.2.2.1; omega, h.2.2.2⟩
theorem SO.cons {k : TK} {ks : List TK} {lo : Int} (h1 : 1 ≤ k.1 ∧ k.1 ≤ 5) (h2 : TkW k) (h3 : lo ≤ k.2.2.2) (h : SO ks (k.2.2.2 + 1)) : SO (k :: ks) lo := by
  cases ks with
  | nil => exact h.elim
  | cons k' ks => exact ⟨h1, h2, h3, h⟩
theorem scan_ok (nb : n ≤ 400) : ∀ (f : Nat) (p : Int), 0 ≤ p → p ≤ n → n - p < f → SO (scanS tx n f p) p ∧ ((scanS tx n f p).length : Int) ≤ n - p + 1 := by
  intro f
  induction f with
  | zero => intro p _ _ h; omega
  | succ f ih =>
    intro p p0 pn hf
    have rb := runB_bd (tx := tx) (n := n) (n - p).toNat p (by omega)
    unfold scanS
    generalize runB tx n (n - p).toNat p = e at rb
    by_cases c : e = n
    · rw [if_pos c]
      refine ⟨⟨.inl rfl, ⟨by show (0 : Int) ≤ 0 ∧ (0 : Int) ≤ 6; decide, fun z => absurd z (by show ¬ (0 : Int) = 1; decide), fun z => absurd z (by show ¬ (0 : Int) = 3; decide), fun z => absurd z (by show ¬ (0 : Int) = 4; decide), fun z => absurd z (by show ¬ (0 : Int) = 5; decide), fun z => absurd z (by show ¬ (0 : Int) = 2; decide), by show 0 ≤ n ∧ n ≤ 400; omega⟩, pn⟩, ?_⟩
      show ((1 : Nat) : Int) ≤ n - p + 1; omega
    · rw [if_neg c]
      have kd := tok_kd (tx := tx) (n := n) (q := e)
      have tb := tok_bd (tx := tx) (n := n) (q := e) (by omega)
      have tw := tok_ok (tx := tx) (n := n) (q := e) (by omega) nb
      by_cases c6 : (tokS tx n e).1.1 = 6
      · rw [if_pos c6]
        refine ⟨⟨.inr c6, tw, by rw [kd.2]; omega⟩, ?_⟩
        show ((1 : Nat) : Int) ≤ n - p + 1; omega
      · rw [if_neg c6]
        have I := ih (tokS tx n e).2 (by omega) (by omega) (by omega)
        refine ⟨SO.cons (by omega) tw (by rw [kd.2]; omega) (I.1.mono (by rw [kd.2]; omega)), ?_⟩
        rw [List.length_cons]
        have := I.2
        omega
/-- the same by numbers -/
theorem SO.at : ∀ {ts : List TK} {lo : Int}, SO ts lo → 1 ≤ ts.length ∧ (∀ i : Nat, i < ts.length → TkW (ts.getD i (6, 0, 0, 0)) ∧ (i + 1 < ts.length → (1 ≤ (ts.getD i (6, 0, 0, 0)).1 ∧ (ts.getD i (6, 0, 0, 0)).1 ≤ 5) ∧ (ts.getD i (6, 0, 0, 0)).2.2.2 < (ts.getD (i + 1) (6, 0, 0, 0)).2.2.2) ∧ (i + 1 = ts.length → (ts.getD i (6, 0, 0, 0)).1 = 0 ∨ (ts.getD i (6, 0, 0, 0)).1 = 6)) := by
  intro ts
  induction ts with
  | nil => intro lo h; exact h.elim
  | cons k ks ih =>
    intro lo h
    cases ks with
    | nil =>
      refine ⟨by simp, fun i hi => ?_⟩
      have e : i = 0 := by simp at hi; exact hi
      subst e
      exact ⟨h.2.1, fun z => by simp at z, fun _ => h.1⟩
    | cons k' ks =>
      have I := ih h.2.2.2
      refine ⟨by simp, fun i hi => ?_⟩
      cases i with
      | zero =>
        refine ⟨h.2.1, fun _ => ⟨h.1, ?_⟩, fun z => by simp at z⟩
        show k.2.2.2 < k'.2.2.2
        have w := h.2.2.2
        cases ks with
        | nil => have := w.2.2; omega
        | cons _ _ => have := w.2.2.1; omega
      | succ i =>
        have w := I.2 i (by rw [List.length_cons] at hi; omega)
        exact ⟨w.1, fun z => w.2.1 (by rw [List.length_cons] at z; omega), fun z => w.2.2 (by rw [List.length_cons] at z; omega)⟩
theorem tkL_at {ts : List TK} {i : Int} (h : 0 ≤ i) : tkL ts i = ts.getD i.toNat (6, 0, 0, 0) := by unfold tkL; rw [if_neg (by omega)]
/-- all that the parsers want of tokens -/
theorem scan_all {ts : List TK} (h : SO ts 0) : TkO (tkL ts) ∧ (∀ i, 0 ≤ i → i < (ts.length : Int) - 1 → 1 ≤ (tkL ts i).1 ∧ (tkL ts i).1 ≤ 5) ∧ ((tkL ts ((ts.length : Int) - 1)).1 = 0 ∨ (tkL ts ((ts.length : Int) - 1)).1 = 6) ∧ (∀ i, (ts.length : Int) ≤ i → (tkL ts i).1 = 6) ∧ (∀ i, 0 ≤ i → i < (ts.length : Int) → TkW (tkL ts i)) := by
  obtain ⟨l1, h⟩ := h.at
  have lst : (tkL ts ((ts.length : Int) - 1)).1 = 0 ∨ (tkL ts ((ts.length : Int) - 1)).1 = 6 := by
    rw [tkL_at (by omega)]
    exact (h ((ts.length : Int) - 1).toNat (by omega)).2.2 (by omega)
  have beh : ∀ i, (ts.length : Int) ≤ i → (tkL ts i).1 = 6 := by
    intro i hi
    rw [tkL_at (by omega)]
    unfold List.getD
    rw [List.getElem?_eq_none (by omega)]
    rfl
  refine ⟨fun i i0 k1 k5 => ?_, fun i i0 i1 => ?_, lst, beh, fun i i0 i1 => ?_⟩
  · have il : i < (ts.length : Int) - 1 := by
      by_cases c : i < (ts.length : Int) - 1
      · exact c
      · exfalso
        by_cases c1 : i = (ts.length : Int) - 1
        · rw [← c1] at lst; omega
        · have := beh i (by omega); omega
    have w := h i.toNat (by omega)
    have w1 := w.2.1 (by omega)
    refine ⟨by rw [tkL_at i0]; exact w.1, ?_⟩
    show (tkL ts i).2.2.2 < (tkL ts (i + 1)).2.2.2
    rw [tkL_at i0, tkL_at (by omega), show (i + 1).toNat = i.toNat + 1 by omega]
    exact w1.2
  · rw [tkL_at i0]; exact ((h i.toNat (by omega)).2.1 (by omega)).1
  · rw [tkL_at i0]; exact (h i.toNat (by omega)).1
end TOKF
