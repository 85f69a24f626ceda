set_option maxRecDepth 100000
/-! the parser's specification: what is read, by induction -/
theorem exb {ε α β : Type} {x : Except ε α} {g : α → Except ε β} {r : β} (h : (x >>= g) = .ok r) : ∃ a, x = .ok a ∧ g a = .ok r := by
  cases x with
  | error e => cases h
  | ok a => exact ⟨a, rfl, h⟩
section PARI
variable {tk : Int → TK}
theorem go_ok {p q : Int} (h : goS tk p = .ok q) : p < 150 ∧ q = p + 1 := by
  unfold goS at h
  by_cases y : 150 ≤ p
  · rw [if_pos y] at h; cases h
  · rw [if_neg y] at h
    have e : p + 1 = q := by injection h
    omega
theorem op_ok' {p o q : Int} (h : opS tk p o = .ok q) : p < 150 ∧ o ≠ 12 ∧ q = p + 1 := by
  unfold opS at h
  by_cases y : o = 12 ∧ p < 150
  · rw [if_pos y] at h; cases h
  · rw [if_neg y] at h
    have := go_ok h
    omega
theorem nd_ok {c p q : Int} (h : ndS tk c p = .ok q) : isSg tk c p ∧ p < 150 ∧ q = p + 1 := by
  unfold ndS at h
  by_cases y : isSg tk c p
  · rw [if_pos y] at h; exact ⟨y, go_ok h⟩
  · rw [if_neg y] at h; cases h
theorem nk_ok {c p q : Int} (h : nkS tk c p = .ok q) : isKy tk c p ∧ p < 150 ∧ q = p + 1 := by
  unfold nkS at h
  by_cases y : isKy tk c p
  · rw [if_pos y] at h; exact ⟨y, go_ok h⟩
  · rw [if_neg y] at h; cases h
theorem no_ok {c p o q : Int} (h : noS tk c p o = .ok q) : isSg tk c p ∧ p < 150 ∧ o ≠ 12 ∧ q = p + 1 := by
  unfold noS at h
  by_cases y : isSg tk c p
  · rw [if_pos y] at h; exact ⟨y, op_ok' h⟩
  · rw [if_neg y] at h; cases h
theorem kd_ok {k p : Int} {u : Unit} (h : kdE tk k p = .ok u) : kdS tk p = k := by
  unfold kdE at h
  by_cases y : kdS tk p = k
  · exact y
  · rw [if_neg y] at h; cases h
def lvR (md lo lp : Nat) : Prop := (md = 1 ∧ lo = 2 ∧ lp = 11) ∨ (md = 2 ∧ lo = 3 ∧ lp = 12) ∨ (md = 5 ∧ lo = 6 ∧ lp = 15) ∨ (md = 6 ∧ lo = 7 ∧ lp = 16) ∨ (md = 8 ∧ lo = 9 ∧ lp = 18)
def lpR (tk : Int → TK) (lp lo : Nat) (k p : Int) : Prop := (lp = 11 ∧ lo = 2 ∧ k = 9 ∧ isKy tk 4 p) ∨ (lp = 12 ∧ lo = 3 ∧ k = 10 ∧ isKy tk 3 p) ∨ (lp = 15 ∧ lo = 6 ∧ (k = 16 ∧ isSg tk 43 p ∨ k = 17 ∧ isSg tk 45 p)) ∨ (lp = 16 ∧ lo = 7 ∧ (k = 18 ∧ isSg tk 42 p ∨ k = 19 ∧ isSg tk 47 p ∨ k = 20 ∧ isKy tk 6 p ∨ k = 21 ∧ isKy tk 7 p))
def ahR (tk : Int → TK) (md lo : Nat) (k p : Int) : Prop := (md = 3 ∧ lo = 4 ∧ k = 11 ∧ isKy tk 5 p) ∨ (md = 7 ∧ lo = 8 ∧ k = 22 ∧ isSg tk 45 p)
def rlR (tk : Int → TK) (k p : Int) : Prop := k = 12 ∧ isSg tk 61 p ∨ k = 13 ∧ isSg tk 35 p ∨ k = 14 ∧ isSg tk 60 p ∨ k = 15 ∧ isSg tk 131 p
theorem lv_bd {rec : Nat → PT → Int → Int → RS} {lo lp : Nat} {p o q : Int} {rs : List (List PT)} (h : bLev rec lo lp p o = .ok (rs, q)) : ∃ ra q1, rec lo acc0 p o = .ok (ra, q1) ∧ rec lp (fstP ra) q1 o = .ok (rs, q) := by
  unfold bLev at h
  obtain ⟨⟨ra, q1⟩, h1, h2⟩ := exb h
  exact ⟨ra, q1, h1, h2⟩
theorem lp_bd {rec : Nat → PT → Int → Int → RS} {k : Int} {lo lp : Nat} {a : PT} {p o q : Int} {rs : List (List PT)} (h : bLoop tk rec k lo lp a p o = .ok (rs, q)) : (k = -1 ∧ rs = [[a]] ∧ q = p) ∨ (k ≠ -1 ∧ p < 150 ∧ ∃ rb q1, rec lo acc0 (p + 1) o = .ok (rb, q1) ∧ rec lp ((k, plS tk p, 0, 0), chT [a, fstP rb]) q1 o = .ok (rs, q)) := by
  unfold bLoop at h
  by_cases y : k = -1
  · rw [if_pos y] at h
    have e : ([[a]], p) = (rs, q) := by injection h
    injection e with e1 e2
    exact .inl ⟨y, e1.symm, e2.symm⟩
  · rw [if_neg y] at h
    obtain ⟨q0, h0, h⟩ := exb h
    obtain ⟨⟨rb, q1⟩, h1, h2⟩ := exb h
    obtain ⟨g, rfl⟩ := go_ok h0
    exact .inr ⟨y, g, rb, q1, h1, h2⟩
theorem ah_bd {rec : Nat → PT → Int → Int → RS} {is : Prop} [Decidable is] {k : Int} {me lo : Nat} {p o q : Int} {rs : List (List PT)} (h : bAhead tk rec is k me lo p o = .ok (rs, q)) : (¬ is ∧ rec lo acc0 p o = .ok (rs, q)) ∨ (is ∧ p < 150 ∧ o ≠ 12 ∧ ∃ ra, rec me acc0 (p + 1) (o + 1) = .ok (ra, q) ∧ rs = [[((k, plS tk p, 0, 0), chT [fstP ra])]]) := by
  unfold bAhead at h
  by_cases y : is
  · rw [if_neg (fun z => z y)] at h
    obtain ⟨q0, h0, h⟩ := exb h
    obtain ⟨⟨ra, q1⟩, h1, h2⟩ := exb h
    obtain ⟨g, g', rfl⟩ := op_ok' h0
    have e : ([[((k, plS tk p, 0, 0), chT [fstP ra])]], q1) = (rs, q) := by injection h2
    injection e with e1 e2
    subst e2
    exact .inr ⟨y, g, g', ra, h1, e1.symm⟩
  · rw [if_pos y] at h; exact .inl ⟨y, h⟩
theorem sm_K {p : Int} (h : smK tk p ≠ -1) : smK tk p = 16 ∧ isSg tk 43 p ∨ smK tk p = 17 ∧ isSg tk 45 p := by
  unfold smK at h ⊢
  by_cases a : isSg tk 43 p
  · rw [if_pos a]; exact .inl ⟨rfl, a⟩
  · rw [if_neg a] at h ⊢
    by_cases a : isSg tk 45 p
    · rw [if_pos a]; exact .inr ⟨rfl, a⟩
    · rw [if_neg a] at h; exact absurd rfl h
theorem pr_K {p : Int} (h : prK tk p ≠ -1) : prK tk p = 18 ∧ isSg tk 42 p ∨ prK tk p = 19 ∧ isSg tk 47 p ∨ prK tk p = 20 ∧ isKy tk 6 p ∨ prK tk p = 21 ∧ isKy tk 7 p := by
  unfold prK at h ⊢
  by_cases a : isSg tk 42 p
  · rw [if_pos a]; exact .inl ⟨rfl, a⟩
  rw [if_neg a] at h ⊢
  by_cases a : isSg tk 47 p
  · rw [if_pos a]; exact .inr (.inl ⟨rfl, a⟩)
  rw [if_neg a] at h ⊢
  by_cases a : isKy tk 6 p
  · rw [if_pos a]; exact .inr (.inr (.inl ⟨rfl, a⟩))
  rw [if_neg a] at h ⊢
  by_cases a : isKy tk 7 p
  · rw [if_pos a]; exact .inr (.inr (.inr ⟨rfl, a⟩))
  rw [if_neg a] at h; exact absurd rfl h
theorem rl_K {p : Int} (h : rlK tk p ≠ -1) : rlR tk (rlK tk p) p := by
  unfold rlR
  unfold rlK at h ⊢
  by_cases a : isSg tk 61 p
  · rw [if_pos a]; exact .inl ⟨rfl, a⟩
  rw [if_neg a] at h ⊢
  by_cases a : isSg tk 35 p
  · rw [if_pos a]; exact .inr (.inl ⟨rfl, a⟩)
  rw [if_neg a] at h ⊢
  by_cases a : isSg tk 60 p
  · rw [if_pos a]; exact .inr (.inr (.inl ⟨rfl, a⟩))
  rw [if_neg a] at h ⊢
  by_cases a : isSg tk 131 p
  · rw [if_pos a]; exact .inr (.inr (.inr ⟨rfl, a⟩))
  rw [if_neg a] at h; exact absurd rfl h
theorem one_ok {a : PT} {p q : Int} {rs : List (List PT)} (h : oneR a p = .ok (rs, q)) : rs = [[a]] ∧ q = p := by
  have e : ([[a]], p) = (rs, q) := by injection h
  injection e with e1 e2
  exact ⟨e1.symm, e2.symm⟩
/-- what an atom is -/
def atR (tk : Int → TK) (Φ : Nat → PT → Int → Int → List (List PT) → Int → Prop) (p o : Int) (a : PT) (q : Int) : Prop :=
  (kdS tk p = 1 ∧ p < 150 ∧ a = ((0, plS tk p, vlS tk p, 0), lf) ∧ q = p + 1)
  ∨ (kdS tk p = 2 ∧ p < 150 ∧ isSg tk 40 (p + 1) ∧ p + 1 < 150 ∧ o ≠ 12 ∧ ∃ r q2, Φ 20 acc0 (p + 2) (o + 1) r q2 ∧ isSg tk 41 q2 ∧ q2 < 150 ∧ q = q2 + 1 ∧ a = ((5, plS tk p, 0, nmS' tk p), chT (fstR r)))
  ∨ (kdS tk p = 2 ∧ p < 150 ∧ q = p + 1 ∧ a = ((4, plS tk p, 0, nmS' tk p), lf))
  ∨ (kdS tk p = 4 ∧ p < 150 ∧ isSg tk 40 (p + 1) ∧ p + 1 < 150 ∧ o ≠ 12 ∧ ∃ r q2, Φ 20 acc0 (p + 2) (o + 1) r q2 ∧ isSg tk 41 q2 ∧ q2 < 150 ∧ q = q2 + 1 ∧ a = ((6, plS tk p, vlS tk p, 0), chT (fstR r)))
  ∨ (kdS tk p = 3 ∧ (vlS tk p = 12 ∨ vlS tk p = 13) ∧ p < 150 ∧ q = p + 1 ∧ a = ((if vlS tk p = 12 then 1 else 2, plS tk p, 0, 0), lf))
  ∨ (isSg tk 40 p ∧ p < 150 ∧ o ≠ 12 ∧ ∃ r q1, Φ 0 acc0 (p + 1) (o + 1) r q1 ∧ isSg tk 41 q1 ∧ q1 < 150 ∧ q = q1 + 1 ∧ a = fstP r)
  ∨ (isSg tk 91 p ∧ p < 150 ∧ o ≠ 12 ∧ ∃ r q1, Φ 22 acc0 (p + 1) (o + 1) r q1 ∧ isSg tk 93 q1 ∧ q1 < 150 ∧ q = q1 + 1 ∧ a = ((7, plS tk p, rowsN r, 0), chT r.flatten))
  ∨ (isSg tk 37 p ∧ p < 150 ∧ kdS tk (p + 1) = 1 ∧ p + 1 < 150 ∧ q = p + 2 ∧ a = ((3, plS tk p, vlS tk (p + 1), 0), lf))
theorem at_bd {rec : Nat → PT → Int → Int → RS} {p o q : Int} {rs : List (List PT)} (h : bAtom tk rec p o = .ok (rs, q)) : ∃ a, rs = [[a]] ∧ atR tk (fun md a p o rs q => rec md a p o = .ok (rs, q)) p o a q := by
  unfold bAtom at h
  by_cases y : kdS tk p = 1
  · rw [if_pos y] at h
    obtain ⟨q0, h0, h⟩ := exb h
    obtain ⟨g, rfl⟩ := go_ok h0
    obtain ⟨e1, e2⟩ := one_ok h
    exact ⟨_, e1, .inl ⟨y, g, rfl, e2⟩⟩
  rw [if_neg y] at h
  by_cases y : kdS tk p = 2
  · rw [if_pos y] at h
    obtain ⟨q0, h0, h⟩ := exb h
    obtain ⟨g, rfl⟩ := go_ok h0
    by_cases y1 : isSg tk 40 (p + 1)
    · rw [if_pos y1] at h
      obtain ⟨q1, h1, h⟩ := exb h
      obtain ⟨g1, g2, rfl⟩ := op_ok' h1
      obtain ⟨⟨r, q2⟩, h2, h⟩ := exb h
      obtain ⟨q3, h3, h⟩ := exb h
      obtain ⟨g3, g4, rfl⟩ := nd_ok h3
      obtain ⟨e1, e2⟩ := one_ok h
      rw [show p + 1 + 1 = p + 2 by omega] at h2
      exact ⟨_, e1, .inr (.inl ⟨y, g, y1, g1, g2, r, q2, h2, g3, g4, e2, rfl⟩)⟩
    · rw [if_neg y1] at h
      obtain ⟨e1, e2⟩ := one_ok h
      exact ⟨_, e1, .inr (.inr (.inl ⟨y, g, e2, rfl⟩))⟩
  rw [if_neg y] at h
  by_cases y : kdS tk p = 4
  · rw [if_pos y] at h
    obtain ⟨q0, h0, h⟩ := exb h
    obtain ⟨g, rfl⟩ := go_ok h0
    obtain ⟨q1, h1, h⟩ := exb h
    obtain ⟨y1, g1, g2, rfl⟩ := no_ok h1
    obtain ⟨⟨r, q2⟩, h2, h⟩ := exb h
    obtain ⟨q3, h3, h⟩ := exb h
    obtain ⟨g3, g4, rfl⟩ := nd_ok h3
    obtain ⟨e1, e2⟩ := one_ok h
    rw [show p + 1 + 1 = p + 2 by omega] at h2
    exact ⟨_, e1, .inr (.inr (.inr (.inl ⟨y, g, y1, g1, g2, r, q2, h2, g3, g4, e2, rfl⟩)))⟩
  rw [if_neg y] at h
  by_cases y : kdS tk p = 3
  · rw [if_pos y] at h
    by_cases y1 : vlS tk p = 12 ∨ vlS tk p = 13
    · rw [if_pos y1] at h
      obtain ⟨q0, h0, h⟩ := exb h
      obtain ⟨g, rfl⟩ := go_ok h0
      obtain ⟨e1, e2⟩ := one_ok h
      exact ⟨_, e1, .inr (.inr (.inr (.inr (.inl ⟨y, y1, g, e2, rfl⟩))))⟩
    · rw [if_neg y1] at h; cases h
  rw [if_neg y] at h
  by_cases y : isSg tk 40 p
  · rw [if_pos y] at h
    obtain ⟨q0, h0, h⟩ := exb h
    obtain ⟨g, g', rfl⟩ := op_ok' h0
    obtain ⟨⟨r, q2⟩, h2, h⟩ := exb h
    obtain ⟨q3, h3, h⟩ := exb h
    obtain ⟨g3, g4, rfl⟩ := nd_ok h3
    obtain ⟨e1, e2⟩ := one_ok h
    exact ⟨_, e1, .inr (.inr (.inr (.inr (.inr (.inl ⟨y, g, g', r, q2, h2, g3, g4, e2, rfl⟩)))))⟩
  rw [if_neg y] at h
  by_cases y : isSg tk 91 p
  · rw [if_pos y] at h
    obtain ⟨q0, h0, h⟩ := exb h
    obtain ⟨g, g', rfl⟩ := op_ok' h0
    obtain ⟨⟨r, q2⟩, h2, h⟩ := exb h
    obtain ⟨q3, h3, h⟩ := exb h
    obtain ⟨g3, g4, rfl⟩ := nd_ok h3
    obtain ⟨e1, e2⟩ := one_ok h
    exact ⟨_, e1, .inr (.inr (.inr (.inr (.inr (.inr (.inl ⟨y, g, g', r, q2, h2, g3, g4, e2, rfl⟩))))))⟩
  rw [if_neg y] at h
  by_cases y : isSg tk 37 p
  · rw [if_pos y] at h
    obtain ⟨q0, h0, h⟩ := exb h
    obtain ⟨g, rfl⟩ := go_ok h0
    obtain ⟨u, h1, h⟩ := exb h
    obtain ⟨q1, h2, h⟩ := exb h
    obtain ⟨g1, rfl⟩ := go_ok h2
    obtain ⟨e1, e2⟩ := one_ok h
    exact ⟨_, e1, .inr (.inr (.inr (.inr (.inr (.inr (.inr ⟨y, g, kd_ok h1, g1, by omega, rfl⟩))))))⟩
  rw [if_neg y] at h; cases h
end PARI
