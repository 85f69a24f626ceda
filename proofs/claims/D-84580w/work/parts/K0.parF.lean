set_option maxRecDepth 100000
/-! what the parser reads is in order: rings -/
/-- tokens that are passed are as they should be, their places grow -/
def TkO (tk : Int → TK) : Prop := ∀ i, 0 ≤ i → 1 ≤ (tk i).1 → (tk i).1 ≤ 5 → TkW (tk i) ∧ plS tk i < plS tk (i + 1)
/-- a ring that was read between two tokens -/
def GT (tk : Int → TK) (n : Nat) (a : PT) (p q : Int) : Prop := (30 ≤ a.1.1 ∧ a.1.1 ≤ 35) ∧ (okN a.1 a.2 ∧ wfT a.2) ∧ plw (chT [a]) (plS tk p) ∧ pup (chT [a]) (plS tk q) ∧ ((szT a.2 : Int) + 1 ≤ q - p ∧ htT a.2 + 1 ≤ n ∧ (dq (chT [a])).1 ≤ 3 * n) ∧ plS tk p < plS tk q
section PARF
variable {tk : Int → TK} {p q o : Int} {a : PT}
theorem TkO.sg {c : Int} (h : TkO tk) (p0 : 0 ≤ p) (y : isSg tk c p) : plS tk p < plS tk (p + 1) := (h p p0 (sg_kd y).1 (sg_kd y).2).2
theorem TkO.ky {c : Int} (h : TkO tk) (p0 : 0 ≤ p) (y : isKy tk c p) : plS tk p < plS tk (p + 1) := (h p p0 (ky_kd y).1 (ky_kd y).2).2
theorem plw.mono : ∀ {t : TT} {lo lo' : Int}, plw t lo → lo' ≤ lo → plw t lo' := by
  intro t
  induction t with
  | leaf => intro _ _ _ _; trivial
  | inner z d u c s ihc ihs => intro lo lo' h w; exact ⟨by have := h.1; omega, fun y => by have := h.2.1 y; omega, ihc h.2.2.1 w, ihs h.2.2.2 w⟩
theorem pup.mono : ∀ {t : TT} {hi hi' : Int}, pup t hi → hi ≤ hi' → pup t hi' := by
  intro t
  induction t with
  | leaf => intro _ _ _ _; trivial
  | inner z d u c s ihc ihs => intro lo lo' h w; exact ⟨by have := h.1; omega, fun y => by have := h.2.1 y; omega, ihc h.2.2 w⟩
theorem GT.leaf {n : Nat} {k w v x : Int} (hk : 30 ≤ k ∧ k ≤ 33) (hw : 0 ≤ w ∧ w ≤ 400) (hv : 0 ≤ v ∧ v ≤ 999999999) (hv1 : k = 30 → v ≤ 1) (hx : 0 ≤ x ∧ x ≤ 400) (hp : plS tk p = w) (hx1 : k = 33 → w ≤ x ∧ x < plS tk q) (hq : p + 1 ≤ q) (hl : plS tk p < plS tk q) : GT tk (n + 1) ((k, w, v, x), lf) p q := by
  refine ⟨by show 30 ≤ k ∧ k ≤ 35; omega, ⟨⟨hw, hv, by show RL x; constructor <;> omega, fun _ => hx, fun z => ?_, fun z => ?_, fun z => hv1 z, fun z => ?_, .inr (.inr (.inl ⟨hk, rfl⟩))⟩, trivial⟩, ⟨?_, fun z => ?_, trivial, trivial⟩, ⟨?_, fun z => ?_, trivial⟩, ⟨?_, ?_, ?_⟩, hl⟩
  · exfalso; have z' : k = 6 := z; omega
  · exfalso; have z' : k = 7 := z; omega
  · exfalso; have z' : k = 5 := z; omega
  · show plS tk p ≤ w; omega
  · have z' : k = 33 ∨ k = 35 := z
    show plS tk p ≤ x
    have := hx1 (by omega)
    omega
  · show w < plS tk q; omega
  · have z' : k = 33 ∨ k = 35 := z
    show x < plS tk q
    exact (hx1 (by omega)).2
  · show ((0 : Nat) : Int) + 1 ≤ q - p; omega
  · show 0 + 1 ≤ n + 1; omega
  · show (if k = 9 ∨ k = 10 ∨ (12 ≤ k ∧ k ≤ 21) ∨ (23 ≤ k ∧ k ≤ 25) then max (0 : Nat) (0 + 2) else max 0 0 + 3) ≤ 3 * (n + 1)
    rw [if_neg (by omega)]; omega
theorem GT.over {n : Nat} {k w v x p1 q1 : Int} (h : GT tk n a p1 q1) (hk : k = 34 ∨ k = 35) (hw : 0 ≤ w ∧ w ≤ 400) (hv : 0 ≤ v ∧ v ≤ 999999999) (hx : 0 ≤ x ∧ x ≤ 400) (hp : plS tk p = w) (hp1 : p + 1 ≤ p1) (hl1 : w ≤ plS tk p1) (hq : q1 + 1 ≤ q) (hlq : plS tk q1 < plS tk q) (hx1 : k = 35 → w ≤ x ∧ x < plS tk q) : GT tk (n + 1) ((k, w, v, x), chT [a]) p q := by
  obtain ⟨h1, ⟨h2, h3⟩, h4, h5, ⟨h6, h7, h8⟩, h9⟩ := h
  refine ⟨by show 30 ≤ k ∧ k ≤ 35; omega, ⟨⟨hw, hv, by show RL x; constructor <;> omega, fun _ => hx, fun z => ?_, fun z => ?_, fun z => ?_, fun z => ?_, .inr (.inr (.inr ⟨hk, h1, rfl⟩))⟩, h2, h3, trivial⟩, ⟨?_, fun z => ?_, h4.mono (by omega), trivial⟩, ⟨?_, fun z => ?_, h5.mono (by omega)⟩, ⟨?_, ?_, ?_⟩, by omega⟩
  · exfalso; have z' : k = 6 := z; omega
  · exfalso; have z' : k = 7 := z; omega
  · exfalso; have z' : k = 30 := z; omega
  · exfalso; have z' : k = 5 := z; omega
  · show plS tk p ≤ w; omega
  · have z' : k = 33 ∨ k = 35 := z
    show plS tk p ≤ x
    have := hx1 (by omega)
    omega
  · show w < plS tk q; omega
  · have z' : k = 33 ∨ k = 35 := z
    show x < plS tk q
    exact (hx1 (by omega)).2
  · show ((szT a.2 + 0 + 1 : Nat) : Int) + 1 ≤ q - p; omega
  · show max (htT a.2 + 1) 0 + 1 ≤ n + 1; omega
  · have e2 : (dq (chT [a])).2 = 0 := rfl
    show (if k = 9 ∨ k = 10 ∨ (12 ≤ k ∧ k ≤ 21) ∨ (23 ≤ k ∧ k ≤ 25) then max (dq (chT [a])).1 ((dq (chT [a])).2 + 2) else max (dq (chT [a])).1 (dq (chT [a])).2 + 3) ≤ 3 * (n + 1)
    rw [if_neg (by omega), e2]; omega
theorem pT_ok (hT : TkO tk) : ∀ {f : Nat} {p o : Int} {a : PT} {q : Int}, 0 ≤ p → pT tk f p o = .ok (a, q) → GT tk f a p q := by
  intro f
  induction f with
  | zero => intro p o a q _ h; unfold pT at h; cases h
  | succ f ih =>
    intro p o a q p0 h
    unfold pT at h
    by_cases y3 : kdS tk p ≠ 3
    · rw [if_pos y3] at h; cases h
    rw [if_neg y3] at h
    have k3 : (tk p).1 = 3 := Decidable.of_not_not y3
    have tp := hT p p0 (by omega) (by omega)
    have pw : 0 ≤ plS tk p ∧ plS tk p ≤ 400 := tp.1.2.2.2.2.2.2
    by_cases y : vlS tk p = 14 ∨ vlS tk p = 15 ∨ vlS tk p = 16 ∨ vlS tk p = 20
    · rw [if_pos y] at h
      obtain ⟨q0, h0, h⟩ := exb h
      obtain ⟨g, rfl⟩ := go_ok h0
      injection h with e
      injection e with e1 e2
      subst e1 e2
      have hK : (30 ≤ (if vlS tk p = 16 then (31 : Int) else if vlS tk p = 20 then 32 else 30) ∧ (if vlS tk p = 16 then (31 : Int) else if vlS tk p = 20 then 32 else 30) ≤ 32) := by
        by_cases a1 : vlS tk p = 16
        · rw [if_pos a1]; decide
        · rw [if_neg a1]
          by_cases a2 : vlS tk p = 20
          · rw [if_pos a2]; decide
          · rw [if_neg a2]; decide
      have hV : 0 ≤ (if vlS tk p = 15 then (1 : Int) else 0) ∧ (if vlS tk p = 15 then (1 : Int) else 0) ≤ 1 := by
        by_cases a1 : vlS tk p = 15
        · rw [if_pos a1]; decide
        · rw [if_neg a1]; decide
      exact GT.leaf ⟨hK.1, by omega⟩ pw ⟨hV.1, by omega⟩ (fun _ => hV.2) (by decide) rfl (fun z => by omega) (Int.le_refl _) tp.2
    rw [if_neg y] at h
    by_cases y : ¬ (vlS tk p = 17 ∨ vlS tk p = 18 ∨ vlS tk p = 19)
    · rw [if_pos y] at h; cases h
    rw [if_neg y] at h
    obtain ⟨q0, h0, h⟩ := exb h
    obtain ⟨g0, rfl⟩ := go_ok h0
    obtain ⟨q1, h1, h⟩ := exb h
    obtain ⟨y1, g1, -, rfl⟩ := no_ok h1
    have l1 := hT.sg (by omega) y1
    have numb : ∀ {x : Int}, 0 ≤ x → kdS tk x = 1 → (0 ≤ vlS tk x ∧ vlS tk x ≤ 999999999) ∧ (0 ≤ plS tk x ∧ plS tk x ≤ 400) ∧ plS tk x < plS tk (x + 1) := by
      intro x x0 kx
      have kx' : (tk x).1 = 1 := kx
      have t := hT x x0 (by omega) (by omega)
      exact ⟨t.1.2.1 kx', t.1.2.2.2.2.2.2, t.2⟩
    by_cases y : vlS tk p = 17
    · rw [if_pos y] at h
      obtain ⟨_, hk, h⟩ := exb h
      obtain ⟨q2, h2, h⟩ := exb h
      obtain ⟨g2, rfl⟩ := go_ok h2
      obtain ⟨q3, h3, h⟩ := exb h
      obtain ⟨y3, g3, rfl⟩ := nd_ok h3
      injection h with e
      injection e with e1 e2
      subst e1 e2
      have nb := numb (x := p + 1 + 1) (by omega) (kd_ok hk)
      have l3 := hT.sg (by omega) y3
      exact GT.leaf (by decide) pw nb.1 (fun z => by omega) nb.2.1 rfl (fun _ => by omega) (by omega) (by omega)
    rw [if_neg y] at h
    by_cases y : vlS tk p = 18
    · rw [if_pos y] at h
      obtain ⟨⟨a1, q2⟩, h2, h⟩ := exb h
      have G := ih (by omega) h2
      have lt := pT_lt h2
      obtain ⟨q3, h3, h⟩ := exb h
      obtain ⟨y3, g3, rfl⟩ := nd_ok h3
      injection h with e
      injection e with e1 e2
      subst e1 e2
      have l3 := hT.sg (by omega) y3
      exact GT.over G (by decide) pw (by decide) (by decide) rfl (by omega) (by omega) (by omega) l3 (fun z => by omega)
    rw [if_neg y] at h
    obtain ⟨_, hk, h⟩ := exb h
    obtain ⟨q2, h2, h⟩ := exb h
    obtain ⟨g2, rfl⟩ := go_ok h2
    obtain ⟨q3, h3, h⟩ := exb h
    obtain ⟨y3, g3, rfl⟩ := nd_ok h3
    obtain ⟨⟨a1, q4⟩, h4, h⟩ := exb h
    have G := ih (by omega) h4
    have lt := pT_lt h4
    obtain ⟨q5, h5, h⟩ := exb h
    obtain ⟨y5, g5, rfl⟩ := nd_ok h5
    injection h with e
    injection e with e1 e2
    subst e1 e2
    have nb := numb (x := p + 1 + 1) (by omega) (kd_ok hk)
    have l3 := hT.sg (by omega) y3
    have l5 := hT.sg (by omega) y5
    have l4 := G.2.2.2.2.2
    exact GT.over G (by decide) pw nb.1 nb.2.1 rfl (by omega) (by omega) (by omega) l5 (fun _ => by omega)
end PARF
