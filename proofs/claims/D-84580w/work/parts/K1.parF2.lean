set_option maxRecDepth 100000
/-! what the parser reads is in order: expressions -/
/-- how deep judging goes -/
def bD (l o : Int) : Int := 13 * (12 - o) + 50 + 2 * l
/-- an expression that was read between two tokens -/
def Gd (tk : Int → TK) (b : Int) (a : PT) (p q : Int) : Prop := (0 ≤ a.1.1 ∧ a.1.1 ≤ 25) ∧ (okN a.1 a.2 ∧ wfT a.2) ∧ plw (chT [a]) (plS tk p) ∧ (szT a.2 : Int) + 1 ≤ q - p ∧ ((dq (chT [a])).1 : Int) ≤ b ∧ plS tk p < plS tk q
/-- a list of them -/
def GL (tk : Int → TK) (b : Int) (ps : List PT) (p q : Int) : Prop := ps ≠ [] ∧ (wfT (chT ps) ∧ allP (chT ps)) ∧ plw (chT ps) (plS tk p) ∧ (szT (chT ps) : Int) ≤ q - p ∧ (((dq (chT ps)).1 : Int) ≤ b ∧ ((dq (chT ps)).2 : Int) ≤ b) ∧ plS tk p < plS tk q
section PARF2
variable {tk : Int → TK} {p q o b : Int} {a : PT}
theorem lenT_ch : ∀ (ps : List PT), lenT (chT ps) = ps.length := by
  intro ps
  induction ps with
  | nil => rfl
  | cons a ps ih => show lenT (chT ps) + 1 = ps.length + 1; rw [ih]
abbrev isLq (k : Int) : Prop := k = 9 ∨ k = 10 ∨ (12 ≤ k ∧ k ≤ 21) ∨ (23 ≤ k ∧ k ≤ 25)
theorem Gd.mk {d : ND} {c : TT} (hk : 0 ≤ d.1 ∧ d.1 ≤ 25) (hok : okN d c) (hw : wfT c) (hp : plS tk p ≤ d.2.1) (hpl : plw c (plS tk p)) (hsz : (szT c : Int) + 1 ≤ q - p) (hdq : (isLq d.1 → ((dq c).1 : Int) ≤ b ∧ ((dq c).2 : Int) + 2 ≤ b) ∧ (¬ isLq d.1 → ((dq c).1 : Int) + 3 ≤ b ∧ ((dq c).2 : Int) + 3 ≤ b)) (hl : plS tk p < plS tk q) : Gd tk b (d, c) p q := by
  refine ⟨hk, ⟨hok, hw⟩, ⟨hp, fun z => ?_, hpl, trivial⟩, hsz, ?_, hl⟩
  · exfalso; have z' : d.1 = 33 ∨ d.1 = 35 := z; omega
  · show (((if isLq d.1 then max (dq c).1 ((dq c).2 + 2) else max (dq c).1 (dq c).2 + 3) : Nat) : Int) ≤ b
    by_cases y : isLq d.1
    · rw [if_pos y]; have := hdq.1 y; omega
    · rw [if_neg y]; have := hdq.2 y; omega
theorem okN.mk {d : ND} {c : TT} (hk : 0 ≤ d.1 ∧ d.1 ≤ 25) (hw : 0 ≤ d.2.1 ∧ d.2.1 ≤ 400) (hv : 0 ≤ d.2.2.1 ∧ d.2.2.1 ≤ 999999999) (hn : RL d.2.2.2) (h6 : d.1 = 6 → d.2.2.1 ≤ 13) (h7 : d.1 = 7 → d.2.2.1 ≤ 3 ∧ (d.2.2.1 ≠ 0 → (lenT c : Int) = d.2.2.1 * d.2.2.1)) (h5 : d.1 = 5 → plw c (d.2.1 + 1)) (ha : arT d.1 (lenT c) ∧ allP c) : okN d c := ⟨hw, hv, hn, fun z => by omega, h6, h7, fun z => by omega, h5, .inl ha⟩
theorem Gd.one (h : Gd tk b a p q) : GL tk b [a] p q := by
  obtain ⟨h1, h2, h3, h4, h5, h6⟩ := h
  refine ⟨by simp, ⟨⟨h2.1, h2.2, trivial⟩, h1, trivial⟩, h3, ?_, ⟨h5, ?_⟩, h6⟩
  · show ((szT a.2 + 0 + 1 : Nat) : Int) ≤ q - p; omega
  · show ((0 : Nat) : Int) ≤ b
    have : (0 : Int) ≤ ((dq (chT [a])).1 : Int) := by omega
    omega
theorem Gd.cons {p1 q1 : Int} {ps : List PT} (h : Gd tk b a p q) (g : GL tk b ps p1 q1) (h1 : q ≤ p1) (h2 : plS tk q ≤ plS tk p1) : GL tk b (a :: ps) p q1 := by
  obtain ⟨a1, a2, a3, a4, a5, a6⟩ := h
  obtain ⟨b1, b2, b3, b4, b5, b6⟩ := g
  refine ⟨by simp, ⟨⟨a2.1, a2.2, b2.1⟩, a1, b2.2⟩, ⟨a3.1, a3.2.1, a3.2.2.1, b3.mono (by omega)⟩, ?_, ⟨a5, ?_⟩, by omega⟩
  · show ((szT a.2 + szT (chT ps) + 1 : Nat) : Int) ≤ q1 - p; omega
  · show ((max (dq (chT ps)).1 (dq (chT ps)).2 : Nat) : Int) ≤ b; omega
theorem ch_app {lo : Int} : ∀ (ps rs : List PT), (wfT (chT ps) → wfT (chT rs) → wfT (chT (ps ++ rs))) ∧ (allP (chT ps) → allP (chT rs) → allP (chT (ps ++ rs))) ∧ (plw (chT ps) lo → plw (chT rs) lo → plw (chT (ps ++ rs)) lo) ∧ szT (chT (ps ++ rs)) = szT (chT ps) + szT (chT rs) ∧ (∀ b : Nat, (dq (chT ps)).1 ≤ b → (dq (chT ps)).2 ≤ b → (dq (chT rs)).1 ≤ b → (dq (chT rs)).2 ≤ b → (dq (chT (ps ++ rs))).1 ≤ b ∧ (dq (chT (ps ++ rs))).2 ≤ b) := by
  intro ps rs
  induction ps with
  | nil => exact ⟨fun _ h => h, fun _ h => h, fun _ h => h, by show szT (chT rs) = 0 + szT (chT rs); omega, fun b _ _ h1 h2 => ⟨h1, h2⟩⟩
  | cons a ps ih =>
    obtain ⟨i1, i2, i3, i4, i5⟩ := ih
    refine ⟨fun h g => ⟨h.1, h.2.1, i1 h.2.2 g⟩, fun h g => ⟨h.1, i2 h.2 g⟩, fun h g => ⟨h.1, h.2.1, h.2.2.1, i3 h.2.2.2 g⟩, ?_, fun b h1 h2 h3 h4 => ?_⟩
    · show szT a.2 + szT (chT (ps ++ rs)) + 1 = szT a.2 + szT (chT ps) + 1 + szT (chT rs)
      rw [i4]; omega
    · have h2' : max (dq (chT ps)).1 (dq (chT ps)).2 ≤ b := h2
      have w := i5 b (by omega) (by omega) h3 h4
      refine ⟨h1, ?_⟩
      show max (dq (chT (ps ++ rs))).1 (dq (chT (ps ++ rs))).2 ≤ b
      omega
theorem GL.app {p1 q1 : Int} {ps rs : List PT} (h : GL tk b ps p q) (g : GL tk b rs p1 q1) (hq : q ≤ p1) (hl : plS tk q ≤ plS tk p1) : GL tk b (ps ++ rs) p q1 := by
  obtain ⟨b1, ⟨b2, b3⟩, b4, b5, b6, b7⟩ := h
  obtain ⟨c1, ⟨c2, c3⟩, c4, c5, c6, c7⟩ := g
  obtain ⟨i1, i2, i3, i4, i5⟩ := ch_app (lo := plS tk p) ps rs
  have w := i5 b.toNat (by omega) (by omega) (by omega) (by omega)
  refine ⟨?_, ⟨i1 b2 c2, i2 b3 c3⟩, i3 b4 (c4.mono (by omega)), by rw [i4]; omega, ⟨by omega, by omega⟩, by omega⟩
  intro z
  have := congrArg List.length z
  rw [List.length_append] at this
  cases ps with
  | nil => exact b1 rfl
  | cons _ _ => simp at this
theorem GL.mono {b' p' q' : Int} {ps : List PT} (h : GL tk b ps p q) (hb : b ≤ b') (hp : p' ≤ p) (hlp : plS tk p' ≤ plS tk p) (hq : q ≤ q') (hlq : plS tk q ≤ plS tk q') : GL tk b' ps p' q' := by
  obtain ⟨b1, b2, b4, b5, b6, b7⟩ := h
  exact ⟨b1, b2, b4.mono hlp, by omega, ⟨by omega, by omega⟩, by omega⟩
theorem Gd.mono {b' p' q' : Int} (h : Gd tk b a p q) (hb : b ≤ b') (hp : p' ≤ p) (hlp : plS tk p' ≤ plS tk p) (hq : q ≤ q') (hlq : plS tk q ≤ plS tk q') : Gd tk b' a p' q' := by
  obtain ⟨b1, b2, b4, b5, b6, b7⟩ := h
  exact ⟨b1, b2, b4.mono hlp, by omega, by omega, by omega⟩
/-- a node over parts that are expressions, its own place first -/
theorem GL.node {d : ND} {ps : List PT} {p1 q1 bi : Int} (h : GL tk bi ps p1 q1) (hk : 0 ≤ d.1 ∧ d.1 ≤ 25) (hnl : ¬ isLq d.1) (hb : bi + 3 ≤ b) (hw : 0 ≤ d.2.1 ∧ d.2.1 ≤ 400) (hd : d.2.1 = plS tk p) (hp : p + 1 ≤ p1) (hlp : plS tk p < plS tk p1) (hq : q1 ≤ q) (hlq : plS tk q1 ≤ plS tk q) (hv : 0 ≤ d.2.2.1 ∧ d.2.2.1 ≤ 999999999) (hn : RL d.2.2.2) (h6 : d.1 = 6 → d.2.2.1 ≤ 13) (h7 : d.1 = 7 → d.2.2.1 ≤ 3 ∧ (d.2.2.1 ≠ 0 → (lenT (chT ps) : Int) = d.2.2.1 * d.2.2.1)) (ha : arT d.1 (lenT (chT ps))) : Gd tk b (d, chT ps) p q := by
  obtain ⟨b1, b2, b4, b5, b6, b7⟩ := h
  exact Gd.mk hk (okN.mk hk hw hv hn h6 h7 (fun _ => b4.mono (by omega)) ⟨ha, b2.2⟩) b2.1 (by omega) (b4.mono (by omega)) (by omega) ⟨fun z => absurd z hnl, fun _ => ⟨by omega, by omega⟩⟩ (by omega)
theorem Gd.leaf {d : ND} (hk : 0 ≤ d.1 ∧ d.1 ≤ 4) (hb : 3 ≤ b) (hw : 0 ≤ d.2.1 ∧ d.2.1 ≤ 400) (hd : d.2.1 = plS tk p) (hq : p + 1 ≤ q) (hlq : plS tk p < plS tk q) (hv : 0 ≤ d.2.2.1 ∧ d.2.2.1 ≤ 999999999) (hn : RL d.2.2.2) : Gd tk b (d, lf) p q := by
  refine Gd.mk (by omega) (okN.mk (by omega) hw hv hn (fun z => by omega) (fun z => by omega) (fun z => by omega) ⟨.inl ⟨hk, rfl⟩, trivial⟩) trivial (by omega) trivial (by show ((0 : Nat) : Int) + 1 ≤ _; omega) ⟨fun z => ?_, fun _ => ?_⟩ hlq
  · exfalso
    unfold isLq at z
    omega
  · show ((0 : Nat) : Int) + 3 ≤ b ∧ ((0 : Nat) : Int) + 3 ≤ b; omega
/-- a node over two -/
theorem Gd.two {c : PT} {k p1 bi : Int} (h : Gd tk b a p p1) (g : Gd tk bi c (p1 + 1) q) (hb : bi + 2 ≤ b) (hk : k = 9 ∨ k = 10 ∨ 12 ≤ k ∧ k ≤ 21) (hw : 0 ≤ plS tk p1 ∧ plS tk p1 ≤ 400) (hl : plS tk p1 < plS tk (p1 + 1)) : Gd tk b ((k, plS tk p1, 0, 0), chT [a, c]) p q := by
  obtain ⟨a1, a2, a3, a4, a5, a6⟩ := h
  obtain ⟨b1, b2, b3, b4, b5, b6⟩ := g
  have hk25 : 0 ≤ k ∧ k ≤ 25 := by omega
  have hlq : isLq k := by unfold isLq; omega
  refine Gd.mk hk25 (okN.mk hk25 hw (by show (0 : Int) ≤ 0 ∧ (0 : Int) ≤ 999999999; decide) (by show RL 0; decide) (fun z => ?_) (fun z => ?_) (fun z => ?_) ⟨?_, a1, b1, trivial⟩) ⟨a2.1, a2.2, b2.1, b2.2, trivial⟩ (by show plS tk p ≤ plS tk p1; omega) ⟨a3.1, a3.2.1, a3.2.2.1, b3.mono (by omega)⟩ ?_ ⟨fun _ => ⟨a5, ?_⟩, fun z => absurd hlq z⟩ (by omega)
  · exfalso; have z' : k = 6 := z; omega
  · exfalso; have z' : k = 7 := z; omega
  · exfalso; have z' : k = 5 := z; omega
  · exact .inr (.inr (.inr (.inl ⟨hk, rfl⟩)))
  · show ((szT a.2 + (szT c.2 + 0 + 1) + 1 : Nat) : Int) + 1 ≤ q - p; omega
  · show ((max (dq (chT [c])).1 0 : Nat) : Int) + 2 ≤ b; omega
theorem Gd.pw {k p1 v : Int} (h : Gd tk b a p p1) (hv : 0 ≤ v ∧ v ≤ 999999999) (hb : 2 ≤ b) (hw : 0 ≤ plS tk p1 ∧ plS tk p1 ≤ 400) (hq : p1 + 1 ≤ q) (hl : plS tk p1 < plS tk q) (hk : k = 23) : Gd tk b ((k, plS tk p1, v, 0), chT [a]) p q := by
  obtain ⟨a1, a2, a3, a4, a5, a6⟩ := h
  have hlq : isLq k := by unfold isLq; omega
  have hk25 : 0 ≤ k ∧ k ≤ 25 := by omega
  refine Gd.mk hk25 (okN.mk hk25 hw hv (by show RL 0; decide) (fun z => ?_) (fun z => ?_) (fun z => ?_) ⟨?_, a1, trivial⟩) ⟨a2.1, a2.2, trivial⟩ (by show plS tk p ≤ plS tk p1; omega) a3 ?_ ⟨fun _ => ⟨a5, ?_⟩, fun z => absurd hlq z⟩ (by omega)
  · exfalso; have z' : k = 6 := z; omega
  · exfalso; have z' : k = 7 := z; omega
  · exfalso; have z' : k = 5 := z; omega
  · exact .inr (.inr (.inr (.inr ⟨by show k = 11 ∨ k = 22 ∨ k = 23; omega, rfl⟩)))
  · show ((szT a.2 + 0 + 1 : Nat) : Int) + 1 ≤ q - p; omega
  · show ((0 : Nat) : Int) + 2 ≤ b; omega
theorem Gd.cv {c : PT} {k p1 : Int} (h : Gd tk b a p p1) (g : GT tk 16 c (p1 + 1) q) (hb : 50 ≤ b) (hk : k = 24 ∨ k = 25) (hw : 0 ≤ plS tk p1 ∧ plS tk p1 ≤ 400) (hl : plS tk p1 < plS tk (p1 + 1)) : Gd tk b ((k, plS tk p1, 0, 0), chT [a, c]) p q := by
  obtain ⟨a1, a2, a3, a4, a5, a6⟩ := h
  obtain ⟨b1, b2, b3, -, ⟨b4, b5, b6⟩, b7⟩ := g
  have hlq : isLq k := by unfold isLq; omega
  have hk25 : 0 ≤ k ∧ k ≤ 25 := by omega
  refine Gd.mk hk25 ⟨hw, by show (0 : Int) ≤ 0 ∧ (0 : Int) ≤ 999999999; decide, by show RL 0; decide, fun z => ?_, fun z => ?_, fun z => ?_, fun z => ?_, fun z => ?_, .inr (.inl ⟨hk, _, _, _, _, _, rfl, a1, ⟨b1, rfl⟩, ?_⟩)⟩ ⟨a2.1, a2.2, b2.1, b2.2, trivial⟩ (by show plS tk p ≤ plS tk p1; omega) ⟨a3.1, a3.2.1, a3.2.2.1, b3.mono (by omega)⟩ ?_ ⟨fun _ => ⟨a5, ?_⟩, fun z => absurd hlq z⟩ (by omega)
  · exfalso; have z' : 30 ≤ k := z; omega
  · exfalso; have z' : k = 6 := z; omega
  · exfalso; have z' : k = 7 := z; omega
  · exfalso; have z' : k = 30 := z; omega
  · exfalso; have z' : k = 5 := z; omega
  · show max (htT c.2 + 1) 0 ≤ 16; omega
  · show ((szT a.2 + (szT c.2 + 0 + 1) + 1 : Nat) : Int) + 1 ≤ q - p; omega
  · show ((max (dq (chT [c])).1 0 : Nat) : Int) + 2 ≤ b; omega
end PARF2
