set_option maxRecDepth 100000
/-! what the parser reads is in order: the induction -/
def lvD (md : Nat) : Int := if md = 0 ∨ md = 1 ∨ md = 11 then 5 else if md = 2 ∨ md = 12 then 4 else if md = 3 ∨ md = 4 then 3 else if md = 5 ∨ md = 15 then 2 else if md = 6 ∨ md = 16 then 1 else 0
abbrev isLp (md : Nat) : Prop := md = 11 ∨ md = 12 ∨ md = 15 ∨ md = 16 ∨ md = 18
def PhiF (tk : Int → TK) (md : Nat) (a : PT) (p o : Int) (rs : List (List PT)) (q : Int) : Prop := 0 ≤ p → 0 ≤ o ∧ o ≤ 12 →
  (isLp md → ∀ p0, 0 ≤ p0 → Gd tk (bD (lvD md) o) a p0 p → Gd tk (bD (lvD md) o) (fstP rs) p0 q) ∧
  (md < 10 → Gd tk (bD (lvD md) o) (fstP rs) p q) ∧
  (md = 20 → GL tk (bD 5 o) (fstR rs) p q) ∧
  (md = 22 → (rs ≠ [] ∧ ∀ r, r ∈ rs → r ≠ []) ∧ GL tk (bD 5 (o + 1)) rs.flatten p q)
section PARF3
variable {tk : Int → TK}
theorem flat_len : ∀ (rs : List (List PT)) (n : Nat), (∀ r, r ∈ rs → r.length = n) → rs.flatten.length = rs.length * n := by
  intro rs n
  induction rs with
  | nil => intro _; show 0 = 0 * n; omega
  | cons r rs ih =>
    intro h
    rw [List.flatten_cons, List.length_append, h r (by simp), ih (fun r hr => h r (List.mem_cons_of_mem _ hr)), List.length_cons, Nat.add_mul]
    omega
theorem rowsN_bd (rs : List (List PT)) : (0 ≤ rowsN rs ∧ rowsN rs ≤ 3) ∧ (rowsN rs ≠ 0 → (rs.flatten.length : Int) = rowsN rs * rowsN rs) := by
  unfold rowsN
  by_cases h : (∀ r, r ∈ rs → r.length = rs.length) ∧ rs.length ≤ 3
  · rw [if_pos h]
    refine ⟨by omega, fun _ => ?_⟩
    rw [flat_len rs _ h.1]
    exact Int.natCast_mul ..
  · rw [if_neg h]
    exact ⟨by omega, fun z => absurd rfl z⟩
theorem pS_ok (hT : TkO tk) {f md : Nat} {a : PT} {p o : Int} {rs : List (List PT)} {q : Int} (h : pS tk f md a p o = .ok (rs, q)) : PhiF tk md a p o rs q := by
  have pl : ∀ {x : Int}, 0 ≤ x → 1 ≤ kdS tk x → kdS tk x ≤ 5 → (0 ≤ plS tk x ∧ plS tk x ≤ 400) ∧ plS tk x < plS tk (x + 1) := fun x0 z1 z2 => ⟨(hT _ x0 z1 z2).1.2.2.2.2.2.2, (hT _ x0 z1 z2).2⟩
  have psg : ∀ {x c : Int}, 0 ≤ x → isSg tk c x → (0 ≤ plS tk x ∧ plS tk x ≤ 400) ∧ plS tk x < plS tk (x + 1) := fun x0 y => pl x0 (sg_kd y).1 (sg_kd y).2
  have pky : ∀ {x c : Int}, 0 ≤ x → isKy tk c x → (0 ≤ plS tk x ∧ plS tk x ≤ 400) ∧ plS tk x < plS tk (x + 1) := fun x0 y => pl x0 (ky_kd y).1 (ky_kd y).2
  -- a level's answer has passed tokens
  have lt : ∀ {md : Nat} {a : PT} {p o : Int} {rs : List (List PT)} {q : Int}, (p ≤ q ∧ PhiF tk md a p o rs q) → p ≤ q := fun h => h.1
  suffices H : p ≤ q ∧ PhiF tk md a p o rs q from H.2
  refine pS_ind (tk := tk) (Φ := fun md a p o rs q => p ≤ q ∧ PhiF tk md a p o rs q) ?_ ?_ ?_ ?_ ?_ ?_ ?_ ?_ ?_ ?_ ?_ ?_ ?_ ?_ ?_ ?_ f md a p o rs q h
  · rintro a p o rs q _ ⟨h0, h⟩
    exact ⟨h0, fun p0 o0 => ⟨fun z => by omega, fun _ => (h p0 o0).2.1 (by decide), fun z => by omega, fun z => by omega⟩⟩
  · rintro a p o ra q1 rb q3 rc q5 y g g' ⟨l1, h1⟩ y1 g1 ⟨l2, h2⟩ y3 g3 ⟨l3, h3⟩
    refine ⟨by omega, fun p0 o0 => ⟨fun z => by omega, fun _ => ?_, fun z => by omega, fun z => by omega⟩⟩
    have a1 := (h1 (by omega) (by omega)).2.1 (by decide)
    have a2 := (h2 (by omega) (by omega)).2.1 (by decide)
    have a3 := (h3 (by omega) (by omega)).2.1 (by decide)
    have w0 := pky p0 y
    have w1 := pky (by omega) y1
    have w3 := pky (by omega) y3
    have G : GL tk (bD 5 (o + 1)) [fstP ra, fstP rb, fstP rc] (p + 1) q5 := Gd.cons a1 (Gd.cons a2 a3.one (by omega) (by omega)) (by omega) (by omega)
    exact G.node (d := (8, plS tk p, 0, 0)) (by show (0 : Int) ≤ 8 ∧ (8 : Int) ≤ 25; decide) (by show ¬ isLq 8; decide) (by unfold bD lvD; rw [if_pos (by decide)]; omega) w0.1 rfl (Int.le_refl _) w0.2 (Int.le_refl _) (Int.le_refl _) (by show (0 : Int) ≤ 0 ∧ (0 : Int) ≤ 999999999; decide) (by show RL 0; decide) (fun z => by exfalso; simp at z) (fun z => by exfalso; simp at z) (.inr (.inr (.inl ⟨rfl, rfl⟩)))
  · rintro md lo lp a p o ra q1 rs q hl ⟨l1, h1⟩ ⟨l2, h2⟩
    refine ⟨by omega, fun p0 o0 => ?_⟩
    have a1 := (h1 p0 o0).2.1 (by unfold lvR at hl; omega)
    have a2 := (h2 (by omega) o0).1 (by unfold lvR at hl; show lp = 11 ∨ lp = 12 ∨ lp = 15 ∨ lp = 16 ∨ lp = 18; omega) p p0
    have fin : lvD lo ≤ lvD lp ∧ lvD lp = lvD md ∧ md < 10 := by rcases hl with ⟨rfl, rfl, rfl⟩ | ⟨rfl, rfl, rfl⟩ | ⟨rfl, rfl, rfl⟩ | ⟨rfl, rfl, rfl⟩ | ⟨rfl, rfl, rfl⟩ <;> decide
    have w := a2 (a1.mono (by unfold bD; omega) (Int.le_refl _) (Int.le_refl _) (Int.le_refl _) (Int.le_refl _))
    refine ⟨fun z => by omega, fun _ => by rw [← fin.2.1]; exact w, fun z => by omega, fun z => by omega⟩
  · rintro lp a p o hl
    exact ⟨Int.le_refl _, fun p0 o0 => ⟨fun _ p1 _ G => G, fun z => by omega, fun z => by omega, fun z => by omega⟩⟩
  · rintro lp lo k a p o rb q1 rs q hl g ⟨l1, h1⟩ ⟨l2, h2⟩
    refine ⟨by omega, fun p0 o0 => ⟨fun hlp p1 p10 G => ?_, fun z => by unfold lpR at hl; omega, fun z => by unfold lpR at hl; omega, fun z => by unfold lpR at hl; omega⟩⟩
    have a1 := (h1 (by omega) o0).2.1 (by unfold lpR at hl; omega)
    have fin : lvD lo + 1 ≤ lvD lp ∧ (k = 9 ∨ k = 10 ∨ 12 ≤ k ∧ k ≤ 21) ∧ (1 ≤ kdS tk p ∧ kdS tk p ≤ 5) := by
      rcases hl with ⟨rfl, rfl, rfl, y⟩ | ⟨rfl, rfl, rfl, y⟩ | ⟨rfl, rfl, y⟩ | ⟨rfl, rfl, y⟩
      · exact ⟨by decide, by decide, ky_kd y⟩
      · exact ⟨by decide, by decide, ky_kd y⟩
      · refine ⟨by decide, by omega, ?_⟩
        rcases y with ⟨-, y⟩ | ⟨-, y⟩ <;> exact sg_kd y
      · refine ⟨by decide, by omega, ?_⟩
        rcases y with ⟨-, y⟩ | ⟨-, y⟩ | ⟨-, y⟩ | ⟨-, y⟩
        · exact sg_kd y
        · exact sg_kd y
        · exact ky_kd y
        · exact ky_kd y
    have w := pl p0 fin.2.2.1 fin.2.2.2
    exact (h2 (by omega) o0).1 hlp p1 p10 (Gd.two G a1 (by unfold bD; omega) fin.2.1 w.1 w.2)
  · rintro md lo a p o rs q hm ⟨l1, h1⟩
    refine ⟨l1, fun p0 o0 => ⟨fun z => by omega, fun _ => ?_, fun z => by omega, fun z => by omega⟩⟩
    have a1 := (h1 p0 o0).2.1 (by omega)
    have fin : lvD lo ≤ lvD md := by rcases hm with ⟨rfl, rfl⟩ | ⟨rfl, rfl⟩ <;> decide
    exact a1.mono (by unfold bD; omega) (Int.le_refl _) (Int.le_refl _) (Int.le_refl _) (Int.le_refl _)
  · rintro md lo k a p o ra q hm g g' ⟨l1, h1⟩
    have hm' : md = 3 ∨ md = 7 := by unfold ahR at hm; omega
    refine ⟨by omega, fun p0 o0 => ⟨fun z => by omega, fun _ => ?_, fun z => by omega, fun z => by omega⟩⟩
    have a1 := (h1 (by omega) (by omega)).2.1 (by omega)
    have fin : (k = 11 ∨ k = 22) ∧ (1 ≤ kdS tk p ∧ kdS tk p ≤ 5) := by
      rcases hm with ⟨-, -, e, y⟩ | ⟨-, -, e, y⟩
      · exact ⟨.inl e, ky_kd y⟩
      · exact ⟨.inr e, sg_kd y⟩
    have w := pl p0 fin.2.1 fin.2.2
    exact a1.one.node (d := (k, plS tk p, 0, 0)) (by show 0 ≤ k ∧ k ≤ 25; omega) (by show ¬ isLq k; unfold isLq; omega) (by unfold bD; omega) w.1 rfl (Int.le_refl _) w.2 (Int.le_refl _) (Int.le_refl _) (by show (0 : Int) ≤ 0 ∧ (0 : Int) ≤ 999999999; decide) (by show RL 0; decide) (fun z => by exfalso; have z' : k = 6 := z; omega) (fun z => by exfalso; have z' : k = 7 := z; omega) (.inr (.inr (.inr (.inr ⟨by show k = 11 ∨ k = 22 ∨ k = 23; omega, rfl⟩))))
  · rintro a p o ra q ⟨l1, h1⟩
    refine ⟨l1, fun p0 o0 => ⟨fun z => by omega, fun _ => ?_, fun z => by omega, fun z => by omega⟩⟩
    have a1 := (h1 p0 o0).2.1 (by decide)
    exact a1.mono (by unfold bD; have : lvD 5 ≤ lvD 4 := (by decide); omega) (Int.le_refl _) (Int.le_refl _) (Int.le_refl _) (Int.le_refl _)
  · rintro a p o ra q k rb q2 ⟨l1, h1⟩ hr g ⟨l2, h2⟩
    refine ⟨by omega, fun p0 o0 => ⟨fun z => by omega, fun _ => ?_, fun z => by omega, fun z => by omega⟩⟩
    have a1 := (h1 p0 o0).2.1 (by decide)
    have a2 := (h2 (by omega) o0).2.1 (by decide)
    have fin : (12 ≤ k ∧ k ≤ 21) ∧ (1 ≤ kdS tk q ∧ kdS tk q ≤ 5) := by
      rcases hr with ⟨e, y⟩ | ⟨e, y⟩ | ⟨e, y⟩ | ⟨e, y⟩ <;> exact ⟨by omega, sg_kd y⟩
    have w := pl (by omega) fin.2.1 fin.2.2
    have e5 : lvD 5 + 1 = lvD 4 := by decide
    exact Gd.two (a1.mono (by unfold bD; omega) (Int.le_refl _) (Int.le_refl _) (Int.le_refl _) (Int.le_refl _)) a2 (by unfold bD; omega) (.inr (.inr fin.1)) w.1 w.2
  · rintro a p o rs q y g k1 g1 ⟨l1, h1⟩
    refine ⟨by omega, fun p0 o0 => ⟨fun hlp p1 p10 G => ?_, fun z => by omega, fun z => by omega, fun z => by omega⟩⟩
    have w := psg p0 y
    have w1 := pl (x := p + 1) (by omega) (by omega) (by omega)
    have v1 : 0 ≤ vlS tk (p + 1) ∧ vlS tk (p + 1) ≤ 999999999 := by
      have k1' : (tk (p + 1)).1 = 1 := k1
      exact (hT (p + 1) (by omega) (by omega) (by omega)).1.2.1 k1'
    rw [show p + 1 + 1 = p + 2 by omega] at w1
    exact (h1 (by omega) o0).1 hlp p1 p10 (Gd.pw G v1 (by unfold bD; have : lvD 18 = 0 := (by decide); omega) w.1 (by omega) (by omega) rfl)
  · rintro a p o b q1 k rs q hk g hb ⟨l1, h1⟩
    have lt1 := pT_lt hb
    refine ⟨by omega, fun p0 o0 => ⟨fun hlp p1 p10 G => ?_, fun z => by omega, fun z => by omega, fun z => by omega⟩⟩
    have gt := pT_ok hT (by omega) hb
    have w := pl p0 (x := p) (by rcases hk with ⟨-, y⟩ | ⟨-, y⟩ <;> exact (sg_kd y).1) (by rcases hk with ⟨-, y⟩ | ⟨-, y⟩ <;> exact (sg_kd y).2)
    exact (h1 (by omega) o0).1 hlp p1 p10 (Gd.cv G gt (by unfold bD; have : lvD 18 = 0 := (by decide); omega) (by omega) w.1 w.2)
  · intro a p o x q h
    have b9 : lvD 9 = 0 := by decide
    have call : ∀ {k v nm q2 : Int} {r : List (List PT)}, 0 ≤ p → 0 ≤ o ∧ o ≤ 12 → (k = 5 ∨ k = 6) → (1 ≤ kdS tk p ∧ kdS tk p ≤ 5) → isSg tk 40 (p + 1) → o ≠ 12 → (p + 2 ≤ q2 ∧ PhiF tk 20 acc0 (p + 2) (o + 1) r q2) → isSg tk 41 q2 → (0 ≤ v ∧ v ≤ 999999999) → RL nm → (k = 6 → v ≤ 13) → Gd tk (bD (lvD 9) o) ((k, plS tk p, v, nm), chT (fstR r)) p (q2 + 1) := by
      intro k v nm q2 r p0 o0 hk kp y1 no hl y2 hv hn h6
      have G := (hl.2 (by omega) (by omega)).2.2.1 rfl
      have w := pl p0 kp.1 kp.2
      have w1 := psg (by omega) y1
      rw [show p + 1 + 1 = p + 2 by omega] at w1
      have w2 := psg (by omega) y2
      refine G.node (d := (k, plS tk p, v, nm)) (by show 0 ≤ k ∧ k ≤ 25; omega) (by show ¬ isLq k; unfold isLq; omega) (by unfold bD; omega) w.1 rfl (by omega) (by omega) (by omega) (by omega) hv hn h6 (fun z => by exfalso; have z' : k = 7 := z; omega) (.inr (.inl ⟨by show 5 ≤ k ∧ k ≤ 7; omega, ?_⟩))
      rw [lenT_ch]
      cases hr : fstR r with
      | nil => exact absurd hr G.1
      | cons _ _ => simp
    rcases h with ⟨k1, g, rfl, rfl⟩ | ⟨k2, g, y1, g1, no, r, q2, hl, y2, g2, rfl, rfl⟩ | ⟨k2, g, rfl, rfl⟩ | ⟨k4, g, y1, g1, no, r, q2, hl, y2, g2, rfl, rfl⟩ | ⟨k3, hv, g, rfl, rfl⟩ | ⟨y, g, no, r, q1, hl, y1, g1, rfl, rfl⟩ | ⟨y, g, no, r, q1, hl, y1, g1, rfl, rfl⟩ | ⟨y, g, k1, g1, rfl, rfl⟩
    · refine ⟨by omega, fun p0 o0 => ⟨fun z => by omega, fun _ => ?_, fun z => by omega, fun z => by omega⟩⟩
      have w := pl p0 (by omega) (by omega)
      have k1' : (tk p).1 = 1 := k1
      have v1 := (hT p p0 (by omega) (by omega)).1.2.1 k1'
      exact Gd.leaf (d := (0, plS tk p, vlS tk p, 0)) (by show (0 : Int) ≤ 0 ∧ (0 : Int) ≤ 4; decide) (by unfold bD; omega) w.1 rfl (Int.le_refl _) w.2 v1 (by show RL 0; decide)
    · refine ⟨by omega, fun p0 o0 => ⟨fun z => by omega, fun _ => ?_, fun z => by omega, fun z => by omega⟩⟩
      have k2' : (tk p).1 = 2 := k2
      exact call p0 o0 (.inl rfl) (by omega) y1 no hl y2 (by decide) ((hT p p0 (by omega) (by omega)).1.2.2.2.2.2.1 k2') (fun z => by omega)
    · refine ⟨by omega, fun p0 o0 => ⟨fun z => by omega, fun _ => ?_, fun z => by omega, fun z => by omega⟩⟩
      have w := pl p0 (by omega) (by omega)
      have k2' : (tk p).1 = 2 := k2
      exact Gd.leaf (d := (4, plS tk p, 0, nmS' tk p)) (by show (0 : Int) ≤ 4 ∧ (4 : Int) ≤ 4; decide) (by unfold bD; omega) w.1 rfl (Int.le_refl _) w.2 (by show (0 : Int) ≤ 0 ∧ (0 : Int) ≤ 999999999; decide) ((hT p p0 (by omega) (by omega)).1.2.2.2.2.2.1 k2')
    · refine ⟨by omega, fun p0 o0 => ⟨fun z => by omega, fun _ => ?_, fun z => by omega, fun z => by omega⟩⟩
      have k4' : (tk p).1 = 4 := k4
      have v4 := ((hT p p0 (by omega) (by omega)).1.2.2.2.1 k4').1
      have v4' : 0 ≤ vlS tk p ∧ vlS tk p ≤ 13 := v4
      exact call p0 o0 (.inr rfl) (by omega) y1 no hl y2 (by omega) (by decide) (fun _ => v4'.2)
    · refine ⟨by omega, fun p0 o0 => ⟨fun z => by omega, fun _ => ?_, fun z => by omega, fun z => by omega⟩⟩
      have w := pl p0 (by omega) (by omega)
      have hk : 0 ≤ (if vlS tk p = 12 then (1 : Int) else 2) ∧ (if vlS tk p = 12 then (1 : Int) else 2) ≤ 4 := by
        by_cases z : vlS tk p = 12
        · rw [if_pos z]; decide
        · rw [if_neg z]; decide
      exact Gd.leaf (d := ((if vlS tk p = 12 then (1 : Int) else 2), plS tk p, 0, 0)) hk (by unfold bD; omega) w.1 rfl (Int.le_refl _) w.2 (by show (0 : Int) ≤ 0 ∧ (0 : Int) ≤ 999999999; decide) (by show RL 0; decide)
    · have hl1 := hl.1
      refine ⟨by omega, fun p0 o0 => ⟨fun z => by omega, fun _ => ?_, fun z => by omega, fun z => by omega⟩⟩
      have w := psg p0 y
      have w1 := psg (by omega) y1
      have G := (hl.2 (by omega) (by omega)).2.1 (by decide)
      have e0 : lvD 0 = 5 := by decide
      exact G.mono (by unfold bD; omega) (by omega) (by omega) (by omega) (by omega)
    · have hl1 := hl.1
      refine ⟨by omega, fun p0 o0 => ⟨fun z => by omega, fun _ => ?_, fun z => by omega, fun z => by omega⟩⟩
      have w := psg p0 y
      have w1 := psg (by omega) y1
      have G := (hl.2 (by omega) (by omega)).2.2.2 rfl
      have rb := rowsN_bd r
      refine G.2.node (d := (7, plS tk p, rowsN r, 0)) (by show (0 : Int) ≤ 7 ∧ (7 : Int) ≤ 25; decide) (by show ¬ isLq 7; decide) (by unfold bD; omega) w.1 rfl (by omega) (by omega) (by omega) (by omega) (by show 0 ≤ rowsN r ∧ rowsN r ≤ 999999999; omega) (by show RL 0; decide) (fun z => by exfalso; simp at z) (fun _ => ⟨rb.1.2, fun z => by rw [lenT_ch]; exact rb.2 z⟩) (.inr (.inl ⟨by show (5 : Int) ≤ 7 ∧ (7 : Int) ≤ 7; decide, ?_⟩))
      rw [lenT_ch]
      cases hr : r.flatten with
      | nil => exact absurd hr G.2.1
      | cons _ _ => simp
    · refine ⟨by omega, fun p0 o0 => ⟨fun z => by omega, fun _ => ?_, fun z => by omega, fun z => by omega⟩⟩
      have w := psg p0 y
      have w1 := pl (x := p + 1) (by omega) (by omega) (by omega)
      rw [show p + 1 + 1 = p + 2 by omega] at w1
      have k1' : (tk (p + 1)).1 = 1 := k1
      have v1 := (hT (p + 1) (by omega) (by omega) (by omega)).1.2.1 k1'
      exact Gd.leaf (d := (3, plS tk p, vlS tk (p + 1), 0)) (by show (0 : Int) ≤ 3 ∧ (3 : Int) ≤ 4; decide) (by unfold bD; omega) w.1 rfl (by omega) (by omega) v1 (by show RL 0; decide)
  · rintro a p o r q ⟨l1, h1⟩
    refine ⟨l1, fun p0 o0 => ⟨fun z => by omega, fun z => by omega, fun _ => ?_, fun z => by omega⟩⟩
    exact ((h1 p0 o0).2.1 (by decide)).one
  · rintro a p o r q r2 q2 ⟨l1, h1⟩ y g ⟨l2, h2⟩
    refine ⟨by omega, fun p0 o0 => ⟨fun z => by omega, fun z => by omega, fun _ => ?_, fun z => by omega⟩⟩
    have w := psg (by omega) y
    exact Gd.cons ((h1 p0 o0).2.1 (by decide)) ((h2 (by omega) o0).2.2.1 rfl) (by omega) (by omega)
  · rintro a p o r q y g g' ⟨l1, h1⟩ y1 g1
    refine ⟨by omega, fun p0 o0 => ⟨fun z => by omega, fun z => by omega, fun z => by omega, fun _ => ?_⟩⟩
    have w := psg p0 y
    have w1 := psg (by omega) y1
    have G := (h1 (by omega) (by omega)).2.2.1 rfl
    refine ⟨⟨by simp, fun x hx => ?_⟩, ?_⟩
    · rw [List.mem_singleton] at hx; rw [hx]; exact G.1
    · have e : ([fstR r] : List (List PT)).flatten = fstR r := by simp
      rw [e]
      exact G.mono (Int.le_refl _) (by omega) (by omega) (by omega) (by omega)
  · rintro a p o r q rs q4 y g g' ⟨l1, h1⟩ y1 g1 y2 g2 ⟨l2, h2⟩
    refine ⟨by omega, fun p0 o0 => ⟨fun z => by omega, fun z => by omega, fun z => by omega, fun _ => ?_⟩⟩
    have w := psg p0 y
    have w1 := psg (by omega) y1
    have w2 := psg (by omega) y2
    rw [show q + 1 + 1 = q + 2 by omega] at w2
    have G := (h1 (by omega) (by omega)).2.2.1 rfl
    have G2 := (h2 (by omega) o0).2.2.2 rfl
    refine ⟨⟨by simp, fun x hx => ?_⟩, ?_⟩
    · rcases List.mem_cons.1 hx with rfl | hx
      · exact G.1
      · exact G2.1.2 x hx
    · rw [List.flatten_cons]
      exact GL.app (G.mono (Int.le_refl _) (by omega) (by omega) (Int.le_refl _) (Int.le_refl _)) G2.2 (by omega) (by omega)
end PARF3
