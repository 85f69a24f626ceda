set_option maxRecDepth 100000
/-! how many values a part's working piles up, on the model's side -/
noncomputable def wND (d : ND) (n : Nat) (x : Nat × Nat × Nat) : Nat := max 1 (@ite _ (badA d n) (Classical.propDecidable _) 0 (if d.1 = 8 ∨ d.1 = 9 ∨ d.1 = 10 then x.2.1 else if d.1 = 24 ∨ d.1 = 25 then x.2.2 else if d.1 = 7 then 1 + x.2.1 else x.1))
/-- of a chain: one behind another, each for itself, the first -/
noncomputable def nwT : TT → Nat × Nat × Nat
  | .leaf => (0, 0, 0)
  | .inner _ d _ c s => (max (wND d (lenT c) (nwT c)) (1 + (nwT s).1), max (wND d (lenT c) (nwT c)) (nwT s).2.1, wND d (lenT c) (nwT c))
noncomputable def wT (a : PT) : Nat := wND a.1 (lenT a.2) (nwT a.2)
def kcW (md : Nat) : Int := if md = 5 ∨ md = 15 then 11 else if md = 6 ∨ md = 16 then 9 else if md = 7 ∨ md = 8 ∨ md = 9 ∨ md = 18 then 7 else 13
section NEEDW
variable {tk : Int → TK}
theorem wT_pos (a : PT) : 1 ≤ wT a := by unfold wT wND; omega
theorem nw_ch : ∀ (ps : List PT) (M : Nat), (∀ x, x ∈ ps → wT x ≤ M) → (nwT (chT ps)).1 + 1 ≤ ps.length + max M 1 ∧ (nwT (chT ps)).2.1 ≤ M ∧ (nwT (chT ps)).2.2 ≤ M := by
  intro ps M
  induction ps with
  | nil => intro _; show 0 + 1 ≤ 0 + max M 1 ∧ 0 ≤ M ∧ 0 ≤ M; omega
  | cons p ps ih =>
    intro h
    have h1 := h p (by simp)
    have h2 := ih (fun x hx => h x (List.mem_cons_of_mem _ hx))
    show max (wT p) (1 + (nwT (chT ps)).1) + 1 ≤ ps.length + 1 + max M 1 ∧ max (wT p) (nwT (chT ps)).2.1 ≤ M ∧ wT p ≤ M
    omega
theorem ww_leaf {d : ND} (h7 : d.1 ≠ 7) : wT (d, lf) = 1 := by
  unfold wT wND
  show max 1 (@ite _ (badA d 0) (Classical.propDecidable _) 0 (if d.1 = 8 ∨ d.1 = 9 ∨ d.1 = 10 then 0 else if d.1 = 24 ∨ d.1 = 25 then 0 else if d.1 = 7 then 1 + 0 else 0)) = 1
  rw [if_neg h7]
  have : (if d.1 = 8 ∨ d.1 = 9 ∨ d.1 = 10 then 0 else if d.1 = 24 ∨ d.1 = 25 then 0 else 0) = 0 := by
    split
    · rfl
    · split <;> rfl
  rw [this]
  have : (@ite _ (badA d 0) (Classical.propDecidable _) 0 0 : Nat) = 0 := by split <;> rfl
  rw [this]; rfl
theorem ww_two {k w v u : Int} {a b : PT} (hk : 12 ≤ k ∧ k ≤ 21) : wT ((k, w, v, u), chT [a, b]) = max (wT a) (1 + wT b) := by
  have pa := wT_pos a
  have pb := wT_pos b
  show max 1 (@ite _ (badA (k, w, v, u) 2) (Classical.propDecidable _) 0 (if k = 8 ∨ k = 9 ∨ k = 10 then _ else if k = 24 ∨ k = 25 then _ else if k = 7 then _ else max (wT a) (1 + max (wT b) (1 + 0)))) = _
  rw [if_neg (by unfold badA; simp only; omega), if_neg (by omega), if_neg (by omega), if_neg (by omega)]
  omega
theorem ww_one {k w v u : Int} {a : PT} (hk : k = 11 ∨ k = 22 ∨ k = 23) : wT ((k, w, v, u), chT [a]) = wT a := by
  have pa := wT_pos a
  show max 1 (@ite _ (badA (k, w, v, u) 1) (Classical.propDecidable _) 0 (if k = 8 ∨ k = 9 ∨ k = 10 then _ else if k = 24 ∨ k = 25 then _ else if k = 7 then _ else max (wT a) (1 + 0))) = _
  rw [if_neg (by unfold badA; simp only; omega), if_neg (by omega), if_neg (by omega), if_neg (by omega)]
  omega
theorem ww_bool {k w v u : Int} {a b : PT} (hk : k = 9 ∨ k = 10) : wT ((k, w, v, u), chT [a, b]) = max (wT a) (wT b) := by
  have pa := wT_pos a
  have pb := wT_pos b
  show max 1 (@ite _ (badA (k, w, v, u) 2) (Classical.propDecidable _) 0 (if k = 8 ∨ k = 9 ∨ k = 10 then max (wT a) (max (wT b) 0) else _)) = _
  rw [if_neg (by unfold badA; simp only; omega), if_pos (by omega)]
  omega
theorem ww_cv {k w v u : Int} {a b : PT} (hk : k = 24 ∨ k = 25) : wT ((k, w, v, u), chT [a, b]) = wT a := by
  have pa := wT_pos a
  show max 1 (@ite _ (badA (k, w, v, u) 2) (Classical.propDecidable _) 0 (if k = 8 ∨ k = 9 ∨ k = 10 then _ else if k = 24 ∨ k = 25 then wT a else _)) = _
  rw [if_neg (by unfold badA; simp only; omega), if_neg (by omega), if_pos (by omega)]
  omega
theorem ww_if {w v u : Int} {a b c : PT} : wT ((8, w, v, u), chT [a, b, c]) = max (wT a) (max (wT b) (wT c)) := by
  have pa := wT_pos a
  show max 1 (@ite _ (badA (8, w, v, u) 3) (Classical.propDecidable _) 0 (if (8 : Int) = 8 ∨ (8 : Int) = 9 ∨ (8 : Int) = 10 then max (wT a) (max (wT b) (max (wT c) 0)) else _)) = _
  rw [if_neg (by unfold badA; simp only; omega), if_pos (by decide)]
  omega
/-- of a list, accumulated -/
theorem ww_acc {d : ND} {ps : List PT} {M : Nat} (hM : 1 ≤ M) (hp : ps ≠ []) (h : ∀ x, x ∈ ps → wT x ≤ M) (hk : d.1 = 5 ∨ d.1 = 6 ∨ d.1 = 7) : wT (d, chT ps) = 1 ∨ (¬ badA d ps.length ∧ (d.1 ≠ 7 → wT (d, chT ps) + 1 ≤ ps.length + M) ∧ (d.1 = 7 → wT (d, chT ps) ≤ 1 + M)) := by
  have n := nw_ch ps M h
  unfold wT wND
  show max 1 (@ite _ (badA d (lenT (chT ps))) (Classical.propDecidable _) 0 (if d.1 = 8 ∨ d.1 = 9 ∨ d.1 = 10 then _ else if d.1 = 24 ∨ d.1 = 25 then _ else if d.1 = 7 then 1 + (nwT (chT ps)).2.1 else (nwT (chT ps)).1)) = 1 ∨ _ ∧ (_ → max 1 (@ite _ (badA d (lenT (chT ps))) (Classical.propDecidable _) 0 (if d.1 = 8 ∨ d.1 = 9 ∨ d.1 = 10 then _ else if d.1 = 24 ∨ d.1 = 25 then _ else if d.1 = 7 then 1 + (nwT (chT ps)).2.1 else (nwT (chT ps)).1)) + 1 ≤ _) ∧ (_ → max 1 (@ite _ (badA d (lenT (chT ps))) (Classical.propDecidable _) 0 (if d.1 = 8 ∨ d.1 = 9 ∨ d.1 = 10 then _ else if d.1 = 24 ∨ d.1 = 25 then _ else if d.1 = 7 then 1 + (nwT (chT ps)).2.1 else (nwT (chT ps)).1)) ≤ _)
  rw [lenT_ch]
  have hl : 1 ≤ ps.length := by
    cases ps with
    | nil => exact absurd rfl hp
    | cons a l => rw [List.length_cons]; omega
  by_cases c : badA d ps.length
  · rw [if_pos c]; exact .inl rfl
  · rw [if_neg c, if_neg (by omega), if_neg (by omega)]
    refine .inr ⟨c, fun q => ?_, fun q => ?_⟩
    · rw [if_neg q]; omega
    · rw [if_pos q]; omega
def PhW (md : Nat) (a : PT) (p : Int) (rs : List (List PT)) (q : Int) : Prop := p ≤ q ∧ (md < 10 → p < q) ∧
  (isLp md → ∀ p0, p0 < p → 12 * (wT a : Int) ≤ 5 * (p - p0) + kcW md → 12 * (wT (fstP rs) : Int) ≤ 5 * (q - p0) + kcW md) ∧
  (md < 10 → 12 * (wT (fstP rs) : Int) ≤ 5 * (q - p) + kcW md) ∧
  (md = 20 → fstR rs ≠ [] ∧ 2 * ((fstR rs).length : Int) - 1 ≤ q - p ∧ ∀ x, x ∈ fstR rs → 12 * (wT x : Int) ≤ 5 * (q - p - 2 * ((fstR rs).length : Int) + 2) + 13) ∧
  (md = 22 → rs.flatten ≠ [] ∧ 2 * (rs.flatten.length : Int) + 2 * (rs.length : Int) - 1 ≤ q - p ∧ ∀ x, x ∈ rs.flatten → 12 * (wT x : Int) ≤ 5 * (q - p - 2 * (rs.flatten.length : Int) - 2 * (rs.length : Int) + 2) + 13)
theorem kw_cs : kcW 0 = 13 ∧ kcW 1 = 13 ∧ kcW 2 = 13 ∧ kcW 3 = 13 ∧ kcW 4 = 13 ∧ kcW 11 = 13 ∧ kcW 12 = 13 ∧ kcW 5 = 11 ∧ kcW 15 = 11 ∧ kcW 6 = 9 ∧ kcW 16 = 9 ∧ kcW 7 = 7 ∧ kcW 8 = 7 ∧ kcW 9 = 7 ∧ kcW 18 = 7 := by decide
/-- the greatest of a list -/
theorem ww_max : ∀ (ps : List PT), ps ≠ [] → ∃ x, x ∈ ps ∧ ∀ y, y ∈ ps → wT y ≤ wT x := by
  intro ps
  induction ps with
  | nil => intro h; exact absurd rfl h
  | cons p ps ih =>
    intro _
    by_cases c : ps = []
    · subst c
      exact ⟨p, by simp, fun y hy => by simp at hy; rw [hy]; exact Nat.le_refl _⟩
    · obtain ⟨x, h1, h2⟩ := ih c
      by_cases g : wT p ≤ wT x
      · refine ⟨x, List.mem_cons_of_mem _ h1, fun y hy => ?_⟩
        rcases List.mem_cons.1 hy with rfl | hy
        · exact g
        · exact h2 y hy
      · refine ⟨p, by simp, fun y hy => ?_⟩
        rcases List.mem_cons.1 hy with rfl | hy
        · exact Nat.le_refl _
        · have := h2 y hy; omega
theorem pS_needW {f md : Nat} {a : PT} {p o : Int} {rs : List (List PT)} {q : Int} (h : pS tk f md a p o = .ok (rs, q)) : PhW md a p rs q := by
  obtain ⟨k0, k1, k2, k3, k4, k11, k12, k5, k15, k6, k16, k7, k8, k9, k18⟩ := kw_cs
  refine pS_ind (tk := tk) (Φ := fun md a p o rs q => PhW md a p rs q) ?_ ?_ ?_ ?_ ?_ ?_ ?_ ?_ ?_ ?_ ?_ ?_ ?_ ?_ ?_ ?_ f md a p o rs q h
  · rintro a p o rs q _ ⟨h1, h2, h3, h4, h5, h6⟩
    refine ⟨h1, fun _ => h2 (by decide), fun z => by unfold isLp at z; omega, fun _ => ?_, fun z => by omega, fun z => by omega⟩
    have := h4 (by decide)
    rw [k1] at this; rw [k0]; exact this
  · rintro a p o ra q1 rb q3 rc q5 y g g' ⟨a1, a2, -, a4, -⟩ y1 g1 ⟨b1, b2, -, b4, -⟩ y3 g3 ⟨c1, c2, -, c4, -⟩
    refine ⟨by omega, fun _ => by omega, fun z => by unfold isLp at z; omega, fun _ => ?_, fun z => by omega, fun z => by omega⟩
    have u1 := a4 (by decide)
    have u2 := b4 (by decide)
    have u3 := c4 (by decide)
    rw [k0] at u1 u2 u3
    show 12 * (wT ((8, plS tk p, 0, 0), chT [fstP ra, fstP rb, fstP rc]) : Int) ≤ _
    rw [ww_if, k0]
    omega
  · rintro md lo lp a p o ra q1 rs q hl ⟨a1, a2, a3, a4, -⟩ ⟨b1, b2, b3, b4, -⟩
    have lo10 : lo < 10 ∧ md < 10 ∧ isLp lp := by unfold lvR at hl; unfold isLp; omega
    have u1 := a4 lo10.1
    have u2 := a2 lo10.1
    refine ⟨by omega, fun _ => by omega, fun z => by unfold isLp at z; omega, fun _ => ?_, fun z => by omega, fun z => by omega⟩
    have kk : kcW lo ≤ kcW lp ∧ kcW lp = kcW md := by
      rcases hl with ⟨rfl, rfl, rfl⟩ | ⟨rfl, rfl, rfl⟩ | ⟨rfl, rfl, rfl⟩ | ⟨rfl, rfl, rfl⟩ | ⟨rfl, rfl, rfl⟩ <;> decide
    have := b3 lo10.2.2 p u2 (by omega)
    rw [kk.2] at this
    exact this
  · rintro lp a p o hl
    exact ⟨Int.le_refl _, fun z => by omega, fun _ p0 _ G => G, fun z => by omega, fun z => by omega, fun z => by omega⟩
  · rintro lp lo k a p o rb q1 rs q hl g ⟨a1, a2, -, a4, -⟩ ⟨b1, b2, b3, -⟩
    have lo10 : lo < 10 ∧ isLp lp := by unfold lpR at hl; unfold isLp; omega
    have u1 := a4 lo10.1
    have u2 := a2 lo10.1
    refine ⟨by omega, fun z => by unfold lpR at hl; omega, fun hlp p0 hp0 G => ?_, fun z => by unfold lpR at hl; omega, fun z => by unfold lpR at hl; omega, fun z => by unfold lpR at hl; omega⟩
    refine b3 hlp p0 (by omega) ?_
    have kk : (kcW lp = 13 ∧ kcW lo = 13 ∧ (k = 9 ∨ k = 10)) ∨ (kcW lp = kcW lo + 2 ∧ (12 ≤ k ∧ k ≤ 21)) := by
      rcases hl with ⟨rfl, rfl, rfl, -⟩ | ⟨rfl, rfl, rfl, -⟩ | ⟨rfl, rfl, y⟩ | ⟨rfl, rfl, y⟩
      · exact .inl ⟨by decide, by decide, .inl rfl⟩
      · exact .inl ⟨by decide, by decide, .inr rfl⟩
      · exact .inr ⟨by decide, by omega⟩
      · exact .inr ⟨by decide, by omega⟩
    rcases kk with ⟨e1, e2, e3⟩ | ⟨e1, e2⟩
    · rw [ww_bool e3]; omega
    · rw [ww_two e2]; omega
  · rintro md lo a p o rs q hm ⟨h1, h2, h3, h4, h5, h6⟩
    have kk : kcW lo = kcW md ∧ lo < 10 ∧ md < 10 := by rcases hm with ⟨rfl, rfl⟩ | ⟨rfl, rfl⟩ <;> decide
    refine ⟨h1, fun _ => h2 kk.2.1, fun z => by unfold isLp at z; omega, fun _ => ?_, fun z => by omega, fun z => by omega⟩
    have := h4 kk.2.1
    rw [← kk.1]; exact this
  · rintro md lo k a p o ra q hm g g' ⟨h1, h2, h3, h4, h5, h6⟩
    have kk : md < 10 ∧ (k = 11 ∨ k = 22 ∨ k = 23) := by unfold ahR at hm; omega
    refine ⟨by omega, fun _ => by omega, fun z => by unfold isLp at z; omega, fun _ => ?_, fun z => by omega, fun z => by omega⟩
    have := h4 kk.1
    show 12 * (wT ((k, plS tk p, 0, 0), chT [fstP ra]) : Int) ≤ _
    rw [ww_one kk.2]
    omega
  · rintro a p o ra q ⟨h1, h2, h3, h4, h5, h6⟩
    refine ⟨h1, fun _ => h2 (by decide), fun z => by unfold isLp at z; omega, fun _ => ?_, fun z => by omega, fun z => by omega⟩
    have := h4 (by decide)
    rw [k5] at this; rw [k4]
    show 12 * (wT (fstP ra) : Int) ≤ _
    omega
  · rintro a p o ra q k rb q2 ⟨a1, a2, -, a4, -⟩ hr g ⟨b1, b2, -, b4, -⟩
    have kk : 12 ≤ k ∧ k ≤ 21 := by unfold rlR at hr; omega
    have u1 := a4 (by decide)
    have u2 := b4 (by decide)
    have u3 := a2 (by decide)
    refine ⟨by omega, fun _ => by omega, fun z => by unfold isLp at z; omega, fun _ => ?_, fun z => by omega, fun z => by omega⟩
    show 12 * (wT ((k, plS tk q, 0, 0), chT [fstP ra, fstP rb]) : Int) ≤ _
    rw [ww_two kk, k4]
    rw [k5] at u1 u2
    omega
  · rintro a p o rs q y g ky g1 ⟨h1, h2, h3, -⟩
    refine ⟨by omega, fun z => by omega, fun hlp p0 hp0 G => ?_, fun z => by omega, fun z => by omega, fun z => by omega⟩
    refine h3 hlp p0 (by omega) ?_
    rw [ww_one (.inr (.inr rfl))]
    omega
  · rintro a p o b q1 k rs q hk g hT ⟨h1, h2, h3, -⟩
    have := pT_lt hT
    refine ⟨by omega, fun z => by omega, fun hlp p0 hp0 G => ?_, fun z => by omega, fun z => by omega, fun z => by omega⟩
    refine h3 hlp p0 (by omega) ?_
    rw [ww_cv (by omega)]
    omega
  · rintro a p o x q h
    have fin : p < q ∧ 12 * (wT x : Int) ≤ 5 * (q - p) + 7 := by
      have lst : ∀ {d : ND} {r : List (List PT)} {q1 q2 : Int}, PhW 20 acc0 q1 r q2 → (d.1 = 5 ∨ d.1 = 6) → 12 * (wT (d, chT (fstR r)) : Int) ≤ 5 * (q2 - q1 + 3) + 7 := by
        intro d r q1 q2 H hd
        obtain ⟨l1, -, -, -, l5, -⟩ := H
        obtain ⟨n1, n2, n3⟩ := l5 rfl
        obtain ⟨y, m1, m2⟩ := ww_max _ n1
        have b := n3 y m1
        rcases ww_acc (d := d) (wT_pos y) n1 m2 (by omega) with e | ⟨e1, e2⟩
        · rw [e]; omega
        · have e2 := e2.1 (by omega)
          unfold badA at e1; omega
      rcases h with h | ⟨a1, a2, a3, a4, a5, r, q2, a6, a7⟩ | h | ⟨a1, a2, a3, a4, a5, r, q2, a6, a7⟩ | h | ⟨a1, a2, a3, r, q1, a4, a5⟩ | ⟨a1, a2, a3, r, q1, a4, a5⟩ | h
      · obtain ⟨-, -, rfl, rfl⟩ := h
        rw [ww_leaf (by show _ ≠ (7 : Int); simp only; omega)]; omega
      · obtain ⟨-, -, rfl, rfl⟩ := a7
        have l1 := a6.1
        have := lst (d := (5, plS tk p, 0, nmS' tk p)) a6 (.inl rfl)
        refine ⟨by omega, by rw [show q2 + 1 - p = q2 - (p + 2) + 3 by omega]; exact this⟩
      · obtain ⟨-, -, rfl, rfl⟩ := h
        rw [ww_leaf (by show _ ≠ (7 : Int); simp only; omega)]; omega
      · obtain ⟨-, -, rfl, rfl⟩ := a7
        have l1 := a6.1
        have := lst (d := (6, plS tk p, vlS tk p, 0)) a6 (.inr rfl)
        refine ⟨by omega, by rw [show q2 + 1 - p = q2 - (p + 2) + 3 by omega]; exact this⟩
      · obtain ⟨-, -, -, rfl, rfl⟩ := h
        rw [ww_leaf (by show _ ≠ (7 : Int); simp only; omega)]; omega
      · obtain ⟨-, -, rfl, rfl⟩ := a5
        obtain ⟨l1, l2, -, l4, -⟩ := a4
        have u := l4 (by decide)
        rw [k0] at u
        omega
      · obtain ⟨-, -, rfl, rfl⟩ := a5
        obtain ⟨l1, -, -, -, -, l6⟩ := a4
        obtain ⟨n1, n2, n3⟩ := l6 rfl
        obtain ⟨y, m1, m2⟩ := ww_max _ n1
        have b := n3 y m1
        refine ⟨by omega, ?_⟩
        rcases ww_acc (d := (7, plS tk p, rowsN r, 0)) (wT_pos y) n1 m2 (.inr (.inr rfl)) with e | ⟨e1, e2⟩
        · rw [e]; omega
        · have e3 := e2.2 rfl
          have f1 : 1 ≤ r.flatten.length := by
            cases hr : r.flatten with
            | nil => exact absurd hr n1
            | cons a l => rw [List.length_cons]; omega
          have f2 : 1 ≤ r.length := by
            cases hr : r with
            | nil => rw [hr] at f1; exact absurd f1 (by decide)
            | cons a l => rw [List.length_cons]; omega
          clear n3 m2 l6 e2
          generalize wT ((7, plS tk p, rowsN r, 0), chT r.flatten) = V at e3 ⊢
          omega
      · obtain ⟨-, -, -, -, rfl, rfl⟩ := h
        rw [ww_leaf (by show _ ≠ (7 : Int); simp only; omega)]; omega
    exact ⟨by omega, fun _ => fin.1, fun z => by unfold isLp at z; omega, fun _ => by rw [k9]; exact fin.2, fun z => by omega, fun z => by omega⟩
  · rintro a p o r q ⟨h1, h2, h3, h4, -⟩
    have u := h4 (by decide)
    have u2 := h2 (by decide)
    rw [k0] at u
    refine ⟨h1, fun z => by omega, fun z => by unfold isLp at z; omega, fun z => by omega, fun _ => ⟨by show [fstP r] ≠ []; simp, ?_, fun x hx => ?_⟩, fun z => by omega⟩
    · show 2 * (([fstP r] : List PT).length : Int) - 1 ≤ q - p
      rw [List.length_singleton]; omega
    · have hx : x ∈ [fstP r] := hx
      rw [List.mem_singleton] at hx
      rw [hx]
      show 12 * (wT (fstP r) : Int) ≤ 5 * (q - p - 2 * (([fstP r] : List PT).length : Int) + 2) + 13
      rw [List.length_singleton]; omega
  · rintro a p o r q r2 q2 ⟨a1, a2, a3, a4, -⟩ y g ⟨b1, b2, b3, b4, b5, -⟩
    have u := a4 (by decide)
    have u2 := a2 (by decide)
    rw [k0] at u
    obtain ⟨n1, n2, n3⟩ := b5 rfl
    have el : ((fstP r :: fstR r2 : List PT).length : Int) = ((fstR r2).length : Int) + 1 := by rw [List.length_cons]; omega
    refine ⟨by omega, fun z => by omega, fun z => by unfold isLp at z; omega, fun z => by omega, fun _ => ⟨by show fstP r :: fstR r2 ≠ []; simp, ?_, fun x hx => ?_⟩, fun z => by omega⟩
    · show 2 * ((fstP r :: fstR r2 : List PT).length : Int) - 1 ≤ q2 - p
      rw [el]; omega
    · have hx : x ∈ fstP r :: fstR r2 := hx
      show 12 * (wT x : Int) ≤ 5 * (q2 - p - 2 * ((fstP r :: fstR r2 : List PT).length : Int) + 2) + 13
      rw [el]
      rcases List.mem_cons.1 hx with rfl | hx
      · omega
      · have := n3 x hx
        omega
  · rintro a p o r q y g g' ⟨b1, b2, b3, b4, b5, -⟩ y2 g2
    obtain ⟨n1, n2, n3⟩ := b5 rfl
    have ef : [fstR r].flatten = fstR r := by simp
    refine ⟨by omega, fun z => by omega, fun z => by unfold isLp at z; omega, fun z => by omega, fun z => by omega, fun _ => ?_⟩
    rw [ef, List.length_singleton]
    exact ⟨n1, by omega, fun x hx => by have := n3 x hx; omega⟩
  · rintro a p o r q rs q4 y g g' ⟨b1, b2, b3, b4, b5, -⟩ y2 g2 y3 g3 ⟨c1, c2, c3, c4, -, c6⟩
    obtain ⟨n1, n2, n3⟩ := b5 rfl
    obtain ⟨w1, w2, w3⟩ := c6 rfl
    have ef : (fstR r :: rs).flatten = fstR r ++ rs.flatten := List.flatten_cons ..
    refine ⟨by omega, fun z => by omega, fun z => by unfold isLp at z; omega, fun z => by omega, fun z => by omega, fun _ => ?_⟩
    rw [ef, List.length_append, List.length_cons]
    refine ⟨fun z => n1 (List.append_eq_nil_iff.1 z).1, by omega, fun x hx => ?_⟩
    rcases List.mem_append.1 hx with hx | hx
    · have := n3 x hx; omega
    · have := w3 x hx; omega
end NEEDW
