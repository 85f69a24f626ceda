set_option maxRecDepth 100000
/-! the parser's specification: the induction -/
section PARI2
variable {tk : Int → TK}
theorem atR.mp {Ψ Φ : Nat → PT → Int → Int → List (List PT) → Int → Prop} (ih : ∀ md a p o rs q, Ψ md a p o rs q → Φ md a p o rs q) {p o : Int} {a : PT} {q : Int} (h : atR tk Ψ p o a q) : atR tk Φ p o a q := by
  rcases h with h | ⟨a1, a2, a3, a4, a5, r, q2, a6, a7⟩ | h | ⟨a1, a2, a3, a4, a5, r, q2, a6, a7⟩ | h | ⟨a1, a2, a3, r, q1, a4, a5⟩ | ⟨a1, a2, a3, r, q1, a4, a5⟩ | h
  · exact .inl h
  · exact .inr (.inl ⟨a1, a2, a3, a4, a5, r, q2, ih _ _ _ _ _ _ a6, a7⟩)
  · exact .inr (.inr (.inl h))
  · exact .inr (.inr (.inr (.inl ⟨a1, a2, a3, a4, a5, r, q2, ih _ _ _ _ _ _ a6, a7⟩)))
  · exact .inr (.inr (.inr (.inr (.inl h))))
  · exact .inr (.inr (.inr (.inr (.inr (.inl ⟨a1, a2, a3, r, q1, ih _ _ _ _ _ _ a4, a5⟩)))))
  · exact .inr (.inr (.inr (.inr (.inr (.inr (.inl ⟨a1, a2, a3, r, q1, ih _ _ _ _ _ _ a4, a5⟩))))))
  · exact .inr (.inr (.inr (.inr (.inr (.inr (.inr h))))))
theorem pS_ind {Φ : Nat → PT → Int → Int → List (List PT) → Int → Prop}
    (c0 : ∀ a p o rs q, ¬ isKy tk 0 p → Φ 1 acc0 p o rs q → Φ 0 a p o rs q)
    (c0i : ∀ a p o ra q1 rb q3 rc q5, isKy tk 0 p → p < 150 → o ≠ 12 → Φ 0 acc0 (p + 1) (o + 1) ra q1 → isKy tk 1 q1 → q1 < 150 → Φ 0 acc0 (q1 + 1) (o + 1) rb q3 → isKy tk 2 q3 → q3 < 150 → Φ 0 acc0 (q3 + 1) (o + 1) rc q5 → Φ 0 a p o [[((8, plS tk p, 0, 0), chT [fstP ra, fstP rb, fstP rc])]] q5)
    (clv : ∀ md lo lp a p o ra q1 rs q, lvR md lo lp → Φ lo acc0 p o ra q1 → Φ lp (fstP ra) q1 o rs q → Φ md a p o rs q)
    (cle : ∀ lp a p o, (lp = 11 ∨ lp = 12 ∨ lp = 15 ∨ lp = 16 ∨ lp = 18) → Φ lp a p o [[a]] p)
    (clp : ∀ lp lo k a p o rb q1 rs q, lpR tk lp lo k p → p < 150 → Φ lo acc0 (p + 1) o rb q1 → Φ lp ((k, plS tk p, 0, 0), chT [a, fstP rb]) q1 o rs q → Φ lp a p o rs q)
    (cah0 : ∀ md lo a p o rs q, (md = 3 ∧ lo = 4 ∨ md = 7 ∧ lo = 8) → Φ lo acc0 p o rs q → Φ md a p o rs q)
    (cah : ∀ md lo k a p o ra q, ahR tk md lo k p → p < 150 → o ≠ 12 → Φ md acc0 (p + 1) (o + 1) ra q → Φ md a p o [[((k, plS tk p, 0, 0), chT [fstP ra])]] q)
    (crl0 : ∀ a p o ra q, Φ 5 acc0 p o ra q → Φ 4 a p o [[fstP ra]] q)
    (crl : ∀ a p o ra q k rb q2, Φ 5 acc0 p o ra q → rlR tk k q → q < 150 → Φ 5 acc0 (q + 1) o rb q2 → Φ 4 a p o [[((k, plS tk q, 0, 0), chT [fstP ra, fstP rb])]] q2)
    (cpw : ∀ a p o rs q, isSg tk 94 p → p < 150 → kdS tk (p + 1) = 1 → p + 1 < 150 → Φ 18 ((23, plS tk p, vlS tk (p + 1), 0), chT [a]) (p + 2) o rs q → Φ 18 a p o rs q)
    (ccv : ∀ a p o b q1 k rs q, (k = 24 ∧ isSg tk 130 p ∨ k = 25 ∧ isSg tk 33 p) → p < 150 → pT tk 16 (p + 1) o = .ok (b, q1) → Φ 18 ((k, plS tk p, 0, 0), chT [a, b]) q1 o rs q → Φ 18 a p o rs q)
    (cat : ∀ a p o x q, atR tk Φ p o x q → Φ 9 a p o [[x]] q)
    (cli : ∀ a p o r q, Φ 0 acc0 p o r q → Φ 20 a p o [[fstP r]] q)
    (cli2 : ∀ a p o r q r2 q2, Φ 0 acc0 p o r q → isSg tk 44 q → q < 150 → Φ 20 acc0 (q + 1) o r2 q2 → Φ 20 a p o [fstP r :: fstR r2] q2)
    (crw : ∀ a p o r q, isSg tk 91 p → p < 150 → o ≠ 12 → Φ 20 acc0 (p + 1) (o + 1) r q → isSg tk 93 q → q < 150 → Φ 22 a p o [fstR r] (q + 1))
    (crw2 : ∀ a p o r q rs q4, isSg tk 91 p → p < 150 → o ≠ 12 → Φ 20 acc0 (p + 1) (o + 1) r q → isSg tk 93 q → q < 150 → isSg tk 44 (q + 1) → q + 1 < 150 → Φ 22 acc0 (q + 2) o rs q4 → Φ 22 a p o (fstR r :: rs) q4) :
    ∀ (f md : Nat) (a : PT) (p o : Int) (rs : List (List PT)) (q : Int), pS tk f md a p o = .ok (rs, q) → Φ md a p o rs q := by
  intro f
  induction f with
  | zero => intro md a p o rs q h; unfold pS at h; cases h
  | succ f ih =>
    intro md a p o rs q h
    have hlv : ∀ {md lo lp : Nat}, lvR md lo lp → bLev (pS tk f) lo lp p o = .ok (rs, q) → Φ md a p o rs q := by
      intro md lo lp hl h
      obtain ⟨ra, q1, h1, h2⟩ := lv_bd h
      exact clv _ _ _ _ _ _ _ _ _ _ hl (ih _ _ _ _ _ _ h1) (ih _ _ _ _ _ _ h2)
    have hlp : ∀ {lp lo : Nat} {k : Int}, (lp = 11 ∨ lp = 12 ∨ lp = 15 ∨ lp = 16 ∨ lp = 18) → (k ≠ -1 → lpR tk lp lo k p) → bLoop tk (pS tk f) k lo lp a p o = .ok (rs, q) → Φ lp a p o rs q := by
      intro lp lo k he hl h
      rcases lp_bd h with ⟨-, e1, e2⟩ | ⟨y, g, rb, q1, h1, h2⟩
      · subst e1 e2; exact cle _ _ _ _ he
      · exact clp _ _ _ _ _ _ _ _ _ _ (hl y) g (ih _ _ _ _ _ _ h1) (ih _ _ _ _ _ _ h2)
    have hah : ∀ {md lo : Nat} {k : Int} {is : Prop} [Decidable is], (md = 3 ∧ lo = 4 ∨ md = 7 ∧ lo = 8) → (is → ahR tk md lo k p) → bAhead tk (pS tk f) is k md lo p o = .ok (rs, q) → Φ md a p o rs q := by
      intro md lo k is _ hm ha h
      rcases ah_bd h with ⟨-, h1⟩ | ⟨y, g, g', ra, h1, e⟩
      · exact cah0 _ _ _ _ _ _ _ hm (ih _ _ _ _ _ _ h1)
      · subst e; exact cah _ _ _ _ _ _ _ _ (ha y) g g' (ih _ _ _ _ _ _ h1)
    have k0 : bExp tk (pS tk f) p o = .ok (rs, q) → Φ 0 a p o rs q := by
      intro h
      unfold bExp at h
      by_cases y : isKy tk 0 p
      · rw [if_neg (fun z => z y)] at h
        obtain ⟨q0, h0, h⟩ := exb h
        obtain ⟨g, g', rfl⟩ := op_ok' h0
        obtain ⟨⟨ra, q1⟩, h1, h⟩ := exb h
        obtain ⟨q2, h2, h⟩ := exb h
        obtain ⟨g2, g2', rfl⟩ := nk_ok h2
        obtain ⟨⟨rb, q3⟩, h3, h⟩ := exb h
        obtain ⟨q4, h4, h⟩ := exb h
        obtain ⟨g4, g4', rfl⟩ := nk_ok h4
        obtain ⟨⟨rc, q5⟩, h5, h⟩ := exb h
        obtain ⟨e1, e2⟩ := one_ok h
        subst e1 e2
        exact c0i _ _ _ _ _ _ _ _ _ y g g' (ih _ _ _ _ _ _ h1) g2 g2' (ih _ _ _ _ _ _ h3) g4 g4' (ih _ _ _ _ _ _ h5)
      · rw [if_pos y] at h
        exact c0 _ _ _ _ _ y (ih _ _ _ _ _ _ h)
    have k11 : bLoop tk (pS tk f) (if isKy tk 4 p then 9 else -1) 2 11 a p o = .ok (rs, q) → Φ 11 a p o rs q := by
      intro h
      refine hlp (.inl rfl) (fun z => ?_) h
      by_cases y : isKy tk 4 p
      · rw [if_pos y]; exact .inl ⟨rfl, rfl, rfl, y⟩
      · rw [if_neg y] at z; exact absurd rfl z
    have k12 : bLoop tk (pS tk f) (if isKy tk 3 p then 10 else -1) 3 12 a p o = .ok (rs, q) → Φ 12 a p o rs q := by
      intro h
      refine hlp (.inr (.inl rfl)) (fun z => ?_) h
      by_cases y : isKy tk 3 p
      · rw [if_pos y]; exact .inr (.inl ⟨rfl, rfl, rfl, y⟩)
      · rw [if_neg y] at z; exact absurd rfl z
    have k4 : bRel tk (pS tk f) p o = .ok (rs, q) → Φ 4 a p o rs q := by
      intro h
      unfold bRel at h
      obtain ⟨⟨ra, q1⟩, h1, h⟩ := exb h
      have h' : (if rlK tk q1 = -1 then oneR (fstP ra) q1 else (goS tk q1 >>= fun q1' => pS tk f 5 acc0 q1' o >>= fun x => oneR ((rlK tk q1, plS tk q1, 0, 0), chT [fstP ra, fstP x.1]) x.2)) = .ok (rs, q) := h
      by_cases y : rlK tk q1 = -1
      · rw [if_pos y] at h'
        obtain ⟨e1, e2⟩ := one_ok h'
        subst e1 e2
        exact crl0 _ _ _ _ _ (ih _ _ _ _ _ _ h1)
      · rw [if_neg y] at h'
        obtain ⟨q2, h2, h'⟩ := exb h'
        obtain ⟨g, rfl⟩ := go_ok h2
        obtain ⟨⟨rb, q3⟩, h3, h'⟩ := exb h'
        obtain ⟨e1, e2⟩ := one_ok h'
        subst e1 e2
        exact crl _ _ _ _ _ _ _ _ (ih _ _ _ _ _ _ h1) (rl_K y) g (ih _ _ _ _ _ _ h3)
    have k18 : bBehind tk (pS tk f) a p o = .ok (rs, q) → Φ 18 a p o rs q := by
      intro h
      unfold bBehind at h
      by_cases y : isSg tk 94 p
      · rw [if_pos y] at h
        obtain ⟨q0, h0, h⟩ := exb h
        obtain ⟨g, rfl⟩ := go_ok h0
        obtain ⟨u, h1, h⟩ := exb h
        obtain ⟨q1, h2, h⟩ := exb h
        obtain ⟨g1, rfl⟩ := go_ok h2
        rw [show p + 1 + 1 = p + 2 by omega] at h
        exact cpw _ _ _ _ _ y g (kd_ok h1) g1 (ih _ _ _ _ _ _ h)
      rw [if_neg y] at h
      by_cases y1 : isSg tk 130 p ∨ isSg tk 33 p
      · rw [if_pos y1] at h
        obtain ⟨q0, h0, h⟩ := exb h
        obtain ⟨g, rfl⟩ := go_ok h0
        obtain ⟨⟨b, q1⟩, h1, h⟩ := exb h
        refine ccv _ _ _ _ _ _ _ _ ?_ g h1 (ih _ _ _ _ _ _ h)
        by_cases y2 : isSg tk 33 p
        · rw [if_pos y2]; exact .inr ⟨rfl, y2⟩
        · rw [if_neg y2]; exact .inl ⟨rfl, y1.resolve_right y2⟩
      · rw [if_neg y1] at h
        obtain ⟨e1, e2⟩ := one_ok h
        subst e1 e2
        exact cle _ _ _ _ (.inr (.inr (.inr (.inr rfl))))
    have k20 : bList tk (pS tk f) p o = .ok (rs, q) → Φ 20 a p o rs q := by
      intro h
      unfold bList at h
      obtain ⟨⟨ra, q1⟩, h1, h⟩ := exb h
      have h' : (if isSg tk 44 q1 then (goS tk q1 >>= fun q1' => pS tk f 20 acc0 q1' o >>= fun x => .ok ([fstP ra :: fstR x.1], x.2)) else oneR (fstP ra) q1) = .ok (rs, q) := h
      by_cases y : isSg tk 44 q1
      · rw [if_pos y] at h'
        obtain ⟨q2, h2, h'⟩ := exb h'
        obtain ⟨g, rfl⟩ := go_ok h2
        obtain ⟨⟨rb, q3⟩, h3, h'⟩ := exb h'
        have e : ([fstP ra :: fstR rb], q3) = (rs, q) := by injection h'
        injection e with e1 e2
        subst e1 e2
        exact cli2 _ _ _ _ _ _ _ (ih _ _ _ _ _ _ h1) y g (ih _ _ _ _ _ _ h3)
      · rw [if_neg y] at h'
        obtain ⟨e1, e2⟩ := one_ok h'
        subst e1 e2
        exact cli _ _ _ _ _ (ih _ _ _ _ _ _ h1)
    have k22 : bRows tk (pS tk f) p o = .ok (rs, q) → Φ 22 a p o rs q := by
      intro h
      unfold bRows at h
      obtain ⟨q0, h0, h⟩ := exb h
      obtain ⟨y0, g0, g0', rfl⟩ := no_ok h0
      obtain ⟨⟨ra, q1⟩, h1, h⟩ := exb h
      obtain ⟨q2, h2, h⟩ := exb h
      obtain ⟨y2, g2, rfl⟩ := nd_ok h2
      by_cases y : isSg tk 44 (q1 + 1)
      · rw [if_pos y] at h
        obtain ⟨q3, h3, h⟩ := exb h
        obtain ⟨g3, rfl⟩ := go_ok h3
        obtain ⟨⟨rb, q4⟩, h4, h⟩ := exb h
        have e : (fstR ra :: rb, q4) = (rs, q) := by injection h
        injection e with e1 e2
        subst e1 e2
        rw [show q1 + 1 + 1 = q1 + 2 by omega] at h4
        exact crw2 _ _ _ _ _ _ _ y0 g0 g0' (ih _ _ _ _ _ _ h1) y2 g2 y g3 (ih _ _ _ _ _ _ h4)
      · rw [if_neg y] at h
        have e : ([fstR ra], q1 + 1) = (rs, q) := by injection h
        injection e with e1 e2
        subst e1 e2
        exact crw _ _ _ _ _ y0 g0 g0' (ih _ _ _ _ _ _ h1) y2 g2
    unfold pS at h
    split at h
    · cases h
    · rename_i hf; cases hf; exact k0 h
    · rename_i hf; cases hf; exact hlv (.inl ⟨rfl, rfl, rfl⟩) h
    · rename_i hf; cases hf; exact k11 h
    · rename_i hf; cases hf; exact hlv (.inr (.inl ⟨rfl, rfl, rfl⟩)) h
    · rename_i hf; cases hf; exact k12 h
    · rename_i hf; cases hf; exact hah (.inl ⟨rfl, rfl⟩) (fun y => .inl ⟨rfl, rfl, rfl, y⟩) h
    · rename_i hf; cases hf; exact k4 h
    · rename_i hf; cases hf; exact hlv (.inr (.inr (.inl ⟨rfl, rfl, rfl⟩))) h
    · rename_i hf; cases hf
      exact hlp (.inr (.inr (.inl rfl))) (fun z => .inr (.inr (.inl ⟨rfl, rfl, sm_K z⟩))) h
    · rename_i hf; cases hf; exact hlv (.inr (.inr (.inr (.inl ⟨rfl, rfl, rfl⟩)))) h
    · rename_i hf; cases hf
      exact hlp (.inr (.inr (.inr (.inl rfl)))) (fun z => .inr (.inr (.inr ⟨rfl, rfl, pr_K z⟩))) h
    · rename_i hf; cases hf; exact hah (.inr ⟨rfl, rfl⟩) (fun y => .inr ⟨rfl, rfl, rfl, y⟩) h
    · rename_i hf; cases hf; exact hlv (.inr (.inr (.inr (.inr ⟨rfl, rfl, rfl⟩)))) h
    · rename_i hf; cases hf; exact k18 h
    · rename_i hf; cases hf
      obtain ⟨x, e, h1⟩ := at_bd h
      subst e
      exact cat _ _ _ _ _ (h1.mp ih)
    · rename_i hf; cases hf; exact k20 h
    · rename_i hf; cases hf; exact k22 h
    · cases h
theorem pT_lt : ∀ {f : Nat} {p o : Int} {a : PT} {q : Int}, pT tk f p o = .ok (a, q) → p < q := by
  intro f
  induction f with
  | zero => intro p o a q h; unfold pT at h; cases h
  | succ f ih =>
    intro p o a q h
    unfold pT at h
    by_cases y : kdS tk p ≠ 3
    · rw [if_pos y] at h; cases h
    rw [if_neg y] at h
    by_cases y : vlS tk p = 14 ∨ vlS tk p = 15 ∨ vlS tk p = 16 ∨ vlS tk p = 20
    · rw [if_pos y] at h
      obtain ⟨q0, h0, h⟩ := exb h
      have := go_ok h0
      injection h with e; injection e with e1 e2; omega
    rw [if_neg y] at h
    by_cases y : ¬ (vlS tk p = 17 ∨ vlS tk p = 18 ∨ vlS tk p = 19)
    · rw [if_pos y] at h; cases h
    rw [if_neg y] at h
    obtain ⟨q0, h0, h⟩ := exb h
    have g0 := go_ok h0
    obtain ⟨q1, h1, h⟩ := exb h
    have g1 := no_ok h1
    by_cases y : vlS tk p = 17
    · rw [if_pos y] at h
      obtain ⟨_, _, h⟩ := exb h
      obtain ⟨q2, h2, h⟩ := exb h
      have g2 := go_ok h2
      obtain ⟨q3, h3, h⟩ := exb h
      have g3 := nd_ok h3
      injection h with e; injection e with e1 e2; omega
    rw [if_neg y] at h
    by_cases y : vlS tk p = 18
    · rw [if_pos y] at h
      obtain ⟨⟨a1, q2⟩, h2, h⟩ := exb h
      have g2 := ih h2
      obtain ⟨q3, h3, h⟩ := exb h
      have g3 := nd_ok h3
      injection h with e; injection e with e1 e2; omega
    rw [if_neg y] at h
    obtain ⟨_, _, h⟩ := exb h
    obtain ⟨q2, h2, h⟩ := exb h
    have g2 := go_ok h2
    obtain ⟨q3, h3, h⟩ := exb h
    have g3 := nd_ok h3
    obtain ⟨⟨a1, q4⟩, h4, h⟩ := exb h
    have g4 := ih h4
    obtain ⟨q5, h5, h⟩ := exb h
    have g5 := nd_ok h5
    injection h with e; injection e with e1 e2; omega
/-- tokens are passed -/
theorem pS_lt {f md : Nat} {a : PT} {p o : Int} {rs : List (List PT)} {q : Int} (h : pS tk f md a p o = .ok (rs, q)) : p ≤ q ∧ (md < 10 ∨ md = 20 ∨ md = 22 → p < q) := by
  refine pS_ind (tk := tk) (Φ := fun md _ p _ _ q => p ≤ q ∧ (md < 10 ∨ md = 20 ∨ md = 22 → p < q)) ?_ ?_ ?_ ?_ ?_ ?_ ?_ ?_ ?_ ?_ ?_ ?_ ?_ ?_ ?_ ?_ f md a p o rs q h
  · intro a p o rs q _ h; exact ⟨h.1, fun _ => h.2 (by omega)⟩
  · intro a p o ra q1 rb q3 rc q5 _ _ _ h1 _ _ h2 _ _ h3; have := h1.1; have := h2.1; have := h3.1; exact ⟨by omega, fun _ => by omega⟩
  · intro md lo lp a p o ra q1 rs q hl h1 h2
    have := h1.2 (by unfold lvR at hl; omega)
    have := h2.1
    exact ⟨by omega, fun _ => by omega⟩
  · intro lp a p o hl; exact ⟨Int.le_refl _, fun z => by omega⟩
  · intro lp lo k a p o rb q1 rs q hl _ h1 h2; have := h1.1; have := h2.1; exact ⟨by omega, fun _ => by omega⟩
  · intro md lo a p o rs q hm h; exact ⟨h.1, fun _ => h.2 (by omega)⟩
  · intro md lo k a p o ra q hm _ _ h; have := h.1; exact ⟨by omega, fun _ => by omega⟩
  · intro a p o ra q h; have := h.2 (by omega); exact ⟨by omega, fun _ => by omega⟩
  · intro a p o ra q k rb q2 h1 _ _ h2; have := h1.1; have := h2.1; exact ⟨by omega, fun _ => by omega⟩
  · intro a p o rs q _ _ _ _ h; have := h.1; exact ⟨by omega, fun _ => by omega⟩
  · intro a p o b q1 k rs q _ _ h1 h2; have := pT_lt h1; have := h2.1; exact ⟨by omega, fun _ => by omega⟩
  · intro a p o x q h
    have w : p < q := by
      rcases h with h | ⟨a1, a2, a3, a4, a5, r, q2, a6, a7⟩ | h | ⟨a1, a2, a3, a4, a5, r, q2, a6, a7⟩ | h | ⟨a1, a2, a3, r, q1, a4, a5⟩ | ⟨a1, a2, a3, r, q1, a4, a5⟩ | h
      · omega
      · have := a6.1; omega
      · omega
      · have := a6.1; omega
      · omega
      · have := a4.1; omega
      · have := a4.1; omega
      · omega
    exact ⟨by omega, fun _ => w⟩
  · intro a p o r q h; have := h.2 (by omega); exact ⟨by omega, fun _ => by omega⟩
  · intro a p o r q r2 q2 h1 _ _ h2; have := h1.1; have := h2.1; exact ⟨by omega, fun _ => by omega⟩
  · intro a p o r q _ _ _ h _ _; have := h.1; exact ⟨by omega, fun _ => by omega⟩
  · intro a p o r q rs q4 _ _ _ h1 _ _ _ _ h2; have := h1.1; have := h2.1; exact ⟨by omega, fun _ => by omega⟩
end PARI2
