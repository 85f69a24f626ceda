set_option maxRecDepth 100000
/-! products of polynomials: the component -/
abbrev Cl (x n : Int) : Prop := 0 ≤ x ∧ x + n ≤ 1159540
abbrev Dj (x n y k : Int) : Prop := x + n ≤ y ∨ y + k ≤ x
section POLYC
variable {m0 : MM} {Q : Int → MM → Prop} {base mu x y to : Int} {u v : Int → PP}
def SD (i : Int) : Prop := 1157576 ≤ i ∧ i < 1157580
theorem polyC_in (hb : RI base) (hmu : muC m0 base = mu) (hM : MU mu) (hx : Cl x 14) (hy : Cl y 14) (dx : Dj x 14 1157576 4) (dy : Dj y 14 1157576 4) (nu : NBs mu u 7) (nv : NBs mu v 7) {K3 : Int → Int → Int → Int → Int → MM → Prop} {k : Int} (k0 : 0 ≤ k) (k1 : k ≤ 12) : ∀ (r : Nat) (i : Int) (a : PP) (m : MM), max 0 (k - 6) < i → i + r = min k 6 + 1 → muC m base = mu → m 378 2 = 0 → Rw (m 379) x u 7 → Rw (m 379) y v 7 → pr m 379 1157576 = a → NB mu a → (∀ d m', dotG mu u v k r i a = .ok d → Fc SD m m' → m' 378 2 = 0 → pr m' 379 1157576 = d → P_X8_poly_113 Q K3 base x y to k m') → (∀ e m', dotG mu u v k r i a = .error e → Fc SD m m' → m' 378 2 = e → Q 0 m') → P_X8_poly_27 Q K3 (r + 1) base x y to k (max 0 (k - 6)) i m := by
  intro r
  induction r with
  | zero =>
    intro i a m hi hr hu he ux vy ha na ok er
    refine c_min (by constructor <;> omega) (by decide) ⟨by constructor <;> omega, by constructor <;> omega, ?_⟩
    rw [if_pos (by omega)]
    exact ok a m rfl (Fc.refl m) he ha
  | succ r ih =>
    intro i a m hi hr hu he ux vy ha na ok er
    refine c_min (by constructor <;> omega) (by decide) ⟨by constructor <;> omega, by constructor <;> omega, ?_⟩
    rw [if_neg (by omega)]
    refine ⟨by constructor <;> omega, ?_⟩
    rw [if_neg (show ¬ i = max 0 (k - 6) by omega)]
    have eu := ux.at (k := i) (by omega) (by omega)
    have ev := vy.at (k := k - i) (by omega) (by omega)
    have nui := nu i (by omega) (by omega)
    have nvi := nv (k - i) (by omega) (by omega)
    unfold dotG at ok er
    refine c_X8_times hb hu hM (by omega) (by omega) (by decide) (by rw [eu]; exact nui) (by rw [ev]; exact nvi) (fun p hp => ?_) (fun e1 he1 => ?_)
    · rw [eu, ev] at hp
      rw [hp] at ok er
      have np := NB.mul hM nui nvi hp
      have f1 : Fc SD m (pt m 379 1157578 p) := Fc.ofPt ⟨by decide, by decide⟩ ⟨by decide, by decide⟩
      have e1 : (pt m 379 1157578 p) 378 2 = 0 := by rw [pt_oth (by decide)]; exact he
      refine ⟨by rw [e1]; decide, ?_⟩
      rw [if_pos e1]
      refine ⟨by constructor <;> omega, ?_⟩
      rw [if_neg (by omega)]
      have ea : pr (pt m 379 1157578 p) 379 1157576 = a := by rw [pt_ne (by decide)]; exact ha
      have eb : pr (pt m 379 1157578 p) 379 1157578 = p := pt_at
      refine c_X8_add hb (by rw [f1.mu, hu]) hM (by decide) (by decide) (by decide) (by decide) (by rw [ea]; exact na) (by rw [eb]; exact np) (fun s hs => ?_) (fun e2 he2 => ?_)
      · rw [ea, eb] at hs
        simp only [hs] at ok er
        have f2 : Fc SD m (pt (pt m 379 1157578 p) 379 1157576 s) := f1.trans (Fc.ofPt ⟨by decide, by decide⟩ ⟨by decide, by decide⟩)
        have e2 : (pt (pt m 379 1157578 p) 379 1157576 s) 378 2 = 0 := by rw [pt_oth (by decide)]; exact e1
        refine ⟨by rw [e2]; decide, ?_⟩
        rw [if_pos e2]
        exact ih (i + 1) s _ (by omega) (by omega) (by rw [f2.mu, hu]) e2 (ux.fr f2 (fun j j0 j1 z => by unfold SD at z; omega)) (vy.fr f2 (fun j j0 j1 z => by unfold SD at z; omega)) pt_at (NB.add hM na np hs) (fun d m' h1 h2 h3 h4 => ok d m' h1 (f2.trans h2) h3 h4) (fun e m' h1 h2 h3 => er e m' h1 (f2.trans h2) h3)
      · rw [ea, eb] at he2
        simp only [he2] at ok er
        have := addS_err he2
        have q := er e2 _ rfl (f1.trans Fc.err) (up_at ..)
        refine ⟨by rw [up_at, this]; decide, ?_⟩
        rw [if_neg (by rw [up_at]; omega)]
        exact q
    · rw [eu, ev] at he1
      rw [he1] at ok er
      have := mulS_err he1
      have q := er e1 _ rfl Fc.err (up_at ..)
      refine ⟨by rw [up_at, this]; decide, ?_⟩
      rw [if_neg (by rw [up_at]; omega)]
      refine ⟨by rw [up_at, this]; decide, ?_⟩
      rw [if_neg (by rw [up_at]; omega)]
      exact q
theorem polyC_row (hb : RI base) (hM : MU mu) (hx : Cl x 14) (hy : Cl y 14) (dx : Dj x 14 1157576 4) (dy : Dj y 14 1157576 4) (nu : NBs mu u 7) (nv : NBs mu v 7) {K3 : Int → Int → Int → Int → Int → MM → Prop} {k : Int} (k0 : 0 ≤ k) (k1 : k ≤ 12) {m : MM} (hu : muC m base = mu) (he : m 378 2 = 0) (ux : Rw (m 379) x u 7) (vy : Rw (m 379) y v 7) (ok : ∀ d m', dotS mu u v k = .ok d → Fc SD m m' → m' 378 2 = 0 → pr m' 379 1157576 = d → P_X8_poly_113 Q K3 base x y to k m') (er : ∀ e m', dotS mu u v k = .error e → Fc SD m m' → m' 378 2 = e → Q 0 m') : ∃ nn, P_X8_poly_27 Q K3 nn base x y to k (max 0 (k - 6)) (max 0 (k - 6)) m := by
  refine ⟨(min k 6 - max 0 (k - 6)).toNat + 1 + 1, ?_⟩
  refine c_min (by constructor <;> omega) (by decide) ⟨by constructor <;> omega, by constructor <;> omega, ?_⟩
  rw [if_neg (by omega)]
  refine ⟨by constructor <;> omega, ?_⟩
  rw [if_pos rfl]
  have eu := ux.at (k := max 0 (k - 6)) (by omega) (by omega)
  have ev := vy.at (k := k - max 0 (k - 6)) (by omega) (by omega)
  have nui := nu (max 0 (k - 6)) (by omega) (by omega)
  have nvi := nv (k - max 0 (k - 6)) (by omega) (by omega)
  unfold dotS at ok er
  refine c_X8_times hb hu hM (by omega) (by omega) (by decide) (by rw [eu]; exact nui) (by rw [ev]; exact nvi) (fun p hp => ?_) (fun e1 he1 => ?_)
  · rw [eu, ev] at hp
    simp only [hp] at ok er
    have np := NB.mul hM nui nvi hp
    have f1 : Fc SD m (pt m 379 1157576 p) := Fc.ofPt ⟨by decide, by decide⟩ ⟨by decide, by decide⟩
    have e1 : (pt m 379 1157576 p) 378 2 = 0 := by rw [pt_oth (by decide)]; exact he
    refine ⟨by rw [e1]; decide, ?_⟩
    rw [if_pos e1]
    refine ⟨by constructor <;> omega, ?_⟩
    rw [if_pos (by omega)]
    refine ⟨by rw [e1]; decide, ?_⟩
    rw [if_pos e1]
    exact polyC_in (m0 := m) hb hu hM hx hy dx dy nu nv k0 k1 _ _ p _ (by omega) (by omega) (by rw [f1.mu, hu]) e1 (ux.fr f1 (fun j j0 j1 z => by unfold SD at z; omega)) (vy.fr f1 (fun j j0 j1 z => by unfold SD at z; omega)) pt_at np (fun d m' h1 h2 h3 h4 => ok d m' h1 (f1.trans h2) h3 h4) (fun e m' h1 h2 h3 => er e m' h1 (f1.trans h2) h3)
  · rw [eu, ev] at he1
    simp only [he1] at ok er
    have := mulS_err he1
    have q := er e1 _ rfl Fc.err (up_at ..)
    refine ⟨by rw [up_at, this]; decide, ?_⟩
    rw [if_neg (by rw [up_at]; omega)]
    refine ⟨by rw [up_at, this]; decide, ?_⟩
    rw [if_neg (by rw [up_at]; omega)]
    exact q
theorem c_X8_poly {m : MM} (hb : RI base) (hmu : muC m base = mu) (hM : MU mu) (he : m 378 2 = 0) (hx : Cl x 14) (hy : Cl y 14) (ht : Cl to 14) (dx : Dj x 14 1157576 4) (dy : Dj y 14 1157576 4) (dt : Dj to 14 1157576 4) (ex : Dj x 14 to 14) (ey : Dj y 14 to 14) (ux : Rw (m 379) x u 7) (vy : Rw (m 379) y v 7) (nu : NBs mu u 7) (nv : NBs mu v 7) (h : OutC (fun i => SD i ∨ to ≤ i ∧ i < to + 14) m (polyS mu u v) to 7 Q) : P_X8_poly base x y to m Q := by
  have L : ∀ (r : Nat) (k : Int) (w : Int → PP) (m' : MM), 0 ≤ k → k + r = 13 → Fc (fun i => SD i ∨ to ≤ i ∧ i < to + 14) m m' → m' 378 2 = 0 → Rw (m' 379) to w (min k 7) → polyG mu u v r k w = polyS mu u v → P_X8_poly_3 Q (r + 1) base x y to k m' := by
    intro r
    induction r with
    | zero =>
      intro k w m' k0 k1 f e rw_ hs
      refine ⟨by constructor <;> omega, ?_⟩
      rw [if_pos (by omega)]
      have rw2 : Rw (m' 379) to w 7 := by rw [show min k 7 = 7 by omega] at rw_; exact rw_
      exact h.1 w m' hs.symm f e rw2
    | succ r ih =>
      intro k w m' k0 k1 f e rw_ hs
      refine ⟨by constructor <;> omega, ?_⟩
      rw [if_neg (by omega)]
      refine c_max (by decide) (by constructor <;> omega) ?_
      rw [show k - 7 + 1 = k - 6 by omega]
      unfold polyG at hs
      refine polyC_row hb hM hx hy dx dy nu nv k0 (by omega) (by rw [f.mu, hmu]) e (ux.fr f (fun j j0 j1 z => by unfold SD at z; omega)) (vy.fr f (fun j j0 j1 z => by unfold SD at z; omega)) (fun d m1 hd f1 e1 hp => ?_) (fun e2 m1 hd f1 e1 => ?_)
      · rw [hd] at hs
        simp only at hs
        have nd := dotS_NB hM nu nv k0 (by omega) hd
        have f1' : Fc (fun i => SD i ∨ to ≤ i ∧ i < to + 14) m m1 := f.trans (f1.mono (fun i a => Or.inl a))
        have rw1 : Rw (m1 379) to w (min k 7) := rw_.fr f1 (fun j j0 j1 z => by unfold SD at z; omega)
        refine ⟨by constructor <;> omega, ?_⟩
        by_cases c : 7 ≤ k
        · rw [if_pos c]
          rw [if_neg (by omega)] at hs
          have hd1 : m1 379 1157576 = d.1 := congrArg Prod.fst hp
          have b1 := nd.p1
          refine ⟨by decide, by rw [hd1]; constructor <;> omega, ?_⟩
          rw [hd1]
          by_cases c2 : d.1 = 0
          · rw [if_pos c2]
            rw [if_pos c2] at hs
            refine ⟨by decide, ?_⟩
            rw [if_neg (by decide)]
            refine ⟨by rw [e1]; decide, ?_⟩
            rw [if_pos e1]
            refine ih (k + 1) w m1 (by omega) (by omega) f1' e1 ?_ hs
            rw [show min (k + 1) 7 = min k 7 by omega]
            exact rw1
          · rw [if_neg c2]
            rw [if_neg c2] at hs
            refine ⟨by decide, ?_⟩
            rw [if_pos rfl]
            rintro _ rfl
            refine ⟨by rw [up_at]; decide, ?_⟩
            rw [if_neg (by rw [up_at]; decide)]
            exact h.2 4 _ hs.symm (f1'.trans Fc.err) (up_at ..)
        · rw [if_neg c]
          rw [if_pos (by omega)] at hs
          refine c_X8_copy (by decide) (by decide) (by omega) (fun m2 f2 e2 cp => ?_)
          refine ⟨by rw [e2, e1]; decide, ?_⟩
          rw [if_pos (by rw [e2, e1])]
          refine ih (k + 1) _ m2 (by omega) (by omega) (f1'.trans (f2.mono (fun i a => Or.inr (by omega)))) (by rw [e2, e1]) ?_ hs
          intro j j0 j1
          by_cases cj : j = k
          · subst cj
            unfold setP
            rw [if_pos rfl]
            have h1 := cp 0 (by decide) (by decide)
            have h2 := cp 1 (by decide) (by decide)
            rw [Int.add_zero, Int.add_zero] at h1
            exact ⟨h1.trans (congrArg Prod.fst hp), h2.trans (congrArg Prod.snd hp)⟩
          · unfold setP
            rw [if_neg cj, f2.2 _ (by omega), f2.2 _ (by omega)]
            exact rw1 j j0 (by omega)
      · rw [hd] at hs
        exact h.2 e2 m1 hs.symm (f.trans (f1.mono (fun i a => Or.inl a))) e1
  exact ⟨14, L 13 0 zr m (by omega) (by omega) (Fc.refl m) he (fun j a b => by omega) rfl⟩
end POLYC
