set_option maxRecDepth 100000
/-! products of a depth: the component -/
section PRODC
variable {Q : Int → MM → Prop} {base mu x y to : Int} {u v : Int → PP}
def SP (i : Int) : Prop := 1157380 ≤ i ∧ i < 1157580
theorem Rw.row {g : Int → Int} {x k : Int} {u : Int → PP} (h : Rw g x u 49) (h0 : 0 ≤ k) (h1 : k < 7) : Rw g (x + 14 * k) (rowP u k) 7 := by
  have := h.sub (k := 7 * k) (l := 7) (by omega) (by omega)
  rw [show x + 2 * (7 * k) = x + 14 * k by omega] at this
  exact this
theorem prodC_in (hb : RI base) (hM : MU mu) (hx : Cl x 98) (hy : Cl y 98) (dx : Dj x 98 1157380 200) (dy : Dj y 98 1157380 200) (nu : NBs mu u 49) (nv : NBs mu v 49) {K38 : Int → Int → Int → Int → Int → Int → MM → Prop} {k : Int} (k0 : 0 ≤ k) (k1 : k ≤ 12) : ∀ (r : Nat) (i : Int) (a : Int → PP) (m : MM), max 0 (k - 6) < i → i + r = min k 6 + 1 → muC m base = mu → m 378 2 = 0 → Rw (m 379) x u 49 → Rw (m 379) y v 49 → Rw (m 379) 1157478 a 7 → NBs mu a 7 → (∀ d m', dot2G mu u v k r i a = .ok d → Fc SP m m' → m' 378 2 = 0 → Rw (m' 379) 1157478 d 7 → P_X8_product_153 Q K38 base x y to 14 k m') → (∀ e m', dot2G mu u v k r i a = .error e → Fc SP m m' → m' 378 2 = e → Q 0 m') → P_X8_product_62 Q K38 (r + 1) base x y to 14 k (max 0 (k - 6)) i m := by
  intro r
  induction r with
  | zero =>
    intro i a m hi hr hu he ux vy ha na ok er
    refine c_min (by constructor <;> omega) (by decide) ⟨by constructor <;> omega, by constructor <;> omega, ?_⟩
    rw [if_pos (by omega)]
    exact ok a m rfl (Fc.refl m) he ha
  | succ r ih =>
    intro i a m hi hr hu he ux vy ha na ok er
    refine c_min (by constructor <;> omega) (by decide) ⟨by constructor <;> omega, by constructor <;> omega, ?_⟩
    rw [if_neg (by omega)]
    refine ⟨by constructor <;> omega, ?_⟩
    rw [if_neg (show ¬ i = max 0 (k - 6) by omega)]
    have nui := rowP_NB nu (k := i) (by omega) (by omega)
    have nvi := rowP_NB nv (k := k - i) (by omega) (by omega)
    unfold dot2G at ok er
    refine c_X8_poly hb hu hM he (by omega) (by omega) (by decide) (by omega) (by omega) (by decide) (by omega) (by omega) (ux.row (by omega) (by omega)) (vy.row (by omega) (by omega)) nui nvi ⟨fun t m1 ht f1 e1 r1 => ?_, fun e m1 ht f1 e1 => ?_⟩
    · rw [ht] at ok er
      simp only at ok er
      have nt := polyS_NB hM nui nvi ht
      have f1' : Fc SP m m1 := f1.mono (fun i z => by unfold SD at z; unfold SP; omega)
      refine ⟨by rw [e1]; decide, ?_⟩
      rw [if_pos e1]
      refine ⟨by constructor <;> omega, ?_⟩
      rw [if_neg (by omega)]
      refine c_X8_addAll (n := 7) (u := a) (v := t) hb (by rw [f1.mu, hu]) hM (by decide) e1 (by decide) (by decide) (by decide) (Or.inl rfl) (by decide) (ha.fr f1 (fun j j0 j1 z => by unfold SD at z; omega)) r1 na (fun j _ _ => nt.1 j) ⟨fun s m2 hs f2 e2 r2 => ?_, fun e m2 hs f2 e2 => ?_⟩
      · rw [hs] at ok er
        simp only at ok er
        have f2' : Fc SP m m2 := f1'.trans (f2.mono (fun i z => by unfold SP; omega))
        refine ⟨by rw [e2]; decide, ?_⟩
        rw [if_pos e2]
        exact ih (i + 1) s m2 (by omega) (by omega) (by rw [f2'.mu, hu]) e2 (ux.fr f2' (fun j j0 j1 z => by unfold SP at z; omega)) (vy.fr f2' (fun j j0 j1 z => by unfold SP at z; omega)) r2 (fun j _ _ => addR_NB hM na (fun j _ _ => nt.1 j) hs j) (fun d m' h1 h2 h3 h4 => ok d m' h1 (f2'.trans h2) h3 h4) (fun e m' h1 h2 h3 => er e m' h1 (f2'.trans h2) h3)
      · rw [hs] at er
        have := addR_err hs
        have q := er e m2 rfl (f1'.trans (f2.mono (fun i z => by unfold SP; omega))) e2
        refine ⟨by rw [e2, this]; decide, ?_⟩
        rw [if_neg (by rw [e2]; omega)]
        exact q
    · rw [ht] at er
      have := polyS_err ht
      have q := er e m1 rfl (f1.mono (fun i z => by unfold SD at z; unfold SP; omega)) e1
      refine ⟨by rw [e1]; constructor <;> omega, ?_⟩
      rw [if_neg (by rw [e1]; omega)]
      refine ⟨by rw [e1]; constructor <;> omega, ?_⟩
      rw [if_neg (by rw [e1]; omega)]
      exact q
theorem prodC_row (hb : RI base) (hM : MU mu) (hx : Cl x 98) (hy : Cl y 98) (dx : Dj x 98 1157380 200) (dy : Dj y 98 1157380 200) (nu : NBs mu u 49) (nv : NBs mu v 49) {K38 : Int → Int → Int → Int → Int → Int → MM → Prop} {k : Int} (k0 : 0 ≤ k) (k1 : k ≤ 12) {m : MM} (hu : muC m base = mu) (he : m 378 2 = 0) (ux : Rw (m 379) x u 49) (vy : Rw (m 379) y v 49) (ok : ∀ d m', dot2S mu u v k = .ok d → Fc SP m m' → m' 378 2 = 0 → Rw (m' 379) 1157478 d 7 → P_X8_product_153 Q K38 base x y to 14 k m') (er : ∀ e m', dot2S mu u v k = .error e → Fc SP m m' → m' 378 2 = e → Q 0 m') : ∃ nn, P_X8_product_62 Q K38 nn base x y to 14 k (max 0 (k - 6)) (max 0 (k - 6)) m := by
  refine ⟨(min k 6 - max 0 (k - 6)).toNat + 1 + 1, ?_⟩
  refine c_min (by constructor <;> omega) (by decide) ⟨by constructor <;> omega, by constructor <;> omega, ?_⟩
  rw [if_neg (by omega)]
  refine ⟨by constructor <;> omega, ?_⟩
  rw [if_pos rfl]
  have nui := rowP_NB nu (k := max 0 (k - 6)) (by omega) (by omega)
  have nvi := rowP_NB nv (k := k - max 0 (k - 6)) (by omega) (by omega)
  unfold dot2S at ok er
  refine c_X8_poly hb hu hM he (by omega) (by omega) (by decide) (by omega) (by omega) (by decide) (by omega) (by omega) (ux.row (by omega) (by omega)) (vy.row (by omega) (by omega)) nui nvi ⟨fun t m1 ht f1 e1 r1 => ?_, fun e m1 ht f1 e1 => ?_⟩
  · rw [ht] at ok er
    simp only at ok er
    have nt := polyS_NB hM nui nvi ht
    have f1' : Fc SP m m1 := f1.mono (fun i z => by unfold SD at z; unfold SP; omega)
    refine ⟨by rw [e1]; decide, ?_⟩
    rw [if_pos e1]
    refine ⟨by constructor <;> omega, ?_⟩
    rw [if_pos (by omega)]
    refine ⟨by rw [e1]; decide, ?_⟩
    rw [if_pos e1]
    exact prodC_in hb hM hx hy dx dy nu nv k0 k1 _ _ t _ (by omega) (by omega) (by rw [f1.mu, hu]) e1 (ux.fr f1' (fun j j0 j1 z => by unfold SP at z; omega)) (vy.fr f1' (fun j j0 j1 z => by unfold SP at z; omega)) r1 (fun j _ _ => nt.1 j) (fun d m' h1 h2 h3 h4 => ok d m' h1 (f1'.trans h2) h3 h4) (fun e m' h1 h2 h3 => er e m' h1 (f1'.trans h2) h3)
  · rw [ht] at er
    have := polyS_err ht
    have q := er e m1 rfl (f1.mono (fun i z => by unfold SD at z; unfold SP; omega)) e1
    refine ⟨by rw [e1]; constructor <;> omega, ?_⟩
    rw [if_neg (by rw [e1]; omega)]
    refine ⟨by rw [e1]; constructor <;> omega, ?_⟩
    rw [if_neg (by rw [e1]; omega)]
    exact q
theorem c_X8_prod2 {m : MM} (hb : RI base) (hmu : muC m base = mu) (hM : MU mu) (he : m 378 2 = 0) (hx : Cl x 98) (hy : Cl y 98) (ht : Cl to 98) (dx : Dj x 98 1157380 200) (dy : Dj y 98 1157380 200) (dt : Dj to 98 1157380 200) (ex : Dj x 98 to 98) (ey : Dj y 98 to 98) (ux : Rw (m 379) x u 49) (vy : Rw (m 379) y v 49) (nu : NBs mu u 49) (nv : NBs mu v 49) (h : OutC (fun i => SP i ∨ to ≤ i ∧ i < to + 98) m (poly2S mu u v) to 49 Q) : ∃ nn, P_X8_product_38 Q nn base x y to 14 0 m := by
  have L : ∀ (r : Nat) (k : Int) (w : Int → PP) (m' : MM), 0 ≤ k → k + r = 13 → Fc (fun i => SP i ∨ to ≤ i ∧ i < to + 98) m m' → m' 378 2 = 0 → Rw (m' 379) to w (7 * min k 7) → poly2G mu u v r k w = poly2S mu u v → P_X8_product_38 Q (r + 1) base x y to 14 k m' := by
    intro r
    induction r with
    | zero =>
      intro k w m' k0 k1 f e rw_ hs
      refine ⟨by constructor <;> omega, ?_⟩
      rw [if_pos (by omega)]
      have rw2 : Rw (m' 379) to w 49 := by rw [show 7 * min k 7 = 49 by omega] at rw_; exact rw_
      exact h.1 w m' hs.symm f e rw2
    | succ r ih =>
      intro k w m' k0 k1 f e rw_ hs
      refine ⟨by constructor <;> omega, ?_⟩
      rw [if_neg (by omega)]
      refine c_max (by decide) (by constructor <;> omega) ?_
      rw [show k - 7 + 1 = k - 6 by omega]
      unfold poly2G at hs
      refine prodC_row hb hM hx hy dx dy nu nv k0 (by omega) (by rw [f.mu, hmu]) e (ux.fr f (fun j j0 j1 z => by unfold SP at z; omega)) (vy.fr f (fun j j0 j1 z => by unfold SP at z; omega)) (fun d m1 hd f1 e1 hp => ?_) (fun e2 m1 hd f1 e1 => ?_)
      · rw [hd] at hs
        simp only at hs
        have nd := dot2S_NB hM nu nv k0 (by omega) hd
        have f1' : Fc (fun i => SP i ∨ to ≤ i ∧ i < to + 98) m m1 := f.trans (f1.mono (fun i a => Or.inl a))
        have rw1 : Rw (m1 379) to w (7 * min k 7) := rw_.fr f1 (fun j j0 j1 z => by unfold SP at z; omega)
        refine ⟨by constructor <;> omega, ?_⟩
        by_cases c : 7 ≤ k
        · rw [if_pos c]
          rw [if_neg (by omega)] at hs
          refine c_X8_isClear (n := 7) (u := d) (by decide) (by decide) hp (fun j _ _ => by have := (nd.1 j).p1; constructor <;> omega) ?_
          by_cases c2 : allZ d 7 0 = true
          · rw [if_pos c2]
            rw [if_pos c2] at hs
            refine ⟨by decide, ?_⟩
            rw [if_neg (by decide)]
            refine ⟨by rw [e1]; decide, ?_⟩
            rw [if_pos e1]
            refine ih (k + 1) w m1 (by omega) (by omega) f1' e1 ?_ hs
            rw [show 7 * min (k + 1) 7 = 7 * min k 7 by omega]
            exact rw1
          · rw [if_neg c2]
            rw [if_neg c2] at hs
            refine ⟨by decide, ?_⟩
            rw [if_pos rfl]
            rintro _ rfl
            refine ⟨by rw [up_at]; decide, ?_⟩
            rw [if_neg (by rw [up_at]; decide)]
            exact h.2 4 _ hs.symm (f1'.trans Fc.err) (up_at ..)
        · rw [if_neg c]
          rw [if_pos (by omega)] at hs
          refine c_X8_copy (by decide) (by decide) (by omega) (fun m2 f2 e2 cp => ?_)
          refine ⟨by rw [e2, e1]; decide, ?_⟩
          rw [if_pos (by rw [e2, e1])]
          refine ih (k + 1) _ m2 (by omega) (by omega) (f1'.trans (f2.mono (fun i a => Or.inr (by omega)))) (by rw [e2, e1]) ?_ hs
          have r2 := hp.cp cp
          intro j j0 j1
          by_cases cj : 7 * k ≤ j ∧ j < 7 * k + 7
          · unfold setR
            rw [if_pos cj]
            have := r2 (j - 7 * k) (by omega) (by omega)
            rw [show to + 14 * k + 2 * (j - 7 * k) = to + 2 * j by omega] at this
            exact this
          · unfold setR
            rw [if_neg cj, f2.2 _ (by omega), f2.2 _ (by omega)]
            exact rw1 j j0 (by omega)
      · rw [hd] at hs
        exact h.2 e2 m1 hs.symm (f.trans (f1.mono (fun i a => Or.inl a))) e1
  exact ⟨14, L 13 0 zr m (by omega) (by omega) (Fc.refl m) he (fun j a b => by omega) rfl⟩
theorem c_X8_product {m : MM} {d : Int} (hd : 0 ≤ d ∧ d ≤ 2) (hb : RI base) (hmu : muC m base = mu) (hM : MU mu) (he : m 378 2 = 0) (hx : Cl x (2 * cof d)) (hy : Cl y (2 * cof d)) (ht : Cl to (2 * cof d)) (dx : Dj x (2 * cof d) 1157380 200) (dy : Dj y (2 * cof d) 1157380 200) (dt : Dj to (2 * cof d) 1157380 200) (ex : Dj x (2 * cof d) to (2 * cof d)) (ey : Dj y (2 * cof d) to (2 * cof d)) (ux : Rw (m 379) x u (cof d)) (vy : Rw (m 379) y v (cof d)) (nu : NBs mu u (cof d)) (nv : NBs mu v (cof d)) (h : OutC (fun i => SP i ∨ to ≤ i ∧ i < to + 2 * cof d) m (prodS mu d u v) to (cof d) Q) : P_X8_product base d x y to m Q := by
  unfold P_X8_product
  refine ⟨by constructor <;> omega, ?_⟩
  unfold prodS at h
  rcases cof_cs hd with ⟨e1, e2⟩ | ⟨e1, e2⟩ | ⟨e1, e2⟩ <;> rw [e2] at hx hy ht dx dy dt ex ey ux vy nu nv h
  · rw [if_pos e1] at h ⊢
    have eu := ux.at (k := 0) (by decide) (by decide)
    have ev := vy.at (k := 0) (by decide) (by decide)
    rw [show x + 2 * 0 = x by omega] at eu
    rw [show y + 2 * 0 = y by omega] at ev
    refine c_X8_times hb hmu hM (by omega) (by omega) (by omega) (by rw [eu]; exact nu 0 (by decide) (by decide)) (by rw [ev]; exact nv 0 (by decide) (by decide)) (fun p hp => ?_) (fun e he1 => ?_)
    · rw [eu, ev] at hp
      rw [hp] at h
      refine h.1 _ _ rfl (Fc.ofPt (by omega) (by omega)) (by rw [pt_oth (by decide)]; exact he) (fun j j0 j1 => ?_)
      have : j = 0 := by omega
      subst this
      rw [show to + 2 * 0 = to by omega]
      have q := pt_at (m := m) (a := 379) (x := to) (p := p)
      exact ⟨congrArg Prod.fst q, congrArg Prod.snd q⟩
    · rw [eu, ev] at he1
      rw [he1] at h
      exact h.2 e _ rfl Fc.err (up_at ..)
  · rw [if_neg (by omega), if_pos e1] at h ⊢
    refine c_X8_poly hb hmu hM he (by omega) (by omega) (by omega) (by omega) (by omega) (by omega) (by omega) (by omega) ux vy nu nv ⟨fun w m' a b => h.1 w m' a (b.mono (fun i z => by unfold SD at z; unfold SP; omega)), fun e m' a b => h.2 e m' a (b.mono (fun i z => by unfold SD at z; unfold SP; omega))⟩
  · rw [if_neg (by omega), if_neg (by omega)] at h ⊢
    exact c_X8_prod2 hb hmu hM he (by omega) (by omega) (by omega) (by omega) (by omega) (by omega) (by omega) (by omega) ux vy nu nv h
end PRODC
