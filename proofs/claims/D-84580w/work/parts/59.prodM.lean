set_option maxRecDepth 100000
/-! products: the model -/
theorem c_X10_multiplyNumbers_err {m : MM} {Q : Int → MM → Prop} {base x y : Int} (hb : RI base) (he : RI (m 582 84)) (h0 : 0 < m 582 84) (hx : 0 ≤ x ∧ x + 1 < 1600000) (hy : 0 ≤ y ∧ y + 1 < 1600000) (h : Q 0 m) : P_X10_multiplyNumbers base x y m Q := by
  unfold P_X10_multiplyNumbers
  refine ⟨by omega, by omega, ⟨hb, ?_⟩, c_X10_number_err he h0 h⟩
  split
  · exact ⟨by omega, by omega⟩
  · trivial
theorem MN.p {m m' : MM} {r : EX PP} (h : MN m m' r) (i : Int) : m' 635 i = m 635 i := h.1 635 i (fun z => absurd z.1 (by decide))
section PRODM
variable {Q : Int → MM → Prop} {base mu x y to : Int} {u v : Int → PP}
def MD (i : Int) : Prop := 1594000 ≤ i ∧ i < 1594004
theorem rowM_err {K3 : Int → Int → Int → Int → Int → MM → Prop} {m : MM} {k fr i : Int} {r : Nat} (hk : RI k) (hi : RI i) (he : RI (m 582 84)) (h0 : 0 < m 582 84) (q : Q 0 m) : P_X10_multiplyRows_32 Q K3 (r + 1) to x y base k fr i m := by
  refine c_min (by decide) hk ⟨hi, by have := hk; constructor <;> omega, ?_⟩
  have z : P_X10_multiplyRows_121 Q K3 to x y base k m := ⟨he, by rw [if_neg (by omega)]; exact q⟩
  by_cases c : min 6 k < i
  · rw [if_pos c]; exact z
  · rw [if_neg c]
    refine ⟨he, ?_⟩
    rw [if_neg (by omega)]
    exact z
theorem rowM_in (hx : Pl x 14) (hy : Pl y 14) (dx : Dj x 14 1594000 4) (dy : Dj y 14 1594000 4) (nu : NBs mu u 7) (nv : NBs mu v 7) {K3 : Int → Int → Int → Int → Int → MM → Prop} {k : Int} (k0 : 0 ≤ k) (k1 : k ≤ 12) : ∀ (r : Nat) (i : Int) (a : PP) (m : MM), max 0 (k - 6) < i → i + r = min k 6 + 1 → BM m base mu → m 582 84 = 0 → Rw (m 635) x u 7 → Rw (m 635) y v 7 → pr m 635 1594000 = a → NB mu a → (∀ d m', dotG mu u v k r i a = .ok d → Fm MD m m' → m' 582 84 = 0 → pr m' 635 1594000 = d → P_X10_multiplyRows_121 Q K3 to x y base k m') → (∀ e m', dotG mu u v k r i a = .error e → Fm MD m m' → m' 582 84 = e → Q 0 m') → P_X10_multiplyRows_32 Q K3 (r + 1) to x y base k (max 0 (k - 6)) i m := by
  intro r
  induction r with
  | zero =>
    intro i a m hi hr hB he ux vy ha na ok er
    refine c_min (by decide) (by constructor <;> omega) ⟨by constructor <;> omega, by constructor <;> omega, ?_⟩
    rw [if_pos (by omega)]
    exact ok a m rfl (Fm.refl m) he ha
  | succ r ih =>
    intro i a m hi hr hB he ux vy ha na ok er
    have hM : MU mu := hB.2.2.2.1
    have hb : RI base := by have := hB.1; have := hB.2.1; constructor <;> omega
    refine c_min (by decide) (by constructor <;> omega) ⟨by constructor <;> omega, by constructor <;> omega, ?_⟩
    rw [if_neg (by omega)]
    refine ⟨by rw [he]; decide, ?_⟩
    rw [if_pos he]
    have eu := ux.at (k := i) (by omega) (by omega)
    have ev := vy.at (k := k - i) (by omega) (by omega)
    have nui := nu i (by omega) (by omega)
    have nvi := nv (k - i) (by omega) (by omega)
    unfold dotG at ok er
    refine c_X10_multiplyNumbers he hB (by omega) (by omega) (by rw [eu]; exact nui) (by rw [ev]; exact nvi) (fun m1 h1 => ?_)
    rw [eu, ev] at h1
    refine c_put (by decide) ?_
    refine ⟨by constructor <;> omega, ?_⟩
    rw [if_neg (show ¬ i = max 0 (k - 6) by omega)]
    have f1 : Fm MD m (pt m1 635 1594002 (m1 582 87, m1 582 88)) := (Fm.ofMN h1).trans (Fm.ofPt ⟨by decide, by decide⟩ ⟨by decide, by decide⟩)
    have g84 : (pt m1 635 1594002 (m1 582 87, m1 582 88)) 582 84 = m1 582 84 := pt_oth (by decide)
    rcases hp : mulS mu (u i) (v (k - i)) with e1 | p
    · rw [hp] at ok er h1
      have e1' := mulS_err hp
      have e2 := h1.2.2 e1 rfl
      refine c_X10_addNumbers_err hb (by rw [g84, e2, e1']; decide) (by rw [g84, e2, e1']; decide) (by decide) (by decide) ?_
      refine c_put (by decide) ?_
      have f2 := f1.trans (Fm.ofPt (S := MD) (x := 1594000) (p := ((pt m1 635 1594002 (m1 582 87, m1 582 88)) 582 87, (pt m1 635 1594002 (m1 582 87, m1 582 88)) 582 88)) ⟨by decide, by decide⟩ ⟨by decide, by decide⟩)
      have g2 : (pt (pt m1 635 1594002 (m1 582 87, m1 582 88)) 635 1594000 ((pt m1 635 1594002 (m1 582 87, m1 582 88)) 582 87, (pt m1 635 1594002 (m1 582 87, m1 582 88)) 582 88)) 582 84 = e1 := by rw [pt_oth (by decide), g84, e2]
      exact rowM_err (by constructor <;> omega) (by constructor <;> omega) (by rw [g2, e1']; decide) (by rw [g2, e1']; decide) (er e1 _ rfl f2 g2)
    · rw [hp] at ok er h1
      simp only at ok er
      obtain ⟨e2, a2, b2⟩ := h1.2.1 p rfl
      have np := NB.mul hM nui nvi hp
      rw [a2, b2] at f1 g84 ⊢
      have ea : pr (pt m1 635 1594002 p) 635 1594000 = a := by
        rw [pt_ne (by decide)]
        unfold pr at ha ⊢
        rw [h1.p, h1.p]
        exact ha
      have eb : pr (pt m1 635 1594002 p) 635 1594002 = p := pt_at
      refine c_X10_addNumbers (by rw [g84, e2]) (f1.bm hB) (by decide) (by decide) (by rw [ea]; exact na) (by rw [eb]; exact np) (fun m2 h2 => ?_)
      rw [ea, eb] at h2
      refine c_put (by decide) ?_
      have f2 : Fm MD m (pt m2 635 1594000 (m2 582 87, m2 582 88)) := (f1.trans (Fm.ofMN h2)).trans (Fm.ofPt ⟨by decide, by decide⟩ ⟨by decide, by decide⟩)
      have g2 : (pt m2 635 1594000 (m2 582 87, m2 582 88)) 582 84 = m2 582 84 := pt_oth (by decide)
      rcases hs : addS mu 0 a p with e1 | s
      · rw [hs] at er h2
        have e1' := addS_err hs
        have e3 := h2.2.2 e1 rfl
        exact rowM_err (by constructor <;> omega) (by constructor <;> omega) (by rw [g2, e3, e1']; decide) (by rw [g2, e3, e1']; decide) (er e1 _ rfl f2 (by rw [g2, e3]))
      · rw [hs] at ok er h2
        simp only at ok er
        obtain ⟨e3, a3, b3⟩ := h2.2.1 s rfl
        rw [a3, b3] at f2 g2 ⊢
        exact ih (i + 1) s _ (by omega) (by omega) (f2.bm hB) (by rw [g2, e3]) (ux.fm f2 (fun j j0 j1 z => by unfold MD at z; omega)) (vy.fm f2 (fun j j0 j1 z => by unfold MD at z; omega)) pt_at (NB.add hM na np hs) (fun d m' q1 q2 q3 q4 => ok d m' q1 (f2.trans q2) q3 q4) (fun e m' q1 q2 q3 => er e m' q1 (f2.trans q2) q3)
theorem rowM_row (hx : Pl x 14) (hy : Pl y 14) (dx : Dj x 14 1594000 4) (dy : Dj y 14 1594000 4) (nu : NBs mu u 7) (nv : NBs mu v 7) {K3 : Int → Int → Int → Int → Int → MM → Prop} {k : Int} (k0 : 0 ≤ k) (k1 : k ≤ 12) {m : MM} (hB : BM m base mu) (he : m 582 84 = 0) (ux : Rw (m 635) x u 7) (vy : Rw (m 635) y v 7) (ok : ∀ d m', dotS mu u v k = .ok d → Fm MD m m' → m' 582 84 = 0 → pr m' 635 1594000 = d → P_X10_multiplyRows_121 Q K3 to x y base k m') (er : ∀ e m', dotS mu u v k = .error e → Fm MD m m' → m' 582 84 = e → Q 0 m') : ∃ nn, P_X10_multiplyRows_32 Q K3 nn to x y base k (max 0 (k - 6)) (max 0 (k - 6)) m := by
  refine ⟨(min k 6 - max 0 (k - 6)).toNat + 1 + 1, ?_⟩
  have hM : MU mu := hB.2.2.2.1
  refine c_min (by decide) (by constructor <;> omega) ⟨by constructor <;> omega, by constructor <;> omega, ?_⟩
  rw [if_neg (by omega)]
  refine ⟨by rw [he]; decide, ?_⟩
  rw [if_pos he]
  have eu := ux.at (k := max 0 (k - 6)) (by omega) (by omega)
  have ev := vy.at (k := k - max 0 (k - 6)) (by omega) (by omega)
  have nui := nu (max 0 (k - 6)) (by omega) (by omega)
  have nvi := nv (k - max 0 (k - 6)) (by omega) (by omega)
  unfold dotS at ok er
  refine c_X10_multiplyNumbers he hB (by omega) (by omega) (by rw [eu]; exact nui) (by rw [ev]; exact nvi) (fun m1 h1 => ?_)
  rw [eu, ev] at h1
  refine c_put (by decide) ?_
  refine ⟨by constructor <;> omega, ?_⟩
  rw [if_pos rfl]
  refine c_put (by decide) ?_
  have f1 : Fm MD m (pt m1 635 1594002 (m1 582 87, m1 582 88)) := (Fm.ofMN h1).trans (Fm.ofPt ⟨by decide, by decide⟩ ⟨by decide, by decide⟩)
  rw [show (pt m1 635 1594002 (m1 582 87, m1 582 88)) 582 87 = m1 582 87 from pt_oth (by decide), show (pt m1 635 1594002 (m1 582 87, m1 582 88)) 582 88 = m1 582 88 from pt_oth (by decide)]
  have f2 : Fm MD m (pt (pt m1 635 1594002 (m1 582 87, m1 582 88)) 635 1594000 (m1 582 87, m1 582 88)) := f1.trans (Fm.ofPt ⟨by decide, by decide⟩ ⟨by decide, by decide⟩)
  have g2 : (pt (pt m1 635 1594002 (m1 582 87, m1 582 88)) 635 1594000 (m1 582 87, m1 582 88)) 582 84 = m1 582 84 := by rw [pt_oth (by decide), pt_oth (by decide)]
  rcases hp : mulS mu (u (max 0 (k - 6))) (v (k - max 0 (k - 6))) with e1 | p
  · rw [hp] at er h1
    have e1' := mulS_err hp
    have e3 := h1.2.2 e1 rfl
    exact rowM_err (by constructor <;> omega) (by constructor <;> omega) (by rw [g2, e3, e1']; decide) (by rw [g2, e3, e1']; decide) (er e1 _ rfl f2 (by rw [g2, e3]))
  · rw [hp] at ok er h1
    simp only at ok er
    obtain ⟨e3, a3, b3⟩ := h1.2.1 p rfl
    rw [a3, b3] at f2 g2 ⊢
    exact rowM_in hx hy dx dy nu nv k0 k1 _ _ p _ (by omega) (by omega) (f2.bm hB) (by rw [g2, e3]) (ux.fm f2 (fun j j0 j1 z => by unfold MD at z; omega)) (vy.fm f2 (fun j j0 j1 z => by unfold MD at z; omega)) pt_at (NB.mul hM nui nvi hp) (fun d m' q1 q2 q3 q4 => ok d m' q1 (f2.trans q2) q3 q4) (fun e m' q1 q2 q3 => er e m' q1 (f2.trans q2) q3)
theorem c_X10_multiplyRows {m : MM} (hB : BM m base mu) (he : m 582 84 = 0) (hx : Pl x 14) (hy : Pl y 14) (ht : Pl to 14) (dx : Dj x 14 1594000 4) (dy : Dj y 14 1594000 4) (dt : Dj to 14 1594000 4) (ex : Dj x 14 to 14) (ey : Dj y 14 to 14) (ux : Rw (m 635) x u 7) (vy : Rw (m 635) y v 7) (nu : NBs mu u 7) (nv : NBs mu v 7) (h : OutM (fun i => MD i ∨ to ≤ i ∧ i < to + 14) m (polyS mu u v) to 7 Q) : P_X10_multiplyRows to x y base m Q := by
  have hM : MU mu := hB.2.2.2.1
  have L : ∀ (r : Nat) (k : Int) (w : Int → PP) (m' : MM), 0 ≤ k → k + r = 13 → Fm (fun i => MD i ∨ to ≤ i ∧ i < to + 14) m m' → m' 582 84 = 0 → Rw (m' 635) to w (min k 7) → polyG mu u v r k w = polyS mu u v → P_X10_multiplyRows_3 Q (r + 1) to x y base k m' := by
    intro r
    induction r with
    | zero =>
      intro k w m' k0 k1 f e rw_ hs
      refine ⟨by constructor <;> omega, ?_⟩
      rw [if_pos (by omega)]
      have rw2 : Rw (m' 635) to w 7 := by rw [show min k 7 = 7 by omega] at rw_; exact rw_
      exact h.1 w m' hs.symm f e rw2
    | succ r ih =>
      intro k w m' k0 k1 f e rw_ hs
      refine ⟨by constructor <;> omega, ?_⟩
      rw [if_neg (by omega)]
      refine ⟨by rw [e]; decide, ?_⟩
      rw [if_pos e]
      refine c_max (by decide) (by constructor <;> omega) ?_
      unfold polyG at hs
      refine rowM_row hx hy dx dy nu nv k0 (by omega) (f.bm hB) e (ux.fm f (fun j j0 j1 z => by unfold MD at z; omega)) (vy.fm f (fun j j0 j1 z => by unfold MD at z; omega)) (fun d m1 hd f1 e1 hp => ?_) (fun e2 m1 hd f1 e1 => ?_)
      · rw [hd] at hs
        simp only at hs
        have nd := dotS_NB hM nu nv k0 (by omega) hd
        have f1' : Fm (fun i => MD i ∨ to ≤ i ∧ i < to + 14) m m1 := f.trans (f1.mono (fun i a => Or.inl a))
        have rw1 : Rw (m1 635) to w (min k 7) := rw_.fm f1 (fun j j0 j1 z => by unfold MD at z; omega)
        refine ⟨by rw [e1]; decide, ?_⟩
        rw [if_pos (by omega)]
        refine ⟨by constructor <;> omega, ?_⟩
        by_cases c : 7 ≤ k
        · rw [if_pos c]
          rw [if_neg (by omega)] at hs
          have hd1 : m1 635 1594000 = d.1 := congrArg Prod.fst hp
          have b1 := nd.p1
          refine ⟨by rw [hd1]; constructor <;> omega, ?_⟩
          rw [hd1]
          by_cases c2 : d.1 = 0
          · rw [if_pos c2]
            rw [if_pos c2] at hs
            refine ih (k + 1) w m1 (by omega) (by omega) f1' e1 ?_ hs
            rw [show min (k + 1) 7 = min k 7 by omega]
            exact rw1
          · rw [if_neg c2]
            rw [if_neg c2] at hs
            rintro _ rfl
            have q := h.2 4 _ hs.symm (f1'.trans (Fm.err (e := 4))) (up_at ..)
            have : ∀ r' : Nat, P_X10_multiplyRows_3 Q (r' + 1) to x y base (k + 1) (up m1 582 84 4) := by
              intro r'
              refine ⟨by constructor <;> omega, ?_⟩
              by_cases c3 : 13 ≤ k + 1
              · rw [if_pos c3]; exact q
              · rw [if_neg c3, up_at]; exact ⟨by decide, q⟩
            exact this r
        · rw [if_neg c]
          rw [if_pos (by omega)] at hs
          refine c_copy (n := 2) (by decide) (by omega) (Or.inr (by omega)) (fun m2 f2 e2 cp => ?_)
          refine ih (k + 1) _ m2 (by omega) (by omega) (f1'.trans (f2.mono (fun i a => Or.inr (by omega)))) (by rw [e2, e1]) ?_ hs
          intro j j0 j1
          by_cases cj : j = k
          · subst cj
            unfold setP
            rw [if_pos rfl]
            have h1 := cp 0 (by decide) (by decide)
            have h2 := cp 1 (by decide) (by decide)
            rw [Int.add_zero, Int.add_zero] at h1
            exact ⟨h1.trans (congrArg Prod.fst hp), h2.trans (congrArg Prod.snd hp)⟩
          · unfold setP
            rw [if_neg cj, f2.2 _ (by omega), f2.2 _ (by omega)]
            exact rw1 j j0 (by omega)
      · rw [hd] at hs
        exact h.2 e2 m1 hs.symm (f.trans (f1.mono (fun i a => Or.inl a))) e1
  exact ⟨14, L 13 0 zr m (by omega) (by omega) (Fm.refl m) he (fun j a b => by omega) rfl⟩
end PRODM
