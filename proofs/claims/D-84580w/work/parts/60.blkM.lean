set_option maxRecDepth 100000
/-! products of blocks: the model -/
section BLKM
variable {Q : Int → MM → Prop} {base mu x y to : Int} {u v : Int → PP}
def SB (i : Int) : Prop := 1590000 ≤ i ∧ i < 1590298 ∨ 1594000 ≤ i ∧ i < 1594004
theorem blkM_err {K64 : Int → Int → Int → Int → Int → MM → Prop} {m : MM} {k fr i : Int} {r : Nat} (hk : RI k) (hi : RI i) (he : RI (m 582 84)) (h0 : 0 < m 582 84) (q : Q 0 m) : P_X10_multiplyBlocks_93 Q K64 (r + 1) to x y base k fr i m := by
  refine c_min (by decide) hk ⟨hi, by have := hk; constructor <;> omega, ?_⟩
  have z : P_X10_multiplyBlocks_190 Q K64 to x y base k m := ⟨he, by rw [if_neg (by omega)]; exact q⟩
  by_cases c : min 6 k < i
  · rw [if_pos c]; exact z
  · rw [if_neg c]
    refine ⟨he, ?_⟩
    rw [if_neg (by omega)]
    exact z
theorem blkM_in (hx : Pl x 98) (hy : Pl y 98) (dx : Dj x 98 1590000 298) (dy : Dj y 98 1590000 298) (dx' : Dj x 98 1594000 4) (dy' : Dj y 98 1594000 4) (nu : NBs mu u 49) (nv : NBs mu v 49) {K64 : Int → Int → Int → Int → Int → MM → Prop} {k : Int} (k0 : 0 ≤ k) (k1 : k ≤ 12) : ∀ (r : Nat) (i : Int) (a : Int → PP) (m : MM), max 0 (k - 6) < i → i + r = min k 6 + 1 → BM m base mu → m 582 84 = 0 → Rw (m 635) x u 49 → Rw (m 635) y v 49 → Rw (m 635) 1590000 a 7 → NBs mu a 7 → (∀ d m', dot2G mu u v k r i a = .ok d → Fm (fun i => SB i ∧ i < 1590200 ∨ MD i) m m' → m' 582 84 = 0 → Rw (m' 635) 1590000 d 7 → P_X10_multiplyBlocks_190 Q K64 to x y base k m') → (∀ e m', dot2G mu u v k r i a = .error e → Fm (fun i => SB i ∧ i < 1590200 ∨ MD i) m m' → m' 582 84 = e → Q 0 m') → P_X10_multiplyBlocks_93 Q K64 (r + 1) to x y base k (max 0 (k - 6)) i m := by
  intro r
  induction r with
  | zero =>
    intro i a m hi hr hB he ux vy ha na ok er
    refine c_min (by decide) (by constructor <;> omega) ⟨by constructor <;> omega, by constructor <;> omega, ?_⟩
    rw [if_pos (by omega)]
    exact ok a m rfl (Fm.refl m) he ha
  | succ r ih =>
    intro i a m hi hr hB he ux vy ha na ok er
    have hM : MU mu := hB.2.2.2.1
    refine c_min (by decide) (by constructor <;> omega) ⟨by constructor <;> omega, by constructor <;> omega, ?_⟩
    rw [if_neg (by omega)]
    refine ⟨by rw [he]; decide, ?_⟩
    rw [if_pos he]
    have nui := rowP_NB nu (k := i) (by omega) (by omega)
    have nvi := rowP_NB nv (k := k - i) (by omega) (by omega)
    unfold dot2G at ok er
    refine c_X10_multiplyRows hB he (by omega) (by omega) (by decide) (by omega) (by omega) (by decide) (by omega) (by omega) (ux.row (by omega) (by omega)) (vy.row (by omega) (by omega)) nui nvi ⟨fun t m1 ht f1 e1 r1 => ?_, fun e m1 ht f1 e1 => ?_⟩
    · rw [ht] at ok er
      simp only at ok er
      have nt := polyS_NB hM nui nvi ht
      have f1' : Fm (fun i => SB i ∧ i < 1590200 ∨ MD i) m m1 := f1.mono (fun i z => by unfold MD at z ⊢; unfold SB; omega)
      refine ⟨by rw [e1]; decide, ?_⟩
      rw [if_pos (by omega)]
      refine ⟨by constructor <;> omega, ?_⟩
      rw [if_neg (show ¬ i = max 0 (k - 6) by omega)]
      refine c_X10_addBlocks (d := 1) (u := a) (v := t) (by decide) (f1.bm hB) e1 (by decide) (by decide) (by decide) (Or.inl rfl) (by decide) (ha.fm f1 (fun j j0 j1 z => by unfold MD at z; omega)) r1 na (fun j _ _ => nt.1 j) ⟨fun s m2 hs f2 e2 r2 => ?_, fun e m2 hs f2 e2 => ?_⟩
      · have hs' : addR mu 0 7 a t = .ok s := hs
        rw [hs'] at ok er
        simp only at ok er
        have f2' : Fm (fun i => SB i ∧ i < 1590200 ∨ MD i) m m2 := f1'.trans (f2.mono (fun i z => by have z1 : 1590000 ≤ i ∧ i < 1590000 + 2 * 7 := z; unfold SB; omega))
        exact ih (i + 1) s m2 (by omega) (by omega) (f2'.bm hB) e2 (ux.fm f2' (fun j j0 j1 z => by unfold SB MD at z; omega)) (vy.fm f2' (fun j j0 j1 z => by unfold SB MD at z; omega)) r2 (fun j _ _ => addR_NB hM na (fun j _ _ => nt.1 j) hs' j) (fun d m' h1 h2 h3 h4 => ok d m' h1 (f2'.trans h2) h3 h4) (fun e m' h1 h2 h3 => er e m' h1 (f2'.trans h2) h3)
      · have hs' : addR mu 0 7 a t = .error e := hs
        rw [hs'] at er
        have := addR_err hs'
        refine blkM_err (by constructor <;> omega) (by constructor <;> omega) (by rw [e2, this]; decide) (by rw [e2, this]; decide) (er e m2 rfl (f1'.trans (f2.mono (fun i z => by have z1 : 1590000 ≤ i ∧ i < 1590000 + 2 * 7 := z; unfold SB; omega))) e2)
    · rw [ht] at er
      have := polyS_err ht
      refine ⟨by rw [e1]; constructor <;> omega, ?_⟩
      rw [if_neg (by rw [e1]; omega)]
      exact er e m1 rfl (f1.mono (fun i z => by unfold MD at z ⊢; unfold SB; omega)) e1
theorem blkM_row (hx : Pl x 98) (hy : Pl y 98) (dx : Dj x 98 1590000 298) (dy : Dj y 98 1590000 298) (dx' : Dj x 98 1594000 4) (dy' : Dj y 98 1594000 4) (nu : NBs mu u 49) (nv : NBs mu v 49) {K64 : Int → Int → Int → Int → Int → MM → Prop} {k : Int} (k0 : 0 ≤ k) (k1 : k ≤ 12) {m : MM} (hB : BM m base mu) (he : m 582 84 = 0) (ux : Rw (m 635) x u 49) (vy : Rw (m 635) y v 49) (ok : ∀ d m', dot2S mu u v k = .ok d → Fm (fun i => SB i ∧ i < 1590200 ∨ MD i) m m' → m' 582 84 = 0 → Rw (m' 635) 1590000 d 7 → P_X10_multiplyBlocks_190 Q K64 to x y base k m') (er : ∀ e m', dot2S mu u v k = .error e → Fm (fun i => SB i ∧ i < 1590200 ∨ MD i) m m' → m' 582 84 = e → Q 0 m') : ∃ nn, P_X10_multiplyBlocks_93 Q K64 nn to x y base k (max 0 (k - 6)) (max 0 (k - 6)) m := by
  refine ⟨(min k 6 - max 0 (k - 6)).toNat + 1 + 1, ?_⟩
  have hM : MU mu := hB.2.2.2.1
  refine c_min (by decide) (by constructor <;> omega) ⟨by constructor <;> omega, by constructor <;> omega, ?_⟩
  rw [if_neg (by omega)]
  refine ⟨by rw [he]; decide, ?_⟩
  rw [if_pos he]
  have nui := rowP_NB nu (k := max 0 (k - 6)) (by omega) (by omega)
  have nvi := rowP_NB nv (k := k - max 0 (k - 6)) (by omega) (by omega)
  unfold dot2S at ok er
  refine c_X10_multiplyRows hB he (by omega) (by omega) (by decide) (by omega) (by omega) (by decide) (by omega) (by omega) (ux.row (by omega) (by omega)) (vy.row (by omega) (by omega)) nui nvi ⟨fun t m1 ht f1 e1 r1 => ?_, fun e m1 ht f1 e1 => ?_⟩
  · rw [ht] at ok er
    simp only at ok er
    have nt := polyS_NB hM nui nvi ht
    have f1' : Fm (fun i => SB i ∧ i < 1590200 ∨ MD i) m m1 := f1.mono (fun i z => by unfold MD at z ⊢; unfold SB; omega)
    refine ⟨by rw [e1]; decide, ?_⟩
    rw [if_pos (by omega)]
    refine ⟨by constructor <;> omega, ?_⟩
    rw [if_pos rfl]
    refine c_copy (n := 14) (by decide) (by decide) (by decide) (fun m2 f2 e2 cp => ?_)
    have f2' : Fm (fun i => SB i ∧ i < 1590200 ∨ MD i) m m2 := f1'.trans (f2.mono (fun i z => by have z1 : 1590000 ≤ i ∧ i < 1590000 + 14 := z; unfold SB; omega))
    exact blkM_in hx hy dx dy dx' dy' nu nv k0 k1 _ _ t _ (by omega) (by omega) (f2'.bm hB) (by rw [e2, e1]) (ux.fm f2' (fun j j0 j1 z => by unfold SB MD at z; omega)) (vy.fm f2' (fun j j0 j1 z => by unfold SB MD at z; omega)) (r1.cp cp) (fun j _ _ => nt.1 j) (fun d m' h1 h2 h3 h4 => ok d m' h1 (f2'.trans h2) h3 h4) (fun e m' h1 h2 h3 => er e m' h1 (f2'.trans h2) h3)
  · rw [ht] at er
    have := polyS_err ht
    refine ⟨by rw [e1]; constructor <;> omega, ?_⟩
    rw [if_neg (by rw [e1]; omega)]
    exact er e m1 rfl (f1.mono (fun i z => by unfold MD at z ⊢; unfold SB; omega)) e1
theorem blkM_end {m : MM} (he : m 582 84 ≠ 0) (hr : RI (m 582 84)) (q : Q 0 m) : P_X10_multiplyBlocks_249 Q to m := by
  refine ⟨hr, ?_⟩
  rw [if_neg he]
  exact q
theorem c_X10_blk2 {m : MM} (hB : BM m base mu) (he : m 582 84 = 0) (hx : Pl x 98) (hy : Pl y 98) (ht : Pl to 98) (dx : Dj x 98 1590000 298) (dy : Dj y 98 1590000 298) (dx' : Dj x 98 1594000 4) (dy' : Dj y 98 1594000 4) (dt : Dj to 98 1590000 298) (ux : Rw (m 635) x u 49) (vy : Rw (m 635) y v 49) (nu : NBs mu u 49) (nv : NBs mu v 49) (h : OutM (fun i => SB i ∨ to ≤ i ∧ i < to + 98) m (poly2S mu u v) to 49 Q) : ∃ nn, P_X10_multiplyBlocks_64 Q nn to x y base 0 m := by
  have hM : MU mu := hB.2.2.2.1
  have L : ∀ (r : Nat) (k : Int) (w : Int → PP) (m' : MM), 0 ≤ k → k + r = 13 → Fm SB m m' → m' 582 84 = 0 → Rw (m' 635) 1590200 w (7 * min k 7) → poly2G mu u v r k w = poly2S mu u v → P_X10_multiplyBlocks_64 Q (r + 1) to x y base k m' := by
    intro r
    induction r with
    | zero =>
      intro k w m' k0 k1 f e rw_ hs
      refine ⟨by constructor <;> omega, ?_⟩
      rw [if_pos (by omega)]
      have rw2 : Rw (m' 635) 1590200 w 49 := by rw [show 7 * min k 7 = 49 by omega] at rw_; exact rw_
      refine ⟨by rw [e]; decide, ?_⟩
      rw [if_pos e]
      refine c_copy (n := 98) (by decide) ht (Or.inr (by omega)) (fun m2 f2 e2 cp => ?_)
      exact h.1 w m2 hs.symm ((f.mono (fun i z => Or.inl z)).trans (f2.mono (fun i z => Or.inr z))) (by rw [e2, e]) (rw2.cp cp)
    | succ r ih =>
      intro k w m' k0 k1 f e rw_ hs
      refine ⟨by constructor <;> omega, ?_⟩
      rw [if_neg (by omega)]
      refine ⟨by rw [e]; decide, ?_⟩
      rw [if_pos e]
      refine c_max (by decide) (by constructor <;> omega) ?_
      unfold poly2G at hs
      refine blkM_row hx hy dx dy dx' dy' nu nv k0 (by omega) (f.bm hB) e (ux.fm f (fun j j0 j1 z => by unfold SB at z; omega)) (vy.fm f (fun j j0 j1 z => by unfold SB at z; omega)) (fun d m1 hd f1 e1 hp => ?_) (fun e2 m1 hd f1 e1 => ?_)
      · rw [hd] at hs
        simp only at hs
        have nd := dot2S_NB hM nu nv k0 (by omega) hd
        have f1' : Fm SB m m1 := f.trans (f1.mono (fun i z => by unfold MD at z; unfold SB at z ⊢; omega))
        have rw1 : Rw (m1 635) 1590200 w (7 * min k 7) := rw_.fm f1 (fun j j0 j1 z => by unfold MD SB at z; omega)
        refine ⟨by rw [e1]; decide, ?_⟩
        rw [if_pos (by omega)]
        refine ⟨by constructor <;> omega, ?_⟩
        by_cases c : 7 ≤ k
        · rw [if_pos c]
          rw [if_neg (by omega)] at hs
          refine c_isZero (n := 7) (u := d) (by decide) (by decide) hp (fun j _ _ => by have := (nd.1 j).p1; constructor <;> omega) ?_
          by_cases c2 : allZ d 7 0 = true
          · rw [if_pos c2]
            rw [if_pos c2] at hs
            refine ⟨by decide, ?_⟩
            rw [if_neg (by decide)]
            refine ih (k + 1) w m1 (by omega) (by omega) f1' e1 ?_ hs
            rw [show 7 * min (k + 1) 7 = 7 * min k 7 by omega]
            exact rw1
          · rw [if_neg c2]
            rw [if_neg c2] at hs
            refine ⟨by decide, ?_⟩
            rw [if_pos rfl]
            rintro _ rfl
            have q := h.2 4 _ hs.symm ((f1'.mono (fun i z => Or.inl z)).trans (Fm.err (e := 4))) (up_at ..)
            have e4 : P_X10_multiplyBlocks_249 Q to (up m1 582 84 4) := blkM_end (by rw [up_at]; decide) (by rw [up_at]; decide) q
            refine ⟨by constructor <;> omega, ?_⟩
            by_cases c3 : 13 ≤ k + 1
            · rw [if_pos c3]; exact e4
            · rw [if_neg c3, up_at]; exact ⟨by decide, e4⟩
        · rw [if_neg c]
          rw [if_pos (by omega)] at hs
          refine c_copy (n := 14) (by decide) (by omega) (Or.inr (by omega)) (fun m2 f2 e2 cp => ?_)
          refine ih (k + 1) _ m2 (by omega) (by omega) (f1'.trans (f2.mono (fun i z => by unfold SB; omega))) (by rw [e2, e1]) ?_ hs
          have r2 := hp.cp (n := 7) cp
          intro j j0 j1
          by_cases cj : 7 * k ≤ j ∧ j < 7 * k + 7
          · unfold setR
            rw [if_pos cj]
            have := r2 (j - 7 * k) (by omega) (by omega)
            rw [show 1590200 + 14 * k + 2 * (j - 7 * k) = 1590200 + 2 * j by omega] at this
            exact this
          · unfold setR
            rw [if_neg cj, f2.2 _ (by omega), f2.2 _ (by omega)]
            exact rw1 j j0 (by omega)
      · rw [hd] at hs
        exact h.2 e2 m1 hs.symm ((f.trans (f1.mono (fun i z => by unfold MD at z; unfold SB at z ⊢; omega))).mono (fun i z => Or.inl z)) e1
  exact ⟨14, L 13 0 zr m (by omega) (by omega) (Fm.refl m) he (fun j a b => by omega) rfl⟩
theorem c_X10_multiplyBlocks {m : MM} {d : Int} (hd : 0 ≤ d ∧ d ≤ 2) (hB : BM m base mu) (he : m 582 84 = 0) (hx : Pl x (2 * cof d)) (hy : Pl y (2 * cof d)) (ht : Pl to (2 * cof d)) (dx : Dj x (2 * cof d) 1590000 298) (dy : Dj y (2 * cof d) 1590000 298) (dx' : Dj x (2 * cof d) 1594000 4) (dy' : Dj y (2 * cof d) 1594000 4) (dt : Dj to (2 * cof d) 1590000 298) (ux : Rw (m 635) x u (cof d)) (vy : Rw (m 635) y v (cof d)) (nu : NBs mu u (cof d)) (nv : NBs mu v (cof d)) (h : OutM (fun i => SB i ∨ to ≤ i ∧ i < to + 2 * cof d) m (prodS mu d u v) to (cof d) Q) : P_X10_multiplyBlocks to x y base d m Q := by
  unfold P_X10_multiplyBlocks
  refine ⟨by constructor <;> omega, ?_⟩
  unfold prodS at h
  rcases cof_cs hd with ⟨e1, e2⟩ | ⟨e1, e2⟩ | ⟨e1, e2⟩ <;> rw [e2] at hx hy ht dx dy dx' dy' dt ux vy nu nv h
  · rw [if_pos e1] at h ⊢
    have eu := ux.at (k := 0) (by decide) (by decide)
    have ev := vy.at (k := 0) (by decide) (by decide)
    rw [show x + 2 * 0 = x by omega] at eu
    rw [show y + 2 * 0 = y by omega] at ev
    refine c_X10_multiplyNumbers he hB (by omega) (by omega) (by rw [eu]; exact nu 0 (by decide) (by decide)) (by rw [ev]; exact nv 0 (by decide) (by decide)) (fun m1 h1 => ?_)
    rw [eu, ev] at h1
    rcases hp : mulS mu (u 0) (v 0) with e | p
    · rw [hp] at h h1
      have e1' := mulS_err hp
      have e3 := h1.2.2 e rfl
      refine ⟨by rw [e3, e1']; decide, ?_⟩
      rw [if_neg (by rw [e3, e1']; decide)]
      exact h.2 e m1 rfl (Fm.ofMN h1) e3
    · rw [hp] at h h1
      obtain ⟨e3, a3, b3⟩ := h1.2.1 p rfl
      refine ⟨by rw [e3]; decide, ?_⟩
      rw [if_pos e3]
      refine c_put (by omega) ?_
      rw [a3, b3]
      refine h.1 _ _ rfl ((Fm.ofMN h1).trans (Fm.ofPt (by omega) (by omega))) (by rw [pt_oth (by decide)]; exact e3) (fun j j0 j1 => ?_)
      have : j = 0 := by omega
      subst this
      rw [show to + 2 * 0 = to by omega]
      have q := pt_at (m := m1) (a := 635) (x := to) (p := p)
      exact ⟨congrArg Prod.fst q, congrArg Prod.snd q⟩
  · rw [if_neg (by omega), if_pos e1] at h ⊢
    refine c_X10_multiplyRows hB he (by omega) (by omega) (by decide) (by omega) (by omega) (by decide) (by omega) (by omega) ux vy nu nv ⟨fun w m1 h1 f1 q1 r1 => ?_, fun e m1 h1 f1 q1 => ?_⟩
    · refine ⟨by rw [q1]; decide, ?_⟩
      rw [if_pos q1]
      refine c_copy (n := 14) (by decide) (by omega) (Or.inr (by omega)) (fun m2 f2 e3 cp => ?_)
      exact h.1 w m2 h1 ((f1.mono (fun i z => by unfold MD at z; unfold SB; omega)).trans (f2.mono (fun i z => by right; omega))) (by rw [e3, q1]) (r1.cp (n := 7) cp)
    · have := polyS_err h1
      refine ⟨by rw [q1]; constructor <;> omega, ?_⟩
      rw [if_neg (by rw [q1]; omega)]
      exact h.2 e m1 h1 (f1.mono (fun i z => by unfold MD at z; unfold SB; omega)) q1
  · rw [if_neg (by omega), if_neg (by omega)] at h ⊢
    exact c_X10_blk2 hB he (by omega) (by omega) (by omega) (by omega) (by omega) (by omega) (by omega) (by omega) ux vy nu nv h
end BLKM
