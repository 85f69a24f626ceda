set_option maxRecDepth 100000
/-! rows and blocks of numbers: the model -/
def Fm (S : Int → Prop) (m m' : MM) : Prop := (∀ c i, c ≠ 635 → ¬ (c = 582 ∧ (i = 84 ∨ i = 87 ∨ i = 88)) → m' c i = m c i) ∧ ∀ i, ¬ S i → m' 635 i = m 635 i
theorem Fm.refl {S : Int → Prop} (m : MM) : Fm S m m := ⟨fun _ _ _ _ => rfl, fun _ _ => rfl⟩
theorem Fm.trans {S : Int → Prop} {m m1 m2 : MM} (h : Fm S m m1) (k : Fm S m1 m2) : Fm S m m2 := ⟨fun c i a b => (k.1 c i a b).trans (h.1 c i a b), fun i a => (k.2 i a).trans (h.2 i a)⟩
theorem Fm.mono {S S' : Int → Prop} {m m1 : MM} (h : Fm S m m1) (k : ∀ i, S i → S' i) : Fm S' m m1 := ⟨h.1, fun i a => h.2 i (fun b => a (k i b))⟩
theorem Fm.ofMN {S : Int → Prop} {m m1 : MM} {r : EX PP} (h : MN m m1 r) : Fm S m m1 := ⟨fun c i _ b => h.1 c i b, fun i _ => h.1 635 i (fun z => absurd z.1 (by decide))⟩
theorem Fm.ofPt {S : Int → Prop} {m : MM} {x : Int} {p : PP} (h1 : S x) (h2 : S (x + 1)) : Fm S m (pt m 635 x p) := by
  refine ⟨fun c i a b => ?_, fun i a => ?_⟩
  · unfold pt; rw [up_ne (fun z => a z.1), up_ne (fun z => a z.1)]
  · unfold pt; rw [up_neI (show i ≠ x + 1 from fun z => a (by rw [z]; exact h2)), up_neI (show i ≠ x from fun z => a (by rw [z]; exact h1))]
theorem Fm.ofUp {S : Int → Prop} {m : MM} {x v : Int} (h1 : S x) : Fm S m (up m 635 x v) := ⟨fun c i a b => up_ne (fun z => a z.1), fun i a => up_neI (show i ≠ x from fun z => a (by rw [z]; exact h1))⟩
theorem Fm.err {S : Int → Prop} {m : MM} {e : Int} : Fm S m (up m 582 84 e) := ⟨fun c i a b => up_ne (fun z => b ⟨z.1, Or.inl z.2⟩), fun i a => up_ne (fun z => absurd z.1 (by decide))⟩
theorem Fm.bm {S : Int → Prop} {m m' : MM} {base mu : Int} (h : Fm S m m') (k : BM m base mu) : BM m' base mu := by
  obtain ⟨k0, k1, k2, k3, k4⟩ := k
  refine ⟨k0, k1, ?_, k3, k4⟩
  unfold muM at k2 ⊢
  rw [h.1 582 89 (by decide) (by decide)]
  exact k2
theorem Rw.fm {S : Int → Prop} {m m' : MM} {x n : Int} {u : Int → PP} (h : Rw (m 635) x u n) (f : Fm S m m') (d : ∀ i, x ≤ i → i < x + 2 * n → ¬ S i) : Rw (m' 635) x u n := by
  intro k h0 h1
  rw [f.2 _ (d _ (by omega) (by omega)), f.2 _ (d _ (by omega) (by omega))]
  exact h k h0 h1
abbrev Pl (x n : Int) : Prop := 0 ≤ x ∧ x + n ≤ 1600000
def OutM (S : Int → Prop) (m : MM) (r : EX (Int → PP)) (to n : Int) (Q : Int → MM → Prop) : Prop := (∀ w m', r = .ok w → Fm S m m' → m' 582 84 = 0 → Rw (m' 635) to w n → Q 0 m') ∧ (∀ e m', r = .error e → Fm S m m' → m' 582 84 = e → Q 0 m')
theorem c_width {m : MM} {Q : Int → MM → Prop} {d : Int} (hd : 0 ≤ d ∧ d ≤ 2) (h : Q (2 * cof d) m) : P_X10_width d m Q := by
  refine ⟨by constructor <;> omega, ?_⟩
  unfold cof at h
  split
  case isTrue c => rw [if_pos c] at h; exact h
  case isFalse c =>
    rw [if_neg c] at h
    split
    case isTrue c1 => rw [if_pos c1] at h; exact h
    case isFalse c1 => rw [if_neg c1] at h; exact h
theorem c_rows {m : MM} {Q : Int → MM → Prop} {s : Int} (hs : 0 ≤ s ∧ s ≤ 3) (h : Q (rws s) m) : P_X10_rows s m Q := by
  refine ⟨by constructor <;> omega, ?_⟩
  unfold rws at h
  split
  case isTrue c => rw [c] at h; exact h
  case isFalse c => rw [show max 1 s = s by omega] at h; exact h
theorem c_put {m : MM} {Q : Int → MM → Prop} {x : Int} (hx : 0 ≤ x ∧ x + 1 < 1600000) (h : Q 0 (pt m 635 x (m 582 87, m 582 88))) : P_X10_put x m Q := by
  refine ⟨by omega, ?_⟩
  rintro _ rfl
  refine ⟨by omega, ?_⟩
  rintro _ rfl
  rw [up_ne (fun z => absurd z.1 (by decide))]
  exact h
theorem c_set {m : MM} {Q : Int → MM → Prop} {x a : Int} (hx : 0 ≤ x ∧ x + 1 < 1600000) (h : Q 0 (pt m 635 x (a, 1))) : P_X10_set x a m Q := by
  refine ⟨by omega, ?_⟩
  rintro _ rfl
  refine ⟨by omega, ?_⟩
  rintro _ rfl
  exact h
theorem c_copy {m : MM} {Q : Int → MM → Prop} {to x : Int} {n : Nat} (hx : 0 ≤ x ∧ x + n ≤ 1600000) (ht : 0 ≤ to ∧ to + n ≤ 1600000) (hd : to = x ∨ Dj to n x n) (h : ∀ m', Fm (fun i => to ≤ i ∧ i < to + n) m m' → m' 582 84 = m 582 84 → (∀ i, 0 ≤ i → i < (n : Int) → m' 635 (to + i) = m 635 (x + i)) → Q 0 m') : P_X10_copy to x n m Q := by
  have L : ∀ (r : Nat) (k : Nat) (m' : MM), k + r = n → Fm (fun i => to ≤ i ∧ i < to + n) m m' → m' 582 84 = m 582 84 → (∀ i, 0 ≤ i → i < (k : Int) → m' 635 (to + i) = m 635 (x + i)) → (∀ i, (k : Int) ≤ i → i < (n : Int) → m' 635 (x + i) = m 635 (x + i)) → P_X10_copy_3 Q (r + 1) to x n k m' := by
    intro r
    induction r with
    | zero =>
      intro k m' hk f e a1 a2
      refine ⟨by constructor <;> omega, by constructor <;> omega, ?_⟩
      rw [if_pos (by omega)]
      have : k = n := by omega
      subst this
      exact h m' f e a1
    | succ r ih =>
      intro k m' hk f e a1 a2
      refine ⟨by constructor <;> omega, by constructor <;> omega, ?_⟩
      rw [if_neg (by omega)]
      refine ⟨by omega, by omega, ?_⟩
      rintro _ rfl
      refine ih (k + 1) _ (by omega) (f.trans (Fm.ofUp (by omega))) (by rw [up_ne (fun z => absurd z.1 (by decide))]; exact e) (fun i i0 i1 => ?_) (fun i i0 i1 => ?_)
      · by_cases c : i = k
        · subst c
          rw [up_at]
          exact a2 _ (by omega) (by omega)
        · rw [up_neI (by omega)]
          exact a1 i i0 (by omega)
      · rw [up_neI (by omega)]
        exact a2 i (by omega) i1
  exact ⟨n + 1, L n 0 m (by omega) (Fm.refl m) rfl (fun i a b => by omega) (fun i a b => rfl)⟩
theorem c_clear {m : MM} {Q : Int → MM → Prop} {at_ : Int} {n : Nat} (h0 : 0 ≤ at_) (h1 : at_ + 2 * n ≤ 1600000) (h : ∀ m', Fm (fun i => at_ ≤ i ∧ i < at_ + 2 * n) m m' → m' 582 84 = m 582 84 → Rw (m' 635) at_ zr n → Q 0 m') : P_X10_clear at_ (2 * (n : Int)) m Q := by
  have L : ∀ (r : Nat) (k : Nat) (m' : MM), k + r = n → Fm (fun i => at_ ≤ i ∧ i < at_ + 2 * n) m m' → m' 582 84 = m 582 84 → Rw (m' 635) at_ zr k → P_X10_clear_2 Q (r + 1) at_ (2 * (n : Int)) (2 * (k : Int)) m' := by
    intro r
    induction r with
    | zero =>
      intro k m' hr f e w
      have : k = n := by omega
      subst this
      refine ⟨by constructor <;> omega, by constructor <;> omega, ?_⟩
      rw [if_pos (by omega)]
      exact h m' f e w
    | succ r ih =>
      intro k m' hr f e w
      refine ⟨by constructor <;> omega, by constructor <;> omega, ?_⟩
      rw [if_neg (by omega)]
      refine c_set (by omega) ?_
      have key := ih (k + 1) (pt m' 635 (at_ + 2 * (k : Int)) (0, 1)) (by omega) (f.trans (Fm.ofPt (by omega) (by omega))) (by rw [pt_oth (by decide)]; exact e) ?_
      · rw [show 2 * (((k + 1 : Nat)) : Int) = 2 * (k : Int) + 2 by omega] at key
        exact key
      · intro j j0 j1
        by_cases cj : j = k
        · subst cj
          have q := pt_at (m := m') (a := 635) (x := at_ + 2 * (k : Int)) (p := (0, 1))
          exact ⟨congrArg Prod.fst q, congrArg Prod.snd q⟩
        · have q := pt_ne (m := m') (a := 635) (x := at_ + 2 * (k : Int)) (y := at_ + 2 * j) (p := (0, 1)) (by omega)
          have w1 := w j j0 (by omega)
          exact ⟨(congrArg Prod.fst q).trans w1.1, (congrArg Prod.snd q).trans w1.2⟩
  exact ⟨n + 1, L n 0 m (by omega) (Fm.refl m) rfl (fun j a b => by omega)⟩
theorem c_isZero {m : MM} {Q : Int → MM → Prop} {at_ : Int} {n : Nat} {u : Int → PP} (h0 : 0 ≤ at_) (h1 : at_ + 2 * n ≤ 1600000) (w : Rw (m 635) at_ u n) (hr : ∀ k, 0 ≤ k → k < (n : Int) → RL (u k).1) (h : Q (if allZ u n 0 = true then 1 else 0) m) : P_X10_isZero at_ (2 * (n : Int)) m Q := by
  have L : ∀ (r : Nat) (k : Nat), k + r = n → Q (if allZ u r (k : Int) = true then 1 else 0) m → P_X10_isZero_2 Q (r + 1) at_ (2 * (n : Int)) (2 * (k : Int)) m := by
    intro r
    induction r with
    | zero =>
      intro k hk q
      refine ⟨by constructor <;> omega, by constructor <;> omega, ?_⟩
      rw [if_pos (by omega)]
      exact q
    | succ r ih =>
      intro k hk q
      refine ⟨by constructor <;> omega, by constructor <;> omega, ?_⟩
      rw [if_neg (by omega)]
      have e := (w k (by omega) (by omega)).1
      have hrk := hr k (by omega) (by omega)
      refine ⟨by omega, by rw [e]; exact hrk, ?_⟩
      rw [e]
      unfold allZ at q
      by_cases c : (u k).1 = 0
      · rw [if_pos c]
        rw [if_pos c] at q
        have key := ih (k + 1) (by omega) q
        rw [show 2 * (((k + 1 : Nat)) : Int) = 2 * (k : Int) + 2 by omega] at key
        exact key
      · rw [if_neg c]
        rw [if_neg c] at q
        exact q
  exact ⟨n + 1, L n 0 (by omega) h⟩
theorem c_X10_addNumbers_err {m : MM} {Q : Int → MM → Prop} {base x y : Int} (hb : RI base) (he : RI (m 582 84)) (h0 : 0 < m 582 84) (hx : 0 ≤ x ∧ x + 1 < 1600000) (hy : 0 ≤ y ∧ y + 1 < 1600000) (h : Q 0 m) : P_X10_addNumbers base x y m Q := by
  unfold P_X10_addNumbers
  refine ⟨hb, ?_⟩
  split
  · exact ⟨by omega, by omega, by omega, by omega, c_X10_number_err he h0 h⟩
  · exact ⟨by omega, by omega, c_X10_number_err he h0 h⟩
theorem c_X10_addBlocks_err {m : MM} {Q : Int → MM → Prop} {base to x y d : Int} (hd : 0 ≤ d ∧ d ≤ 2) (he : RI (m 582 84)) (h0 : m 582 84 ≠ 0) (h : Q 0 m) : P_X10_addBlocks to x y base d m Q := by
  refine ⟨1, ?_⟩
  have hc := cof_bd hd
  refine c_width hd ⟨by decide, by constructor <;> omega, ?_⟩
  rw [if_neg (by omega)]
  refine ⟨he, ?_⟩
  rw [if_neg h0]
  exact h
theorem c_X10_addBlocks {m : MM} {Q : Int → MM → Prop} {base mu to x y d : Int} {u v : Int → PP} (hd : 0 ≤ d ∧ d ≤ 2) (hB : BM m base mu) (he : m 582 84 = 0) (hx : Pl x (2 * cof d)) (hy : Pl y (2 * cof d)) (ht : Pl to (2 * cof d)) (ax : to = x ∨ Dj to (2 * cof d) x (2 * cof d)) (ay : to = y ∨ Dj to (2 * cof d) y (2 * cof d)) (ux : Rw (m 635) x u (cof d)) (vy : Rw (m 635) y v (cof d)) (nu : NBs mu u (cof d)) (nv : NBs mu v (cof d)) (h : OutM (fun i => to ≤ i ∧ i < to + 2 * cof d) m (addR mu 0 (cof d).toNat u v) to (cof d) Q) : P_X10_addBlocks to x y base d m Q := by
  have hc := cof_bd hd
  have hcN : ((cof d).toNat : Int) = cof d := by omega
  have hM : MU mu := hB.2.2.2.1
  have L : ∀ (r : Nat) (k : Nat) (w : Int → PP) (m' : MM), (k : Int) + r = cof d → Fm (fun i => to ≤ i ∧ i < to + 2 * cof d) m m' → m' 582 84 = 0 → Rw (m' 635) to w k → (∀ j : Int, (k : Int) ≤ j → j < cof d → pr m' 635 (x + 2 * j) = u j ∧ pr m' 635 (y + 2 * j) = v j) → seqE (fun k => addS mu 0 (u k) (v k)) r k w = addR mu 0 (cof d).toNat u v → P_X10_addBlocks_3 Q (r + 1) to x y base d (2 * (k : Int)) m' := by
    intro r
    induction r with
    | zero =>
      intro k w m' hk f e rw_ _ hs
      refine c_width hd ⟨by constructor <;> omega, by constructor <;> omega, ?_⟩
      rw [if_pos (by omega)]
      have : (k : Int) = cof d := by omega
      rw [this] at rw_
      exact h.1 w m' hs.symm f e rw_
    | succ r ih =>
      intro k w m' hk f e rw_ hin hs
      refine c_width hd ⟨by constructor <;> omega, by constructor <;> omega, ?_⟩
      rw [if_neg (by omega)]
      refine ⟨by rw [e]; decide, ?_⟩
      rw [if_pos e]
      obtain ⟨hu, hv⟩ := hin k (by omega) (by omega)
      have nuk := nu k (by omega) (by omega)
      have nvk := nv k (by omega) (by omega)
      unfold seqE at hs
      refine c_X10_addNumbers e (f.bm hB) (by omega) (by omega) (by rw [hu]; exact nuk) (by rw [hv]; exact nvk) (fun m1 h1 => ?_)
      rw [hu, hv] at h1
      have f1 : Fm (fun i => to ≤ i ∧ i < to + 2 * cof d) m m1 := f.trans (Fm.ofMN h1)
      have p1 : ∀ i, m1 635 i = m' 635 i := fun i => h1.1 635 i (fun z => absurd z.1 (by decide))
      refine c_put (by omega) ?_
      rcases hq : addS mu 0 (u k) (v k) with e1 | p
      · rw [hq] at h1 hs
        have e1' := addS_err hq
        have e2 := h1.2.2 e1 rfl
        have fin : Q 0 (pt m1 635 (to + 2 * (k : Int)) (m1 582 87, m1 582 88)) := h.2 e1 _ hs.symm (f1.trans (Fm.ofPt (by omega) (by omega))) (by rw [pt_oth (by decide)]; exact e2)
        refine c_width hd ⟨by constructor <;> omega, by constructor <;> omega, ?_⟩
        split
        · exact fin
        · rw [pt_oth (by decide), e2, e1']
          exact ⟨by decide, fin⟩
      · rw [hq] at h1 hs
        obtain ⟨e2, a2, b2⟩ := h1.2.1 p rfl
        rw [a2, b2]
        have key := ih (k + 1) (setP w k p) (pt m1 635 (to + 2 * (k : Int)) p) (by omega) (f1.trans (Fm.ofPt (by omega) (by omega))) (by rw [pt_oth (by decide)]; exact e2) ?_ ?_ (by rw [← hs]; rfl)
        · rw [show 2 * (((k + 1 : Nat)) : Int) = 2 * (k : Int) + 2 by omega] at key
          exact key
        · intro j j0 j1
          by_cases cj : j = k
          · subst cj
            have := pt_at (m := m1) (a := 635) (x := to + 2 * (k : Int)) (p := p)
            unfold setP
            rw [if_pos rfl]
            unfold pr at this
            exact ⟨congrArg Prod.fst this, congrArg Prod.snd this⟩
          · have := pt_ne (m := m1) (a := 635) (x := to + 2 * (k : Int)) (y := to + 2 * j) (p := p) (by omega)
            unfold setP
            rw [if_neg cj]
            unfold pr at this
            rw [p1, p1] at this
            have w1 := rw_ j j0 (by omega)
            exact ⟨(congrArg Prod.fst this).trans w1.1, (congrArg Prod.snd this).trans w1.2⟩
        · intro j j0 j1
          rw [pt_ne (by omega), pt_ne (by omega)]
          have := hin j (by omega) j1
          unfold pr at this ⊢
          rw [p1, p1, p1, p1]
          exact this
  exact ⟨(cof d).toNat + 1, L (cof d).toNat 0 zr m (by omega) (Fm.refl m) he (fun j a b => by omega) (fun j j0 j1 => ⟨ux.at (by omega) j1, vy.at (by omega) j1⟩) rfl⟩
theorem c_X10_takeNumbers_err {m : MM} {Q : Int → MM → Prop} {base x y : Int} (hb : RI base) (he : RI (m 582 84)) (h0 : 0 < m 582 84) (hx : 0 ≤ x ∧ x + 1 < 1600000) (hy : 0 ≤ y ∧ y + 1 < 1600000) (h : Q 0 m) : P_X10_takeNumbers base x y m Q := by
  unfold P_X10_takeNumbers
  refine ⟨hb, ?_⟩
  split
  · exact ⟨by omega, by omega, by omega, by omega, c_X10_number_err he h0 h⟩
  · exact ⟨by omega, by omega, c_X10_number_err he h0 h⟩
theorem c_X10_takeBlocks_err {m : MM} {Q : Int → MM → Prop} {base to x y d : Int} (hd : 0 ≤ d ∧ d ≤ 2) (he : RI (m 582 84)) (h0 : m 582 84 ≠ 0) (h : Q 0 m) : P_X10_takeBlocks to x y base d m Q := by
  refine ⟨1, ?_⟩
  have hc := cof_bd hd
  refine c_width hd ⟨by decide, by constructor <;> omega, ?_⟩
  rw [if_neg (by omega)]
  refine ⟨he, ?_⟩
  rw [if_neg h0]
  exact h
theorem c_X10_takeBlocks {m : MM} {Q : Int → MM → Prop} {base mu to x y d : Int} {u v : Int → PP} (hd : 0 ≤ d ∧ d ≤ 2) (hB : BM m base mu) (he : m 582 84 = 0) (hx : Pl x (2 * cof d)) (hy : Pl y (2 * cof d)) (ht : Pl to (2 * cof d)) (ax : to = x ∨ Dj to (2 * cof d) x (2 * cof d)) (ay : to = y ∨ Dj to (2 * cof d) y (2 * cof d)) (ux : Rw (m 635) x u (cof d)) (vy : Rw (m 635) y v (cof d)) (nu : NBs mu u (cof d)) (nv : NBs mu v (cof d)) (h : OutM (fun i => to ≤ i ∧ i < to + 2 * cof d) m (addR mu 1 (cof d).toNat u v) to (cof d) Q) : P_X10_takeBlocks to x y base d m Q := by
  have hc := cof_bd hd
  have hcN : ((cof d).toNat : Int) = cof d := by omega
  have hM : MU mu := hB.2.2.2.1
  have L : ∀ (r : Nat) (k : Nat) (w : Int → PP) (m' : MM), (k : Int) + r = cof d → Fm (fun i => to ≤ i ∧ i < to + 2 * cof d) m m' → m' 582 84 = 0 → Rw (m' 635) to w k → (∀ j : Int, (k : Int) ≤ j → j < cof d → pr m' 635 (x + 2 * j) = u j ∧ pr m' 635 (y + 2 * j) = v j) → seqE (fun k => addS mu 1 (u k) (v k)) r k w = addR mu 1 (cof d).toNat u v → P_X10_takeBlocks_3 Q (r + 1) to x y base d (2 * (k : Int)) m' := by
    intro r
    induction r with
    | zero =>
      intro k w m' hk f e rw_ _ hs
      refine c_width hd ⟨by constructor <;> omega, by constructor <;> omega, ?_⟩
      rw [if_pos (by omega)]
      have : (k : Int) = cof d := by omega
      rw [this] at rw_
      exact h.1 w m' hs.symm f e rw_
    | succ r ih =>
      intro k w m' hk f e rw_ hin hs
      refine c_width hd ⟨by constructor <;> omega, by constructor <;> omega, ?_⟩
      rw [if_neg (by omega)]
      refine ⟨by rw [e]; decide, ?_⟩
      rw [if_pos e]
      obtain ⟨hu, hv⟩ := hin k (by omega) (by omega)
      have nuk := nu k (by omega) (by omega)
      have nvk := nv k (by omega) (by omega)
      unfold seqE at hs
      refine c_X10_takeNumbers e (f.bm hB) (by omega) (by omega) (by rw [hu]; exact nuk) (by rw [hv]; exact nvk) (fun m1 h1 => ?_)
      rw [hu, hv] at h1
      have f1 : Fm (fun i => to ≤ i ∧ i < to + 2 * cof d) m m1 := f.trans (Fm.ofMN h1)
      have p1 : ∀ i, m1 635 i = m' 635 i := fun i => h1.1 635 i (fun z => absurd z.1 (by decide))
      refine c_put (by omega) ?_
      rcases hq : addS mu 1 (u k) (v k) with e1 | p
      · rw [hq] at h1 hs
        have e1' := addS_err hq
        have e2 := h1.2.2 e1 rfl
        have fin : Q 0 (pt m1 635 (to + 2 * (k : Int)) (m1 582 87, m1 582 88)) := h.2 e1 _ hs.symm (f1.trans (Fm.ofPt (by omega) (by omega))) (by rw [pt_oth (by decide)]; exact e2)
        refine c_width hd ⟨by constructor <;> omega, by constructor <;> omega, ?_⟩
        split
        · exact fin
        · rw [pt_oth (by decide), e2, e1']
          exact ⟨by decide, fin⟩
      · rw [hq] at h1 hs
        obtain ⟨e2, a2, b2⟩ := h1.2.1 p rfl
        rw [a2, b2]
        have key := ih (k + 1) (setP w k p) (pt m1 635 (to + 2 * (k : Int)) p) (by omega) (f1.trans (Fm.ofPt (by omega) (by omega))) (by rw [pt_oth (by decide)]; exact e2) ?_ ?_ (by rw [← hs]; rfl)
        · rw [show 2 * (((k + 1 : Nat)) : Int) = 2 * (k : Int) + 2 by omega] at key
          exact key
        · intro j j0 j1
          by_cases cj : j = k
          · subst cj
            have := pt_at (m := m1) (a := 635) (x := to + 2 * (k : Int)) (p := p)
            unfold setP
            rw [if_pos rfl]
            unfold pr at this
            exact ⟨congrArg Prod.fst this, congrArg Prod.snd this⟩
          · have := pt_ne (m := m1) (a := 635) (x := to + 2 * (k : Int)) (y := to + 2 * j) (p := p) (by omega)
            unfold setP
            rw [if_neg cj]
            unfold pr at this
            rw [p1, p1] at this
            have w1 := rw_ j j0 (by omega)
            exact ⟨(congrArg Prod.fst this).trans w1.1, (congrArg Prod.snd this).trans w1.2⟩
        · intro j j0 j1
          rw [pt_ne (by omega), pt_ne (by omega)]
          have := hin j (by omega) j1
          unfold pr at this ⊢
          rw [p1, p1, p1, p1]
          exact this
  exact ⟨(cof d).toNat + 1, L (cof d).toNat 0 zr m (by omega) (Fm.refl m) he (fun j a b => by omega) (fun j j0 j1 => ⟨ux.at (by omega) j1, vy.at (by omega) j1⟩) rfl⟩
