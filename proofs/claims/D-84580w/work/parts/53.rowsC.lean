set_option maxRecDepth 100000
/-! rows of numbers: the component -/
/-- only cells in S, and the error, may change -/
def Fc (S : Int → Prop) (m m' : MM) : Prop := (∀ c i, c ≠ 379 → ¬ (c = 378 ∧ i = 2) → m' c i = m c i) ∧ ∀ i, ¬ S i → m' 379 i = m 379 i
theorem Fc.refl {S : Int → Prop} (m : MM) : Fc S m m := ⟨fun _ _ _ _ => rfl, fun _ _ => rfl⟩
theorem Fc.trans {S : Int → Prop} {m m1 m2 : MM} (h : Fc S m m1) (k : Fc S m1 m2) : Fc S m m2 := ⟨fun c i a b => (k.1 c i a b).trans (h.1 c i a b), fun i a => (k.2 i a).trans (h.2 i a)⟩
theorem Fc.mono {S S' : Int → Prop} {m m1 : MM} (h : Fc S m m1) (k : ∀ i, S i → S' i) : Fc S' m m1 := ⟨h.1, fun i a => h.2 i (fun b => a (k i b))⟩
theorem Fc.ofPt {S : Int → Prop} {m : MM} {x : Int} {p : PP} (h1 : S x) (h2 : S (x + 1)) : Fc S m (pt m 379 x p) := by
  refine ⟨fun c i a b => ?_, fun i a => ?_⟩
  · unfold pt; rw [up_ne (fun z => a z.1), up_ne (fun z => a z.1)]
  · unfold pt; rw [up_neI (show i ≠ x + 1 from fun z => a (by rw [z]; exact h2)), up_neI (show i ≠ x from fun z => a (by rw [z]; exact h1))]
theorem Fc.ofUp {S : Int → Prop} {m : MM} {x v : Int} (h1 : S x) : Fc S m (up m 379 x v) := ⟨fun c i a b => up_ne (fun z => a z.1), fun i a => up_neI (show i ≠ x from fun z => a (by rw [z]; exact h1))⟩
theorem Fc.err {S : Int → Prop} {m : MM} {e : Int} : Fc S m (up m 378 2 e) := ⟨fun c i a b => up_ne b, fun i a => up_ne (fun z => absurd z.1 (by decide))⟩
theorem Fc.mu {S : Int → Prop} {m m' : MM} (h : Fc S m m') (b : Int) : muC m' b = muC m b := by
  unfold muC
  rw [h.1 378 1 (by decide) (by decide)]
def Rw (g : Int → Int) (x : Int) (u : Int → PP) (n : Int) : Prop := ∀ k, 0 ≤ k → k < n → g (x + 2 * k) = (u k).1 ∧ g (x + 2 * k + 1) = (u k).2
theorem Rw.fr {S : Int → Prop} {m m' : MM} {x n : Int} {u : Int → PP} (h : Rw (m 379) x u n) (f : Fc S m m') (d : ∀ i, x ≤ i → i < x + 2 * n → ¬ S i) : Rw (m' 379) x u n := by
  intro k h0 h1
  rw [f.2 _ (d _ (by omega) (by omega)), f.2 _ (d _ (by omega) (by omega))]
  exact h k h0 h1
theorem Rw.le {g : Int → Int} {x n k : Int} {u : Int → PP} (h : Rw g x u n) (hk : k ≤ n) : Rw g x u k := fun j a b => h j a (by omega)
theorem Rw.sub {g : Int → Int} {x n k l : Int} {u : Int → PP} (h : Rw g x u n) (h0 : 0 ≤ k) (hk : k + l ≤ n) : Rw g (x + 2 * k) (fun j => u (k + j)) l := by
  intro j a b
  have := h (k + j) (by omega) (by omega)
  rw [show x + 2 * k + 2 * j = x + 2 * (k + j) by omega]
  exact this
theorem Rw.at {m : MM} {a x n k : Int} {u : Int → PP} (h : Rw (m a) x u n) (h0 : 0 ≤ k) (h1 : k < n) : pr m a (x + 2 * k) = u k := by
  have := h k h0 h1
  unfold pr
  rw [this.1, this.2]
theorem pt_at {m : MM} {a x : Int} {p : PP} : pr (pt m a x p) a x = p := by
  unfold pr pt
  rw [up_neI (by omega), up_at, up_at]
theorem pt_ne {m : MM} {a x y : Int} {p : PP} (h : x + 1 < y ∨ y + 1 < x) : pr (pt m a x p) a y = pr m a y := by
  unfold pr pt
  rw [up_neI (by omega), up_neI (by omega), up_neI (by omega), up_neI (by omega)]
theorem pt_oth {m : MM} {a x c i : Int} {p : PP} (h : c ≠ a) : pt m a x p c i = m c i := by
  unfold pt
  rw [up_ne (fun z => h z.1), up_ne (fun z => h z.1)]
/-- how it goes on: a row is made at a place, or an error is told -/
def OutC (S : Int → Prop) (m : MM) (r : EX (Int → PP)) (to n : Int) (Q : Int → MM → Prop) : Prop := (∀ w m', r = .ok w → Fc S m m' → m' 378 2 = 0 → Rw (m' 379) to w n → Q 0 m') ∧ (∀ e m', r = .error e → Fc S m m' → m' 378 2 = e → Q 0 m')
theorem c_X8_clear {m : MM} {Q : Int → MM → Prop} {at_ : Int} {n : Nat} (h0 : 0 ≤ at_) (h1 : at_ + 2 * n ≤ 1159540) (h : ∀ m', Fc (fun i => at_ ≤ i ∧ i < at_ + 2 * n) m m' → m' 378 2 = m 378 2 → Rw (m' 379) at_ zr n → Q 0 m') : P_X8_clear at_ n m Q := by
  have L : ∀ (r : Nat) (k : Int) (m' : MM), 0 ≤ k → k ≤ n → (n : Int) - k ≤ r → Fc (fun i => at_ ≤ i ∧ i < at_ + 2 * n) m m' → m' 378 2 = m 378 2 → Rw (m' 379) at_ zr k → P_X8_clear_2 Q (r + 1) at_ n k m' := by
    intro r
    induction r with
    | zero =>
      intro k m' k0 k1 hr f e w
      have : k = n := by omega
      subst this
      refine ⟨by constructor <;> omega, by constructor <;> omega, ?_⟩
      rw [if_pos (by omega)]
      exact h m' f e w
    | succ r ih =>
      intro k m' k0 k1 hr f e w
      refine ⟨by constructor <;> omega, by constructor <;> omega, ?_⟩
      by_cases c : (n : Int) ≤ k
      · rw [if_pos c]
        have : k = n := by omega
        subst this
        exact h m' f e w
      · rw [if_neg c]
        refine ⟨by omega, ?_⟩
        rintro _ rfl
        refine ⟨by omega, ?_⟩
        rintro _ rfl
        refine ih (k + 1) _ (by omega) (by omega) (by omega) (f.trans (Fc.ofPt (p := (0, 1)) (by omega) (by omega))) ?_ ?_
        · rw [up_ne (fun z => absurd z.1 (by decide)), up_ne (fun z => absurd z.1 (by decide))]; exact e
        · intro j j0 j1
          by_cases cj : j = k
          · subst cj
            rw [up_neI (by omega), up_at, up_at]
            exact ⟨rfl, rfl⟩
          · rw [up_neI (by omega), up_neI (by omega), up_neI (by omega), up_neI (by omega)]
            exact w j j0 (by omega)
  exact ⟨n + 1, L n 0 m (by omega) (by omega) (by omega) (Fc.refl m) rfl (fun j a b => by omega)⟩
theorem inR379 {x n : Int} (h0 : 0 ≤ x) (h1 : x + n ≤ 1159540) : inR 379 0 x n := ⟨1159540, ly_379, h0, h1⟩
theorem c_X8_copy {m : MM} {Q : Int → MM → Prop} {x to : Int} {n : Int} (hn : 0 ≤ n) (h0 : 0 ≤ x ∧ x + 2 * n ≤ 1159540) (h1 : 0 ≤ to ∧ to + 2 * n ≤ 1159540) (h : ∀ m', Fc (fun i => to ≤ i ∧ i < to + 2 * n) m m' → m' 378 2 = m 378 2 → (∀ i, 0 ≤ i → i < 2 * n → m' 379 (to + i) = m 379 (x + i)) → Q 0 m') : P_X8_copy x to n m Q := by
  refine ⟨by omega, inR379 h0.1 (by omega), inR379 h1.1 (by omega), ?_⟩
  rintro _ rfl
  refine h _ ⟨fun c i a b => ?_, fun i a => ?_⟩ ?_ (fun i i0 i1 => ?_)
  · unfold cpm; rw [if_neg (fun z => a z.1)]
  · unfold cpm; rw [if_neg (fun z => a z.2)]
  · unfold cpm; rw [if_neg (fun z => absurd z.1 (by decide))]
  · unfold cpm; rw [if_pos ⟨rfl, by omega, by omega⟩, show to + i - to = i by omega]
theorem Rw.cp {m m' : MM} {a x to n : Int} {u : Int → PP} (h : Rw (m a) x u n) (k : ∀ i, 0 ≤ i → i < 2 * n → m' a (to + i) = m a (x + i)) : Rw (m' a) to u n := by
  intro j j0 j1
  have h1 := k (2 * j) (by omega) (by omega)
  have h2 := k (2 * j + 1) (by omega) (by omega)
  rw [h1, show to + 2 * j + 1 = to + (2 * j + 1) by omega, h2, show x + (2 * j + 1) = x + 2 * j + 1 by omega]
  exact h j j0 j1
theorem c_X8_isClear {m : MM} {Q : Int → MM → Prop} {at_ : Int} {n : Nat} {u : Int → PP} (h0 : 0 ≤ at_) (h1 : at_ + 2 * n ≤ 1159540) (w : Rw (m 379) at_ u n) (hr : ∀ k, 0 ≤ k → k < (n : Int) → RI (u k).1) (h : Q (if allZ u n 0 = true then 1 else 0) m) : P_X8_isClear at_ n m Q := by
  have L : ∀ (r : Nat) (k : Nat), k + r = n → Q (if allZ u r (k : Int) = true then 1 else 0) m → P_X8_isClear_2 Q (r + 1) at_ n k m := by
    intro r
    induction r with
    | zero =>
      intro k hk q
      refine ⟨by constructor <;> omega, by constructor <;> omega, ?_⟩
      rw [if_pos (by omega)]
      exact q
    | succ r ih =>
      intro k hk q
      refine ⟨by constructor <;> omega, by constructor <;> omega, ?_⟩
      rw [if_neg (by omega)]
      have e := (w k (by omega) (by omega)).1
      have hrk := hr k (by omega) (by omega)
      refine ⟨by omega, by rw [e]; exact hrk, ?_⟩
      rw [e]
      unfold allZ at q
      by_cases c : (u k).1 = 0
      · rw [if_pos c]
        rw [if_pos c] at q
        exact ih (k + 1) (by omega) q
      · rw [if_neg c]
        rw [if_neg c] at q
        exact q
  exact ⟨n + 1, L n 0 (by omega) h⟩
theorem c_X8_addAll {m : MM} {Q : Int → MM → Prop} {base mu x y to ls : Int} {n : Nat} {u v : Int → PP} (hb : RI base) (hmu : muC m base = mu) (hM : MU mu) (hl : RI ls) (he : m 378 2 = 0) (hx : 0 ≤ x ∧ x + 2 * n ≤ 1159540) (hy : 0 ≤ y ∧ y + 2 * n ≤ 1159540) (ht : 0 ≤ to ∧ to + 2 * n ≤ 1159540) (ax : to = x ∨ to + 2 * n ≤ x ∨ x + 2 * n ≤ to) (ay : to = y ∨ to + 2 * n ≤ y ∨ y + 2 * n ≤ to) (ux : Rw (m 379) x u n) (vy : Rw (m 379) y v n) (nu : NBs mu u n) (nv : NBs mu v n) (h : OutC (fun i => to ≤ i ∧ i < to + 2 * n) m (addR mu ls n u v) to n Q) : P_X8_addAll base x y to n ls m Q := by
  have L : ∀ (r : Nat) (k : Nat) (w : Int → PP) (m' : MM), k + r = n → Fc (fun i => to ≤ i ∧ i < to + 2 * n) m m' → m' 378 2 = 0 → Rw (m' 379) to w k → (∀ j : Int, (k : Int) ≤ j → j < n → pr m' 379 (x + 2 * j) = u j ∧ pr m' 379 (y + 2 * j) = v j) → seqE (fun k => addS mu ls (u k) (v k)) r k w = addR mu ls n u v → P_X8_addAll_3 Q (r + 1) base x y to n ls k m' := by
    intro r
    induction r with
    | zero =>
      intro k w m' hk f e rw_ _ hs
      refine ⟨by constructor <;> omega, by constructor <;> omega, ?_⟩
      rw [if_pos (by omega)]
      have : k = n := by omega
      subst this
      exact h.1 w m' hs.symm f e rw_
    | succ r ih =>
      intro k w m' hk f e rw_ hin hs
      refine ⟨by constructor <;> omega, by constructor <;> omega, ?_⟩
      rw [if_neg (by omega)]
      refine ⟨by rw [e]; decide, ?_⟩
      rw [if_pos e]
      obtain ⟨hu, hv⟩ := hin k (by omega) (by omega)
      have nuk := nu k (by omega) (by omega)
      have nvk := nv k (by omega) (by omega)
      unfold seqE at hs
      refine c_X8_add hb (by rw [f.mu, hmu]) hM (by omega) (by omega) (by omega) hl (by rw [hu]; exact nuk) (by rw [hv]; exact nvk) (fun p hp => ?_) (fun e1 he1 => ?_)
      · rw [hu, hv] at hp
        rw [hp] at hs
        refine ih (k + 1) (setP w k p) _ (by omega) (f.trans (Fc.ofPt (by omega) (by omega))) ?_ ?_ ?_ (by rw [← hs]; rfl)
        · rw [pt_oth (by decide)]; exact e
        · intro j j0 j1
          by_cases cj : j = k
          · subst cj
            have := pt_at (m := m') (a := 379) (x := to + 2 * (k : Int)) (p := p)
            unfold setP
            rw [if_pos rfl]
            unfold pr at this
            exact ⟨congrArg Prod.fst this, congrArg Prod.snd this⟩
          · have := pt_ne (m := m') (a := 379) (x := to + 2 * (k : Int)) (y := to + 2 * j) (p := p) (by omega)
            unfold setP
            rw [if_neg cj]
            unfold pr at this
            have w1 := rw_ j j0 (by omega)
            exact ⟨(congrArg Prod.fst this).trans w1.1, (congrArg Prod.snd this).trans w1.2⟩
        · intro j j0 j1
          rw [pt_ne (by omega), pt_ne (by omega)]
          exact hin j (by omega) j1
      · rw [hu, hv] at he1
        rw [he1] at hs
        have e1' := addS_err he1
        have fin : Q 0 (up m' 378 2 e1) := h.2 e1 _ hs.symm (f.trans Fc.err) (up_at ..)
        refine ⟨by constructor <;> omega, by constructor <;> omega, ?_⟩
        split
        · exact fin
        · rw [up_at]
          refine ⟨by rw [e1']; decide, ?_⟩
          rw [if_neg (by omega)]
          exact fin
  refine ⟨n + 1, L n 0 zr m (by omega) (Fc.refl m) he (fun j a b => by omega) (fun j j0 j1 => ⟨ux.at (by omega) j1, vy.at (by omega) j1⟩) rfl⟩
