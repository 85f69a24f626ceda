set_option maxRecDepth 100000
/-! the model: what two values come to -/
theorem gs_of {x z : R3} (hx : ok3 x) (hz : ok3 z) (h1 : x.1 ≠ -2) (h2 : z.1 ≠ -2) (h3 : x.1 = z.1 ∨ x.1 = 0) (h4 : x.2.1 ≤ z.2.1) (h5 : x.2.2 = z.2.2 ∨ x.2.2 = 0) : gs x z := by
  unfold gs jn
  by_cases c : x = z
  · rw [if_pos c, c]
  · rw [if_neg c, if_neg (by omega), if_pos (by omega)]
    have e1 : (if x.1 = 0 then z.1 else x.1) = z.1 := by split <;> omega
    have e3 : max x.2.2 z.2.2 = z.2.2 := by unfold ok3 at hx hz; omega
    rw [e1, e3, show max x.2.1 z.2.1 = z.2.1 by omega]
theorem jn_gs {x y z : R3} (hx : ok3 x) (hy : ok3 y) (h : jn x y = some z) : gs x z ∧ gs y z ∧ (x.1 = -2 → x = z ∧ y = z) ∧ (z.1 = -2 → x = z ∧ y = z) := by
  have hz := jn_ok hx hy h
  have h0 := h
  unfold jn at h
  split at h
  case isTrue c =>
    have e : x = z := Option.some.inj h
    have e2 : y = z := c.symm.trans e
    have g : gs z z := by unfold gs jn; rw [if_pos rfl]
    rw [e, e2]
    exact ⟨g, g, fun _ => ⟨rfl, rfl⟩, fun _ => ⟨rfl, rfl⟩⟩
  case isFalse c =>
    split at h
    · cases h
    case isFalse c2 =>
      split at h
      case isTrue c3 =>
        have e := Option.some.inj h
        have e1 : (if x.1 = 0 then y.1 else x.1) = z.1 := congrArg (fun q : R3 => q.1) e
        have e2 : max x.2.1 y.2.1 = z.2.1 := congrArg (fun q : R3 => q.2.1) e
        have e3 : max x.2.2 y.2.2 = z.2.2 := congrArg (fun q : R3 => q.2.2) e
        have nz : z.1 ≠ -2 := by rw [← e1]; split <;> omega
        have b1 : x.1 = z.1 ∨ x.1 = 0 := by
          by_cases q : x.1 = 0
          · exact Or.inr q
          · rw [if_neg q] at e1; exact Or.inl e1
        have b2 : y.1 = z.1 ∨ y.1 = 0 := by
          by_cases q : x.1 = 0
          · rw [if_pos q] at e1; exact Or.inl e1
          · rw [if_neg q] at e1; omega
        refine ⟨gs_of hx hz (by omega) nz b1 (by omega) (by unfold ok3 at hx hy; omega), gs_of hy hz (by omega) nz b2 (by omega) (by unfold ok3 at hx hy; omega), fun w => by omega, fun w => absurd w nz⟩
      · cases h
/-- with a fraction's base -/
def frac (z : R3) : R3 := (if z.1 = 0 then 1 else z.1, z.2.1, z.2.2)
theorem frac_ok {z : R3} (h : ok3 z) : ok3 (frac z) := by
  unfold ok3 frac at *
  simp only
  split <;> omega
theorem gs_frac {x z : R3} (hx : ok3 x) (hz : ok3 z) (h : gs x z) : gs x (frac z) := by
  by_cases w : z.1 = 0
  · obtain ⟨g1, g2, g3, g4, g5⟩ := gs_vals hx hz h
    have f1 : (frac z).1 = 1 := if_pos w
    exact gs_of hx (frac_ok hz) (by omega) (by omega) (by omega) g2 g3
  · have : frac z = z := by unfold frac; rw [if_neg w]
    rw [this]
    exact h
section EVT
variable {Q : Int → MM → Prop} {mo p q : Int} {x y z : R3} {V W : VV}
theorem c_isAlike {m : MM} {mu mv : Int} (hp : Pl p 882) (hq : Pl q 882) (vp : VM (m 635) p V) (vq : VM (m 635) q W) (nV : ∀ i j k, NB mu (V i j k)) (nW : ∀ i j k, NB mv (W i j k)) (h : Q (sameN V W) m) : P_X10_isAlike p q m Q := by
  have cv : ∀ {r : Int} {X : VV}, VM (m 635) r X → ∀ k, 0 ≤ k → k < 882 → m 635 (r + k) = cell (X (k / 98 / 3) (k / 98 % 3)) (k % 98) := by
    intro r X v k k0 k1
    have := (v (k / 98 / 3) (k / 98 % 3) (by omega) (by omega)).cl_ (k := k % 98) (by omega) (by omega)
    rw [← this]
    congr 1
    omega
  have rl : ∀ {mx : Int} {X : VV}, (∀ i j k, NB mx (X i j k)) → ∀ i j k, RL (cell (X i j) k) := by
    intro mx X n i j k
    have a := (n i j (k / 2)).p1
    have b := (n i j (k / 2)).p2
    unfold cell
    split <;> constructor <;> omega
  have key : (∀ k, 0 ≤ k → k < 882 → m 635 (p + k) = m 635 (q + k)) ↔ (∀ i j k, in3 i → in3 j → (0 ≤ k ∧ k < 49) → V i j k = W i j k) := by
    constructor
    · intro z i j k hi hj hk
      refine cell_eq.1 (fun c c0 c1 => ?_) k hk
      have := z (98 * (3 * i + j) + c) (by omega) (by omega)
      rw [cv vp _ (by omega) (by omega), cv vq _ (by omega) (by omega), show (98 * (3 * i + j) + c) / 98 / 3 = i by omega, show (98 * (3 * i + j) + c) / 98 % 3 = j by omega, show (98 * (3 * i + j) + c) % 98 = c by omega] at this
      exact this
    · intro z k k0 k1
      rw [cv vp k k0 k1, cv vq k k0 k1]
      exact cell_eq.2 (fun c hc => z _ _ c (by omega) (by omega) hc) (k % 98) (by omega) (by omega)
  have L : ∀ (n : Nat) (k : Int), 0 ≤ k → k + n = 882 → (∀ c, 0 ≤ c → c < k → m 635 (p + c) = m 635 (q + c)) → P_X10_isAlike_2 Q (n + 1) p q k m := by
    intro n
    induction n with
    | zero =>
      intro k k0 k1 hk
      refine ⟨by constructor <;> omega, ?_⟩
      rw [if_pos (by omega)]
      rw [sameN_1 (key.1 (fun c c0 c1 => hk c c0 (by omega)))] at h
      exact h
    | succ n ih =>
      intro k k0 k1 hk
      refine ⟨by constructor <;> omega, ?_⟩
      rw [if_neg (by omega)]
      refine ⟨by omega, by omega, by rw [cv vp k k0 (by omega)]; exact rl nV _ _ _, by rw [cv vq k k0 (by omega)]; exact rl nW _ _ _, ?_⟩
      by_cases c : m 635 (p + k) = m 635 (q + k)
      · rw [if_pos c]
        refine ih (k + 1) (by omega) (by omega) (fun c' c0 c1 => ?_)
        by_cases e : c' = k
        · rw [e]; exact c
        · exact hk c' c0 (by omega)
      · rw [if_neg c]
        rw [sameN_0 (fun z => c (key.2 z k k0 (by omega)))] at h
        exact h
  exact ⟨_, L 882 0 (by decide) (by decide) (fun c c0 c1 => by omega)⟩
theorem c_tell {m : MM} {f : Int} (hf : f = 0 ∨ f = 1) (hp : Pl p 882) (h : ∀ m', Fm (SX p) m m' → m' 582 84 = m 582 84 → VM (m' 635) p (numV f) → Q 0 m') : P_X10_tell p f m Q := by
  have e : (if f = 0 then (0 : Int) else 1) = f := by split <;> omega
  have key := c_tellNumber (m := m) (Q := Q) (a := f) hp h
  unfold P_X10_tellNumber at key
  unfold P_X10_tell
  rw [e]
  refine c_clear (n := 441) (by omega) (by omega) (fun m1 f1 e1 r1 => ⟨by constructor <;> omega, ?_⟩)
  refine c_set (by omega) ?_
  have v1 : VM (m1 635) p (rvv zr) := by rw [rvv_zr]; exact VM_clear r1
  have f1' : Fm (SX p) m m1 := f1.mono (fun q z => by have z1 : p ≤ q ∧ q < p + 2 * 441 := z; unfold SX; omega)
  refine h _ (f1'.trans (Fm.ofPt (by unfold SX; omega) (by unfold SX; omega))) (by rw [pt_oth (by decide), e1]) ?_
  refine v1.chg (c := 1) (Fm.ofPt (S := fun q => p ≤ q ∧ q < p + 2) (by omega) (by omega)) (fun q q0 q1 z => by omega) (fun j j0 j1 => ?_) (by decide) (fun _ _ => rfl) (fun k hk => ?_) (by decide)
  · have : j = 0 := by omega
    subst this
    have q := pt_at (m := m1) (a := 635) (x := p) (p := (f, 1))
    rw [show p + 2 * 0 = p by omega]
    exact ⟨congrArg Prod.fst q, congrArg Prod.snd q⟩
  · unfold numR
    rw [if_neg (by omega)]
/-- what an operation asks of the ring -/
def opOK (op : Int) (z : R3) : Prop := (op = 15 ∨ op = 16) ∨ (op = 17 ∨ op = 18) ∧ (z.1 = 0 ∨ z.1 = 1) ∧ z.2.1 = 0 ∧ z.2.2 = 0 ∨ (op = 19 ∨ op = 20 ∨ op = 21) ∧ z.1 ≠ -2 ∨ op = 22 ∧ okb z.1 ∧ isFb z.1 ∨ (op = 23 ∨ op = 24) ∧ z.2.2 = 0 ∧ (z.1 = 0 ∧ z.2.1 = 0 ∨ okb z.1 ∧ z.2.1 = 1 ∧ isFb z.1)
def OutQ (m : MM) (res : EX VV) (p q : Int) (Q : Int → MM → Prop) : Prop := (∀ U m', res = .ok U → Fm (S2M p q) m m' → m' 582 84 = 0 → VM (m' 635) p U → Q 0 m') ∧ (∀ e m', res = .error e → Fm (S2M p q) m m' → m' 582 84 = e → Q 0 m')
theorem SX_2 {i : Int} (h : SX p i) : S2M p q i := by unfold SX at h; unfold S2M; omega
theorem SQ_2 {i : Int} (h : SQ p i) : S2M p q i := by unfold SQ at h; unfold S2M; omega
/-- the operation itself -/
theorem c_evalTwo_162 {m : MM} {km : Int} (hz : ok3 z) (hm : okMo z.1 mo) (hop : opOK (km + 2) z) (hmo : m 582 89 = mo) (he : m 582 84 = 0) (hp : 0 ≤ p ∧ p + 882 ≤ 1590000) (hq : 0 ≤ q ∧ q + 882 ≤ 1590000) (dj : Dj p 882 q 882) (vp : VM (m 635) p V) (vq : VM (m 635) q W) (nV : VR mo z V) (nW : VR mo (if km = 20 then (z.1, 0, 0) else z) W) (h : OutQ m (binS (km + 2) (muR z.1 mo) z.2.1 z.2.2 V W) p q Q) : P_X10_evalTwo_162 Q p q km (bM z.1) z.2.1 z.2.2 m := by
  have hM : MU (muR z.1 mo) := muR_MU (ok3_b hz) hm
  have hds : (0 ≤ z.2.1 ∧ z.2.1 ≤ 2) ∧ (0 ≤ z.2.2 ∧ z.2.2 ≤ 3) := by unfold ok3 at hz; omega
  have pl : Pl p 882 ∧ Pl q 882 := by omega
  have kb : 13 ≤ km ∧ km ≤ 22 := by unfold opOK at hop; omega
  have nWz : km ≠ 20 → VR mo z W := fun w => by rw [if_neg w] at nW; exact nW
  unfold binS at h
  refine ⟨by constructor <;> omega, ?_⟩
  by_cases k1 : km = 13
  · rw [if_pos k1]
    rw [if_pos (by omega)] at h
    have sb : sameN V W = 0 ∨ sameN V W = 1 := by
      by_cases c : ∀ i j k, in3 i → in3 j → (0 ≤ k ∧ k < 49) → V i j k = W i j k
      · exact Or.inr (sameN_1 c)
      · exact Or.inl (sameN_0 c)
    exact c_isAlike pl.1 pl.2 vp vq nV.1.1 (nWz (by omega)).1.1 (c_tell sb pl.1 (fun m1 f1 e1 v1 => h.1 _ m1 rfl (f1.mono (fun i w => SX_2 w)) (by rw [e1, he]) v1))
  rw [if_neg k1]
  rw [if_neg (by omega)] at h
  by_cases k2 : km = 14
  · rw [if_pos k2]
    rw [if_pos (by omega)] at h
    have sb : sameN V W = 0 ∨ sameN V W = 1 := by
      by_cases c : ∀ i j k, in3 i → in3 j → (0 ≤ k ∧ k < 49) → V i j k = W i j k
      · exact Or.inr (sameN_1 c)
      · exact Or.inl (sameN_0 c)
    have e : (if sameN V W = 0 then (1 : Int) else 0) = 1 - sameN V W := by split <;> omega
    refine c_isAlike pl.1 pl.2 vp vq nV.1.1 (nWz (by omega)).1.1 ⟨by constructor <;> omega, ?_⟩
    rw [e]
    exact c_tell (by omega) pl.1 (fun m1 f1 e1 v1 => h.1 _ m1 rfl (f1.mono (fun i w => SX_2 w)) (by rw [e1, he]) v1)
  rw [if_neg k2]
  rw [if_neg (by omega)] at h
  have pv : m 635 p = (V 0 0 0).1 ∧ m 635 (p + 1) = (V 0 0 0).2 := by
    have := vp 0 0 (by decide) (by decide) 0 (by decide) (by decide)
    rw [show p + 98 * (3 * 0 + 0) + 2 * 0 = p by omega] at this
    exact this
  have qv : m 635 q = (W 0 0 0).1 ∧ m 635 (q + 1) = (W 0 0 0).2 := by
    have := vq 0 0 (by decide) (by decide) 0 (by decide) (by decide)
    rw [show q + 98 * (3 * 0 + 0) + 2 * 0 = q by omega] at this
    exact this
  have n1 := (nV.1.1 0 0 0).p1
  have n2 := (nV.1.1 0 0 0).p2
  have n3 := (nW.1.1 0 0 0).p1
  have n4 := (nW.1.1 0 0 0).p2
  have m1 := mul_bd n1 (y := (W 0 0 0).2) (by omega)
  have m2 := mul_bd n3 (y := (V 0 0 0).2) (by omega)
  by_cases k3 : km = 15
  · rw [if_pos k3, pv.1, pv.2, qv.1, qv.2]
    rw [if_pos (by omega)] at h
    have e : (if (W 0 0 0).1 * (V 0 0 0).2 ≤ (V 0 0 0).1 * (W 0 0 0).2 then (0 : Int) else 1) = lessN 0 (V 0 0 0) (W 0 0 0) := by
      unfold lessN
      by_cases c : (W 0 0 0).1 * (V 0 0 0).2 ≤ (V 0 0 0).1 * (W 0 0 0).2
      · rw [if_pos c, if_neg (by omega), if_pos rfl]
      · rw [if_neg c, if_pos (by omega)]
    refine ⟨by omega, by omega, by omega, by omega, ⟨by constructor <;> omega, by constructor <;> omega⟩, ?_⟩
    rw [e]
    exact c_tell (by rw [← e]; split <;> omega) pl.1 (fun m1 f1 e1 v1 => h.1 _ m1 rfl (f1.mono (fun i w => SX_2 w)) (by rw [e1, he]) v1)
  rw [if_neg k3]
  rw [if_neg (by omega)] at h
  by_cases k4 : km = 16
  · rw [if_pos k4, pv.1, pv.2, qv.1, qv.2]
    rw [if_pos (by omega)] at h
    have e : (if (W 0 0 0).1 * (V 0 0 0).2 < (V 0 0 0).1 * (W 0 0 0).2 then (0 : Int) else 1) = lessN 1 (V 0 0 0) (W 0 0 0) := by
      unfold lessN
      by_cases c : (W 0 0 0).1 * (V 0 0 0).2 < (V 0 0 0).1 * (W 0 0 0).2
      · rw [if_pos c, if_neg (by omega), if_neg (by decide), if_neg (by omega)]
      · rw [if_neg c]
        by_cases c2 : (V 0 0 0).1 * (W 0 0 0).2 - (W 0 0 0).1 * (V 0 0 0).2 < 0
        · rw [if_pos c2]
        · rw [if_neg c2, if_neg (by decide), if_pos (by omega)]
    refine ⟨by omega, by omega, by omega, by omega, ⟨by constructor <;> omega, by constructor <;> omega⟩, ?_⟩
    rw [e]
    exact c_tell (by rw [← e]; split <;> omega) pl.1 (fun m1 f1 e1 v1 => h.1 _ m1 rfl (f1.mono (fun i w => SX_2 w)) (by rw [e1, he]) v1)
  rw [if_neg k4]
  rw [if_neg (by omega)] at h
  -- the base is a number's from here on
  have bz : okb z.1 := by
    have := ok3_b hz
    unfold opOK at hop
    rcases this with w | w
    · omega
    · exact w
  have hB := muR_BM bz hm hmo
  by_cases k5 : km = 17
  · rw [if_pos k5]
    rw [if_pos (by omega)] at h
    exact c_X10_addValues (Or.inl rfl) hds.1 hds.2 hB he pl.1 pl.2 dj vp vq nV.1 (nWz (by omega)).1 ⟨fun U m1 h1 f1 e1 v1 => h.1 U m1 h1 (f1.mono (fun i w => SX_2 w)) e1 v1, fun e m1 h1 f1 e1 => h.2 e m1 h1 (f1.mono (fun i w => SX_2 w)) e1⟩
  rw [if_neg k5]
  rw [if_neg (by omega)] at h
  by_cases k6 : km = 18
  · rw [if_pos k6]
    rw [if_pos (by omega)] at h
    exact c_X10_addValues (Or.inr rfl) hds.1 hds.2 hB he pl.1 pl.2 dj vp vq nV.1 (nWz (by omega)).1 ⟨fun U m1 h1 f1 e1 v1 => h.1 U m1 h1 (f1.mono (fun i w => SX_2 w)) e1 v1, fun e m1 h1 f1 e1 => h.2 e m1 h1 (f1.mono (fun i w => SX_2 w)) e1⟩
  rw [if_neg k6]
  rw [if_neg (by omega)] at h
  by_cases k7 : km = 19
  · rw [if_pos k7]
    rw [if_pos (by omega)] at h
    exact c_X10_multiplyValues hds.1 hds.2 hB he pl.1 pl.2 pl.1 (by omega) (by omega) (by omega) vp vq nV.1 (nWz (by omega)).1 ⟨fun U m1 h1 f1 e1 v1 => h.1 U m1 h1 (f1.mono (fun i w => SQ_2 (SW_Q w))) e1 v1, fun e m1 h1 f1 e1 => h.2 e m1 h1 (f1.mono (fun i w => SQ_2 (SW_Q w))) e1⟩
  rw [if_neg k7]
  rw [if_neg (by omega)] at h
  by_cases k8 : km = 20
  · rw [if_pos k8]
    rw [if_pos (by omega)] at h
    have hf : FD (muR z.1 mo) := muR_FD bz hm (by unfold opOK at hop; rcases hop with w | w | w | w | w; omega; omega; omega; exact w.2.2; omega)
    rw [if_pos k8] at nW
    have pq : pr m 635 q = W 0 0 0 := by unfold pr; rw [qv.1, qv.2]
    exact c_X10_divideBy hds.1 hds.2 hB hf he hp (by omega) (by omega) vp nV.1 pq (nW.1.1 0 0 0) ⟨fun U m1 h1 f1 e1 v1 => h.1 U m1 h1 (f1.mono (fun i w => SX_2 w)) e1 v1, fun e m1 h1 f1 e1 => h.2 e m1 h1 (f1.mono (fun i w => SX_2 w)) e1⟩
  rw [if_neg k8]
  rw [if_neg (by omega)] at h
  have hz0 : z.2.2 = 0 ∧ (z.1 = 0 ∧ z.2.1 = 0 ∨ okb z.1 ∧ z.2.1 = 1 ∧ isFb z.1) := by
    unfold opOK at hop
    rcases hop with w | w | w | w | w
    · omega
    · omega
    · omega
    · omega
    · exact w.2
  have nWW := (nWz k8).1
  have nVV := nV.1
  rw [hz0.1] at nVV nWW
  have fin : ∀ (m1 : MM) (U : VV), Fm SDM m m1 → m1 582 84 = 0 → VM (m1 635) (if km = 21 then 1592000 else 1593000) U → (∀ m2, Fm (S2M p q) m m2 → m2 582 84 = 0 → VM (m2 635) p U → Q 0 m2) → (RI (m1 582 84)) ∧ (if (m1 582 84) = 0 then P_X10_copy p (if km = 21 then 1592000 else 1593000 : Int) 882 m1 (fun r12 m12 => Q 0 m12) else Q 0 m1) := by
    intro m1 U f1 e1 v1 k
    refine ⟨by rw [e1]; decide, ?_⟩
    rw [if_pos e1]
    refine c_copy (n := 882) (by split <;> decide) (by omega) (Or.inr (by split <;> omega)) (fun m2 f2 e2 cp => ?_)
    exact k m2 ((f1.mono (fun i w => by unfold SDM at w; unfold S2M; omega)).trans (f2.mono (fun i w => by have w1 : p ≤ i ∧ i < p + 882 := w; unfold S2M; omega))) (by rw [e2, e1]) (v1.cpy cp)
  have fine : ∀ (m1 : MM) (e : Int), Fm SDM m m1 → m1 582 84 = e → (e = 1 ∨ e = 2) → Q 0 m1 → (RI (m1 582 84)) ∧ (if (m1 582 84) = 0 then P_X10_copy p (if km = 21 then 1592000 else 1593000 : Int) 882 m1 (fun r12 m12 => Q 0 m12) else Q 0 m1) := by
    intro m1 e f1 e1 he1 k
    refine ⟨by rw [e1]; constructor <;> omega, ?_⟩
    rw [if_neg (by rw [e1]; omega)]
    exact k
  have qk : (if km + 2 = 23 then (1 : Int) else 0) = 0 ↔ km ≠ 21 := by split <;> omega
  rcases hz0.2 with ⟨z1, z2⟩ | ⟨-, z2, z3⟩
  · have b0 : bM z.1 = 0 := by rw [z1]; decide
    have mu0 : muR z.1 mo = 0 := by rw [z1]; unfold muR; rw [if_neg (by decide), if_pos (by decide)]
    rw [z2, mu0] at nVV nWW
    rw [b0, z2]
    rw [if_pos z2] at h
    unfold quoZ at h
    refine c_X10_divideZ he hp hq vp vq nVV nWW (fun c m1 f1 e1 va vb => ?_) (fun c m1 f1 e1 => ?_)
    · rw [if_neg c] at h
      by_cases kk : km = 21
      · refine fin m1 _ f1 e1 (by rw [if_pos kk]; exact va) (fun m2 f2 e2 v2 => h.1 _ m2 rfl f2 e2 ?_)
        rw [if_neg (by rw [if_pos (by omega)]; decide)]
        exact v2
      · refine fin m1 _ f1 e1 (by rw [if_neg kk]; exact vb) (fun m2 f2 e2 v2 => h.1 _ m2 rfl f2 e2 ?_)
        rw [if_pos (qk.2 kk)]
        exact v2
    · rw [if_pos c] at h
      exact fine m1 2 f1 e1 (Or.inr rfl) (h.2 2 m1 rfl (f1.mono (fun i w => by unfold SDM at w; unfold S2M; omega)) e1)
  · have hf := muR_FD bz hm z3
    rw [z2] at nVV nWW ⊢
    rw [if_neg (by omega)] at h
    have ev := rvv_eq nVV
    have ew := rvv_eq nWW
    rw [ev] at vp
    rw [ew] at vq
    unfold restP at h
    refine c_X10_divide hB hf he hp hq vp vq nVV.nr nWW.nr ⟨fun a b m1 h1 f1 e1 va vb => ?_, fun e m1 h1 f1 e1 => ?_⟩
    · rw [h1] at h
      simp only at h
      by_cases kk : km = 21
      · refine fin m1 _ f1 e1 (by rw [if_pos kk]; exact va) (fun m2 f2 e2 v2 => h.1 _ m2 rfl f2 e2 ?_)
        rw [if_neg (by rw [if_pos (by omega)]; decide)]
        exact v2
      · refine fin m1 _ f1 e1 (by rw [if_neg kk]; exact vb) (fun m2 f2 e2 v2 => h.1 _ m2 rfl f2 e2 ?_)
        rw [if_pos (qk.2 kk)]
        exact v2
    · rw [h1] at h
      exact fine m1 e f1 e1 (dvP_err h1) (h.2 e m1 rfl (f1.mono (fun i w => by unfold SDM at w; unfold S2M; omega)) e1)
end EVT
