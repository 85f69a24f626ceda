set_option maxRecDepth 100000
/-! the machine's stack -/
abbrev SV : Type := Int × Int × VV
def RB (r d s : Int) : Prop := (∃ b, RG r b d s) ∨ (r = -2 ∧ d = 0 ∧ s = 0)
def stG (m : MM) : List SV → Prop
  | [] => m 381 0 = 0
  | (d, s, V) :: l => stG m l ∧ (0 ≤ d ∧ d ≤ 2) ∧ (0 ≤ s ∧ s ≤ 3) ∧ VC (m 379) (m 381 (l.length : Int)) d s V ∧ m 381 ((l.length : Int) + 1) = m 381 (l.length : Int) + VS d s
theorem stG_at {m : MM} : ∀ {l : List SV}, stG m l → 0 ≤ m 381 (l.length : Int) ∧ m 381 (l.length : Int) ≤ 882 * (l.length : Int) := by
  intro l
  induction l with
  | nil => intro h; have h0 : m 381 0 = 0 := h; show 0 ≤ m 381 0 ∧ m 381 0 ≤ 882 * 0; omega
  | cons e l ih =>
    intro h
    obtain ⟨d, s, V⟩ := e
    obtain ⟨h1, hd, hs, h4, h5⟩ := h
    have a := ih h1
    have b := VS_bd hd hs
    rw [show (((d, s, V) :: l : List SV).length : Int) = (l.length : Int) + 1 from rfl, h5]
    omega
theorem stG.fr {m m' : MM} : ∀ {l : List SV}, stG m l → (∀ q, q < m 381 (l.length : Int) → m' 379 q = m 379 q) → (∀ i, 0 ≤ i → i ≤ (l.length : Int) → m' 381 i = m 381 i) → stG m' l := by
  intro l
  induction l with
  | nil =>
    intro h _ k
    have h0 : m 381 0 = 0 := h
    show m' 381 0 = 0
    rw [k 0 (by decide) (by decide)]
    exact h0
  | cons e l ih =>
    intro h f k
    obtain ⟨d, s, V⟩ := e
    obtain ⟨h1, hd, hs, h4, h5⟩ := h
    have b := VS_bd hd hs
    have a := stG_at h1
    rw [show (((d, s, V) :: l : List SV).length : Int) = (l.length : Int) + 1 from rfl] at f k
    rw [h5] at f
    refine ⟨ih h1 (fun q hq => f q (by omega)) (fun i i0 i1 => k i i0 (by omega)), hd, hs, ?_, ?_⟩
    · rw [k _ (by omega) (by omega)]
      intro i j hi hj c c0 c1
      have bd := EA_bd hd hs hi hj
      rw [f _ (by omega), f _ (by omega)]
      exact h4 i j hi hj c c0 c1
    · rw [k _ (by omega) (by omega), k _ (by omega) (by omega)]
      exact h5
/-- what a step of the machine may change -/
def FKm (m m' : MM) : Prop := (∀ c i, c ≠ 379 → c ≠ 381 → c ≠ 386 → c ≠ 387 → c ≠ 388 → ¬ (c = 378 ∧ i = 2) → ¬ (c = 376 ∧ (i = 8 ∨ i = 19 ∨ i = 20)) → m' c i = m c i) ∧ AR (m' 376 19) (m' 376 20)
theorem FKm.trans {m m1 m2 : MM} (h : FKm m m1) (k : FKm m1 m2) : FKm m m2 := ⟨fun c i a1 a2 a3 a4 a5 a6 a7 => (k.1 c i a1 a2 a3 a4 a5 a6 a7).trans (h.1 c i a1 a2 a3 a4 a5 a6 a7), k.2⟩
theorem Fc.fk {S : Int → Prop} {m m' : MM} (h : Fc S m m') (ar : AR (m 376 19) (m 376 20)) : FKm m m' := ⟨fun c i a1 a2 a3 a4 a5 a6 a7 => h.1 c i a1 a6, by rw [h.oth (by decide) (by decide), h.oth (by decide) (by decide)]; exact ar⟩
theorem FRt.fk {m m' : MM} (h : FRt m m') : FKm m m' := ⟨fun c i a1 a2 a3 a4 a5 a6 a7 => h.1 c i a3 a4 a5 (fun z => a7 ⟨z.1, Or.inr z.2⟩), h.2⟩
section STACK
variable {Q : Int → MM → Prop} {r b d s mu : Int} {U V W : VV} {l : List SV}
theorem c_cells {m : MM} (h : RB r d s) (k : Q (VS d s) m) : P_X11_cells r m Q := by
  rcases h with ⟨b, h⟩ | ⟨rfl, rfl, rfl⟩
  · have hb := h.2.1
    have hr := h.1
    have hd := h.2.2.1
    have hs := h.2.2.2
    refine ⟨h.ri, ?_⟩
    rw [if_neg (by omega)]
    refine c_entries h (c_coef h ?_)
    have : VS d s = 2 * enn s * cof d := by rw [VS_eq2, Int.mul_assoc]
    rw [← this]
    exact k
  · refine ⟨by decide, ?_⟩
    rw [if_pos rfl]
    exact k
theorem RB.bd (h : RB r d s) : (0 ≤ d ∧ d ≤ 2) ∧ (0 ≤ s ∧ s ≤ 3) := by
  rcases h with ⟨b, h⟩ | ⟨rfl, rfl, rfl⟩
  · exact ⟨h.2.2.1, h.2.2.2⟩
  · decide
theorem c_made {m : MM} {below : Int} (hR : RB r d s) (hst : stG m l) (ar : AR (m 376 19) (m 376 20)) (hb : 0 ≤ below) (hl : l.length ≤ 1300) (ht : m 376 8 = (l.length : Int) + below) (hU : VC (m 379) 1155420 d s U) (h : ∀ m', FKm m m' → m' 378 2 = m 378 2 → stG m' ((d, s, U) :: l) → m' 376 8 = (l.length : Int) + 1 → Q 0 m') : P_X6_made r below m Q := by
  obtain ⟨hd, hs⟩ := hR.bd
  have vb := VS_bd hd hs
  have v2 : VS d s = 2 * (enn s * cof d) := VS_eq2
  have at_ := stG_at hst
  rintro _ rfl
  rw [ht, show (l.length : Int) + below - below = (l.length : Int) by omega]
  have e8 : up m 376 8 (l.length : Int) 376 8 = (l.length : Int) := up_at ..
  have e1 : ∀ i, up m 376 8 (l.length : Int) 381 i = m 381 i := fun i => up_ne (fun z => absurd z.1 (by decide))
  have l42 : P_X6_made_42 Q r (m 381 (l.length : Int)) 1155420 (m 381 (l.length : Int)) (enn s * cof d) (up m 376 8 (l.length : Int)) := by
    refine c_X8_copy (by omega) (by omega) (by omega) (fun m1 f1 er1 cp => ?_)
    rintro _ rfl
    have t1 : m1 376 8 = (l.length : Int) := by rw [f1.oth (by decide) (by decide)]; exact e8
    rw [t1]
    have t2 : up m1 376 8 ((l.length : Int) + 1) 376 8 = (l.length : Int) + 1 := up_at ..
    refine c_cells hR ?_
    rw [t2]
    refine ⟨by omega, ?_⟩
    rintro _ rfl
    have g379 : ∀ q, up (up m1 376 8 ((l.length : Int) + 1)) 381 ((l.length : Int) + 1) (m 381 (l.length : Int) + VS d s) 379 q = m1 379 q := fun q => by rw [up_ne (fun z => absurd z.1 (by decide)), up_ne (fun z => absurd z.1 (by decide))]
    have g381 : ∀ i, up (up m1 376 8 ((l.length : Int) + 1)) 381 ((l.length : Int) + 1) (m 381 (l.length : Int) + VS d s) 381 i = if i = (l.length : Int) + 1 then m 381 (l.length : Int) + VS d s else m 381 i := by
      intro i
      by_cases c : i = (l.length : Int) + 1
      · rw [c, up_at, if_pos rfl]
      · rw [up_neI c, up_ne (fun z => absurd z.1 (by decide)), if_neg c, f1.oth (by decide) (by decide)]
        exact e1 i
    have vm1 : VC (m1 379) (m 381 (l.length : Int)) d s U := by
      have hU' : VC (up m 376 8 (l.length : Int) 379) 1155420 d s U := by
        intro i j hi hj c c0 c1
        rw [up_ne (fun z => absurd z.1 (by decide)), up_ne (fun z => absurd z.1 (by decide))]
        exact hU i j hi hj c c0 c1
      exact hU'.cpy hd hs cp
    refine h _ ⟨fun c i a1 a2 a3 a4 a5 a6 a7 => ?_, ?_⟩ ?_ ⟨?_, hd, hs, ?_, ?_⟩ ?_
    · rw [up_ne (fun z => a2 z.1), up_ne (fun z => a7 ⟨z.1, Or.inl z.2⟩), f1.1 c i a1 a6, up_ne (fun z => a7 ⟨z.1, Or.inl z.2⟩)]
    · rw [up_ne (fun z => absurd z.1 (by decide)), up_neI (by decide), up_ne (fun z => absurd z.1 (by decide)), up_neI (by decide), f1.oth (by decide) (by decide), f1.oth (by decide) (by decide), up_neI (by decide), up_neI (by decide)]
      exact ar
    · rw [up_ne (fun z => absurd z.1 (by decide)), up_ne (fun z => absurd z.1 (by decide)), er1, up_ne (fun z => absurd z.1 (by decide))]
    · refine hst.fr (fun q hq => ?_) (fun i i0 i1 => ?_)
      · rw [g379, f1.2 _ (by omega), up_ne (fun z => absurd z.1 (by decide))]
      · rw [g381, if_neg (by omega)]
    · rw [g381, if_neg (by omega)]
      intro i j hi hj c c0 c1
      rw [g379, g379]
      exact vm1 i j hi hj c c0 c1
    · rw [g381, g381, if_pos rfl, if_neg (by omega)]
    · rw [up_ne (fun z => absurd z.1 (by decide))]
      exact t2
  rw [e8]
  refine ⟨by omega, ?_⟩
  rw [e1]
  rcases id hR with ⟨b, hG⟩ | ⟨rfl, rfl, rfl⟩
  · have := hG.1
    have := hG.2.1
    refine ⟨hG.ri, ?_⟩
    rw [if_neg (by omega)]
    exact c_number hG l42
  · refine ⟨by decide, ?_⟩
    rw [if_pos rfl]
    exact l42
theorem c_truth {m : MM} {is below : Int} (his : is = 0 ∨ is = 1) (hst : stG m l) (ar : AR (m 376 19) (m 376 20)) (hb : 0 ≤ below) (hl : l.length ≤ 1300) (ht : m 376 8 = (l.length : Int) + below) (h : ∀ m', FKm m m' → m' 378 2 = m 378 2 → stG m' ((0, 0, numV is) :: l) → m' 376 8 = (l.length : Int) + 1 → Q 0 m') : P_X6_truth is below m Q := by
  have at_ := stG_at hst
  refine ⟨by constructor <;> omega, ?_⟩
  have e : (if is = 0 then (0 : Int) else 1) = is := by split <;> omega
  rw [e]
  refine (show P_X6_integer is m (fun _ m2 => P_X6_made (-2) below m2 (fun r1 m3 => Q 0 m3)) from c_integer (fun m1 f1 e1 v1 => ?_))
  have fr : stG m1 l := hst.fr (fun q hq => f1.2 q (by omega)) (fun i i0 i1 => f1.oth (by decide) (by decide))
  refine c_made (l := l) (U := numV is) (Or.inr ⟨rfl, rfl, rfl⟩) fr (by rw [f1.oth (by decide) (by decide), f1.oth (by decide) (by decide)]; exact ar) hb hl (by rw [f1.oth (by decide) (by decide)]; exact ht) v1 (fun m2 f2 e2 s2 t2 => h m2 ((f1.fk ar).trans f2) (by rw [e2, e1]) s2 t2)
/-! relations -/
noncomputable def sameN (V W : VV) : Int := @ite _ (∀ i j k, in3 i → in3 j → (0 ≤ k ∧ k < 49) → V i j k = W i j k) (Classical.propDecidable _) 1 0
def lessN (orS : Int) (p q : PP) : Int := if p.1 * q.2 - q.1 * p.2 < 0 then 1 else if orS = 0 then 0 else if p.1 * q.2 - q.1 * p.2 = 0 then 1 else 0
theorem sameN_1 (h : ∀ i j k, in3 i → in3 j → (0 ≤ k ∧ k < 49) → V i j k = W i j k) : sameN V W = 1 := if_pos h
theorem sameN_0 (h : ¬ ∀ i j k, in3 i → in3 j → (0 ≤ k ∧ k < 49) → V i j k = W i j k) : sameN V W = 0 := if_neg h
theorem c_X8_isLess {m : MM} {x y orS : Int} {p q : PP} (ho : orS = 0 ∨ orS = 1) (hx : 0 ≤ x ∧ x + 1 < 1159540) (hy : 0 ≤ y ∧ y + 1 < 1159540) (px : pr m 379 x = p) (py : pr m 379 y = q) (np : NB mu p) (nq : NB mu q) (h : Q (lessN orS p q) m) : P_X8_isLess x y orS m Q := by
  have a1 : m 379 x = p.1 := congrArg Prod.fst px
  have a2 : m 379 (x + 1) = p.2 := congrArg Prod.snd px
  have b1 : m 379 y = q.1 := congrArg Prod.fst py
  have b2 : m 379 (y + 1) = q.2 := congrArg Prod.snd py
  have n1 := np.p1
  have n2 := np.p2
  have n3 := nq.p1
  have n4 := nq.p2
  have m1 := mul_bd n1 (y := q.2) (by omega)
  have m2 := mul_bd n3 (y := p.2) (by omega)
  unfold P_X8_isLess
  rw [a1, a2, b1, b2]
  refine ⟨by omega, by constructor <;> omega, by omega, by constructor <;> omega, by omega, by constructor <;> omega, by omega, by constructor <;> omega, by constructor <;> omega, ?_⟩
  unfold lessN at h
  by_cases c : p.1 * q.2 - q.1 * p.2 < 0
  · rw [if_pos c] at h ⊢; exact h
  · rw [if_neg c] at h ⊢
    refine ⟨by constructor <;> omega, ?_⟩
    by_cases c2 : orS = 0
    · rw [if_pos c2] at h ⊢; exact h
    · rw [if_neg c2] at h ⊢
      by_cases c3 : p.1 * q.2 - q.1 * p.2 = 0
      · rw [if_pos c3] at h ⊢; exact h
      · rw [if_neg c3] at h ⊢; exact h
/-- comparing two values cell by cell -/
theorem twoC_86 {m : MM} {op x y mv : Int} (hR : RB r d s) (hop : op = 15 ∨ op = 16) (bx : 0 ≤ x ∧ x + 882 ≤ 1155420) (by_ : 0 ≤ y ∧ y + 882 ≤ 1155420) (vx : VC (m 379) x d s V) (vy : VC (m 379) y d s W) (nV : NN mv d s V) (nW : NN mv d s W) (h : P_X6_two_133 Q op (sameN V W) m) : ∃ nn, P_X6_two_86 Q nn op r x y 1 0 m := by
  obtain ⟨hd, hs⟩ := hR.bd
  have vb := VS_bd hd hs
  have v2 : VS d s = 2 * (cof d * enn s) := VS_eq
  have rx := vx.row hd hs
  have ry := vy.row hd hs
  have hcd := cof_bd hd
  have rr := rws_bd hs
  have cx : ∀ k, 0 ≤ k → k < VS d s → m 379 (x + k) = cell (fl d s V) k := fun k k0 k1 => rx.cl_ k0 (by omega)
  have cy : ∀ k, 0 ≤ k → k < VS d s → m 379 (y + k) = cell (fl d s W) k := fun k k0 k1 => ry.cl_ k0 (by omega)
  have ri : ∀ (X : VV), NN mv d s X → ∀ k, RI (cell (fl d s X) k) := by
    intro X nX k
    have a := (nX.1 ((k / 2) / cof d / rws s) ((k / 2) / cof d % rws s) ((k / 2) % cof d)).p1
    have b := (nX.1 ((k / 2) / cof d / rws s) ((k / 2) / cof d % rws s) ((k / 2) % cof d)).p2
    unfold cell fl
    split <;> constructor <;> omega
  have key : (∀ k, 0 ≤ k → k < VS d s → cell (fl d s V) k = cell (fl d s W) k) ↔ (∀ i j k, in3 i → in3 j → (0 ≤ k ∧ k < 49) → V i j k = W i j k) := by
    constructor
    · intro z i j k hi hj hk
      by_cases c : inV d s i j k
      · have ix := flat_ix hd hs c
        have a := z (2 * (cof d * (s * i + j) + k)) (by omega) (by omega)
        have b := z (2 * (cof d * (s * i + j) + k) + 1) (by omega) (by omega)
        unfold cell at a b
        rw [if_pos (by omega), if_pos (by omega), show 2 * (cof d * (s * i + j) + k) / 2 = cof d * (s * i + j) + k by omega, fl_at hd hs c.1 c.2.1 c.2.2, fl_at hd hs c.1 c.2.1 c.2.2] at a
        rw [if_neg (by omega), if_neg (by omega), show (2 * (cof d * (s * i + j) + k) + 1) / 2 = cof d * (s * i + j) + k by omega, fl_at hd hs c.1 c.2.1 c.2.2, fl_at hd hs c.1 c.2.1 c.2.2] at b
        exact Prod.ext a b
      · rw [nV.2 i j k (by omega), nW.2 i j k (by omega)]
    · intro z k k0 k1
      have ix := fl_ix hd hs (show 0 ≤ k / 2 by omega) (show k / 2 < cof d * enn s by omega)
      have e : fl d s V (k / 2) = fl d s W (k / 2) := by
        unfold fl
        exact z _ _ _ (by omega) (by omega) (by omega)
      unfold cell
      rw [e]
  have L : ∀ (n : Nat) (k fl1 : Int), 0 ≤ k → k + n = VS d s → (fl1 = 1 ∧ (∀ j, 0 ≤ j → j < k → cell (fl d s V) j = cell (fl d s W) j)) ∨ (fl1 = 0 ∧ ¬ ∀ j, 0 ≤ j → j < VS d s → cell (fl d s V) j = cell (fl d s W) j) → P_X6_two_86 Q (n + 1) op r x y fl1 k m := by
    intro n
    induction n with
    | zero =>
      intro k fl1 k0 k1 hf
      refine c_cells hR ⟨by constructor <;> omega, by constructor <;> omega, ?_⟩
      rw [if_pos (by omega)]
      have : fl1 = sameN V W := by
        rcases hf with ⟨a, z⟩ | ⟨a, z⟩
        · rw [a, sameN_1 (key.1 (fun j j0 j1 => z j j0 (by omega)))]
        · rw [a, sameN_0 (fun q => z (key.2 q))]
      rw [this]
      exact h
    | succ n ih =>
      intro k fl1 k0 k1 hf
      refine c_cells hR ⟨by constructor <;> omega, by constructor <;> omega, ?_⟩
      rw [if_neg (by omega), cx k k0 (by omega), cy k k0 (by omega)]
      refine ⟨by omega, by omega, ri V nV k, ri W nW k, ?_⟩
      by_cases c : cell (fl d s V) k = cell (fl d s W) k
      · rw [if_pos c, iAnd1]
        refine ih (k + 1) _ (by omega) (by omega) ?_
        rcases hf with ⟨a, z⟩ | ⟨a, z⟩
        · left
          refine ⟨by rw [a]; decide, fun j j0 j1 => ?_⟩
          by_cases cj : j = k
          · rw [cj]; exact c
          · exact z j j0 (by omega)
        · right
          exact ⟨by rw [a]; decide, z⟩
      · rw [if_neg c]
        refine ih (k + 1) _ (by omega) (by omega) (Or.inr ⟨?_, fun z => c (z k k0 (by omega))⟩)
        rcases hf with ⟨a, -⟩ | ⟨a, -⟩
        · rw [a]; decide
        · rw [a]; decide
  exact ⟨_, L (VS d s).toNat 0 1 (by decide) (by omega) (Or.inl ⟨rfl, fun j j0 j1 => by omega⟩)⟩
end STACK
