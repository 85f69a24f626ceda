set_option maxRecDepth 100000
/-! the component: heads of functions, all of them -/
section HEAD2
variable {Q : Int → MM → Prop} {b : Int} {D : DFN}
theorem HDk.fr {m m' : MM} {k : Int} (h : HDk m b D k) (g : ∀ c, b + 13 ≤ c → c ≤ b + 16 → m' c k = m c k) : HDk m' b D k := by
  obtain ⟨h1, h2, h3⟩ := h
  refine ⟨by rw [g _ (by omega) (by omega)]; exact h1, by rw [g _ (by omega) (by omega)]; exact h2, fun x hx hr => ?_⟩
  rw [g _ (by omega) (by omega), g _ (by omega) (by omega)]
  exact h3 x hx hr
theorem dupN_step {k j : Int} : @ite Nte (∃ i, 1 ≤ i ∧ i < j + 1 ∧ dPn D i = dPn D k) (Classical.propDecidable _) (some (dPp D k, 5)) none = mn (@ite _ (∃ i, 1 ≤ i ∧ i < j ∧ dPn D i = dPn D k) (Classical.propDecidable _) (some (dPp D k, 5)) none) (@ite _ (1 ≤ j ∧ dPn D j = dPn D k) (Classical.propDecidable _) (some (dPp D k, 5)) none) := by
  by_cases h1 : ∃ i, 1 ≤ i ∧ i < j ∧ dPn D i = dPn D k
  · obtain ⟨i, i1, i2, i3⟩ := h1
    rw [if_pos ⟨i, i1, by omega, i3⟩, if_pos ⟨i, i1, i2, i3⟩]
    by_cases h2 : 1 ≤ j ∧ dPn D j = dPn D k
    · rw [if_pos h2]
      exact (mn_idem (a := none)).symm
    · rw [if_neg h2, mn_none]
  · rw [if_neg h1]
    by_cases h2 : 1 ≤ j ∧ dPn D j = dPn D k
    · rw [if_pos h2, if_pos ⟨j, h2.1, by omega, h2.2⟩]
      rfl
    · rw [if_neg h2, if_neg]
      · rfl
      · rintro ⟨i, i1, i2, i3⟩
        by_cases e : i = j
        · subst e; exact h2 ⟨i1, i3⟩
        · exact h1 ⟨i, i1, by omega, i3⟩
noncomputable def twN (F : Int → FnR) (n : Int) (f : FnR) : Int := @ite _ (∃ g, 0 ≤ g ∧ g < n ∧ twinS f (F g)) (Classical.propDecidable _) 1 0
/-- whether such a function is told -/
theorem c_isThereC {m : MM} {F : Int → FnR} {n : Int} (hb : b = 8 + 17 * n) (h1 : m 372 1 = b) (h31 : m 3 1 = n) (hn : 0 ≤ n ∧ n ≤ 20) (hB : BKh m F n) (hD : okD D) (hc : DFc m b D) (ha : allO D) (hh : ∀ k, 1 ≤ k → k ≤ dNp D → HDk m b D k) (h : Q (twN F n (hdF D)) m) : P_X5_isThere m Q := by
  have tb : isTx b := by rw [hb]; exact isTx_k (by omega)
  have np := hD.1
  have rn := hD.2.2.1
  -- one parameter of both
  have cmp : ∀ (g j : Int), 0 ≤ g → g < n → 1 ≤ j → j ≤ dNp D → j ≤ (F g).2.1 → (m (8 + 17 * g + 13) j = (F g).2.2.2.2.1 j ∧ m (8 + 17 * g + 14) j = encC ((F g).2.2.2.2.2.1 j) ∧ ok3 ((F g).2.2.2.2.2.1 j) ∧ ((F g).2.2.2.2.1 j = 0 ∨ (F g).2.2.2.2.1 j = 1) ∧ ((F g).2.2.2.2.1 j ≠ 0 → m (8 + 17 * g + 15) j = ((F g).2.2.2.2.2.1 j).2.1 ∧ m (8 + 17 * g + 16) j = ((F g).2.2.2.2.2.1 j).2.2 ∧ ((F g).2.2.2.2.2.1 j).1 = 0)) := by
    intro g j g0 g1 j0 j1 j2
    obtain ⟨ok, tx⟩ := hB.2 g g0 g1
    obtain ⟨y1, y2, y3⟩ := tx.2.2.2.1 j (by omega) j2
    obtain ⟨z1, z2, z3, z4⟩ := ok.2.2.2.1 j (by omega) j2
    exact ⟨y1, y2, z1, z2, fun q => ⟨(y3 q).1, (y3 q).2, z3 q⟩⟩
  have own : ∀ j, 1 ≤ j → j ≤ dNp D → ∃ x, (hdO D j).1 = some x ∧ ok3 x ∧ (hdF D).2.2.2.2.2.1 j = x ∧ m (b + 13) j = hasRT (dTy D j) ∧ m (b + 14) j = encC x ∧ (hasRT (dTy D j) = 1 → m (b + 15) j = x.2.1 ∧ m (b + 16) j = x.2.2 ∧ x.1 = 0) := by
    intro j j0 j1
    obtain ⟨y1, y2, y3⟩ := hh j j0 j1
    obtain ⟨w, ty, -⟩ := hD.2.2.2.2.2.2.2.1 j (by omega) j1
    rcases hx : (hdO D j).1 with - | x
    · exact absurd hx (ha j j0 j1)
    · refine ⟨x, rfl, tyO_ok (fun y hy => (hdR_ok y hy).1) _ w ty x hx, ?_, y1, by rw [y2, hx]; rfl, fun q => ⟨(y3 x hx q).1, (y3 x hx q).2, ?_⟩⟩
      · show (hdO D j).1.getD (0, 0, 0) = x
        rw [hx]; rfl
      · unfold hdO hdR at hx
        split at hx
        · rw [tyO_noR w ty x hx] at q; cases q
        · exact (shp_R _ w ty x 0 0 hx q).2
  have L : ∀ (r : Nat) (g : Int), 0 ≤ g → g + r = n → (∀ i, 0 ≤ i → i < g → ¬ twinS (hdF D) (F i)) → P_X5_isThere_2 Q (r + 1) g m := by
    intro r
    induction r with
    | zero =>
      intro g g0 g1 hg
      unfold P_X5_isThere_2
      rw [h31]
      refine ⟨by constructor <;> omega, by constructor <;> omega, ?_⟩
      rw [if_pos (by omega)]
      have : twN F n (hdF D) = 0 := if_neg (fun ⟨i, i0, i1, i2⟩ => hg i i0 (by omega) i2)
      rw [this] at h
      exact h
    | succ r ih =>
      intro g g0 g1 hg
      obtain ⟨ok, tx⟩ := hB.2 g g0 (by omega)
      have txg := isTx_k (k := g) (by omega)
      have npg := ok.1
      have no : ¬ twinS (hdF D) (F g) → P_X5_isThere_2 Q (r + 1) (g + 1) m := fun q => ih (g + 1) (by omega) (by omega) (fun i i0 i1 => by
        by_cases e : i = g
        · rw [e]; exact q
        · exact hg i i0 (by omega))
      have l185n : ¬ twinS (hdF D) (F g) → P_X5_isThere_185 Q (fun z0 z1 => P_X5_isThere_2 Q (r + 1) z0 z1) g 0 m := by
        intro q
        refine ⟨by decide, ?_⟩
        rw [if_pos rfl]
        exact no q
      have l61n : ¬ twinS (hdF D) (F g) → ∀ (nn : Nat) (j : Int), P_X5_isThere_61 Q (fun z0 z1 => P_X5_isThere_2 Q (r + 1) z0 z1) (nn + 1) g (8 + 17 * g) 0 j m := by
        intro q nn j
        refine ⟨by decide, ?_⟩
        rw [if_pos rfl]
        exact l185n q
      unfold P_X5_isThere_2
      rw [h31, h1, tx.1, tx.2.1, hc.1.2.1, hc.1.2.2.2.1]
      refine ⟨by constructor <;> omega, by constructor <;> omega, ?_⟩
      rw [if_neg (by omega)]
      refine ⟨by omega, txg, tb, ok.2.2.1, rn, ?_⟩
      by_cases c1 : (F g).1 = dNm D
      · rw [if_pos c1]
        refine ⟨by constructor <;> omega, by constructor <;> omega, ?_⟩
        by_cases c2 : (F g).2.1 = dNp D
        · rw [if_pos c2]
          have L2 : ∀ (s : Nat) (j : Int), 1 ≤ j → j + s = dNp D + 1 → (∀ i, 1 ≤ i → i < j → (F g).2.2.2.2.1 i = (hdF D).2.2.2.2.1 i ∧ (F g).2.2.2.2.2.1 i = (hdF D).2.2.2.2.2.1 i) → P_X5_isThere_61 Q (fun z0 z1 => P_X5_isThere_2 Q (r + 1) z0 z1) (s + 2) g (8 + 17 * g) 1 j m := by
            intro s
            induction s with
            | zero =>
              intro j j0 j1 hj
              unfold P_X5_isThere_61
              rw [h1, hc.1.2.2.2.1]
              refine ⟨by decide, ?_⟩
              rw [if_neg (by decide)]
              refine ⟨tb, by constructor <;> omega, by constructor <;> omega, ?_⟩
              rw [if_pos (by omega)]
              refine ⟨by decide, ?_⟩
              rw [if_neg (by decide)]
              have : twN F n (hdF D) = 1 := if_pos ⟨g, g0, by omega, c1, c2, fun i i0 i1 => hj i i0 (by have : i ≤ dNp D := i1; omega)⟩
              rw [this] at h
              exact h
            | succ s ih2 =>
              intro j j0 j1 hj
              obtain ⟨y1, y2, y3, y4, y5⟩ := cmp g j g0 (by omega) j0 (by omega) (by omega)
              obtain ⟨x, x1, x2, x3, x4, x5, x6⟩ := own j j0 (by omega)
              have rx := encC_bd x2
              have ry := encC_bd y3
              have nt : ((F g).2.2.2.2.1 j ≠ hasRT (dTy D j) ∨ (F g).2.2.2.2.2.1 j ≠ x) → ¬ twinS (hdF D) (F g) := by
                rintro q ⟨-, -, t⟩
                have := t j j0 (by show j ≤ dNp D; omega)
                rw [x3] at this
                rcases q with q | q
                · exact q this.1
                · exact q this.2
              have hcs := hasRT_cs (dTy D j)
              show P_X5_isThere_61 Q _ (s + 2 + 1) g (8 + 17 * g) 1 j m
              unfold P_X5_isThere_61
              rw [h1, hc.1.2.2.2.1, y1, y2, x4, x5]
              refine ⟨by decide, ?_⟩
              rw [if_neg (by decide)]
              refine ⟨tb, by constructor <;> omega, by constructor <;> omega, ?_⟩
              rw [if_neg (by omega)]
              refine ⟨txg, by omega, by constructor <;> omega, by constructor <;> omega, ?_⟩
              have next : (F g).2.2.2.2.1 j = hasRT (dTy D j) → (F g).2.2.2.2.2.1 j = x → P_X5_isThere_173 Q (fun z0 z1 => P_X5_isThere_2 Q (r + 1) z0 z1) (fun z0 z1 z2 z3 z4 => P_X5_isThere_61 Q (fun z0 z1 => P_X5_isThere_2 Q (r + 1) z0 z1) (s + 2) z0 z1 z2 z3 z4) g (8 + 17 * g) j m := by
                intro q1 q2
                refine ih2 (j + 1) (by omega) (by omega) (fun i i0 i1 => ?_)
                by_cases e : i = j
                · rw [e, x3]; exact ⟨q1, q2⟩
                · exact hj i i0 (by omega)
              by_cases d1 : (F g).2.2.2.2.1 j = hasRT (dTy D j)
              · rw [if_pos d1]
                by_cases d2 : hasRT (dTy D j) = 0
                · rw [if_pos d2]
                  refine ⟨ry.1, rx.1, ?_⟩
                  by_cases d3 : (F g).2.2.2.2.2.1 j = x
                  · rw [if_pos (by rw [d3])]; exact next d1 d3
                  · rw [if_neg (fun q => d3 (encC_inj y3 x2 q))]
                    exact l61n (nt (Or.inr d3)) _ _
                · rw [if_neg d2]
                  obtain ⟨p1, p2, p3⟩ := y5 (by omega)
                  obtain ⟨p4, p5, p6⟩ := x6 (by omega)
                  rw [p1, p2, p4, p5]
                  have b1 : (0 ≤ ((F g).2.2.2.2.2.1 j).2.1 ∧ ((F g).2.2.2.2.2.1 j).2.1 ≤ 2) ∧ (0 ≤ ((F g).2.2.2.2.2.1 j).2.2 ∧ ((F g).2.2.2.2.2.1 j).2.2 ≤ 3) := by unfold ok3 at y3; omega
                  have b2 : (0 ≤ x.2.1 ∧ x.2.1 ≤ 2) ∧ (0 ≤ x.2.2 ∧ x.2.2 ≤ 3) := by unfold ok3 at x2; omega
                  refine ⟨by constructor <;> omega, by constructor <;> omega, ?_⟩
                  by_cases d3 : ((F g).2.2.2.2.2.1 j).2.1 = x.2.1
                  · rw [if_pos d3]
                    refine ⟨by constructor <;> omega, by constructor <;> omega, ?_⟩
                    by_cases d4 : ((F g).2.2.2.2.2.1 j).2.2 = x.2.2
                    · rw [if_pos d4]
                      exact next d1 (Prod.ext (p3.trans p6.symm) (Prod.ext d3 d4))
                    · rw [if_neg d4]
                      exact l61n (nt (Or.inr (fun q => d4 (by rw [q])))) _ _
                  · rw [if_neg d3]
                    exact l61n (nt (Or.inr (fun q => d3 (by rw [q])))) _ _
              · rw [if_neg d1]
                exact l61n (nt (Or.inl d1)) _ _
          exact ⟨_, L2 (dNp D).toNat 1 (by decide) (by omega) (fun i i0 i1 => by omega)⟩
        · rw [if_neg c2]
          exact ⟨1, l61n (fun q => c2 q.2.1) 0 1⟩
      · rw [if_neg c1]
        exact ⟨1, l61n (fun q => c1 q.1) 0 1⟩
  exact ⟨_, L n.toNat 0 (by decide) (by omega) (fun i i0 i1 => by omega)⟩
/-- the head of a text -/
def HDs (m : MM) (b : Int) (D : DFN) : Prop := ∀ k, 0 ≤ k → k ≤ dNp D → HDk m b D k
theorem c_headC {m : MM} {F : Int → FnR} {n : Int} (hb : b = 8 + 17 * n) (h1 : m 372 1 = b) (h5 : m 372 5 = 0) (h31 : m 3 1 = n) (hn : 0 ≤ n ∧ n ≤ 20) (hB : BKh m F n) (hD : okD D) (hc : DFc m b D) (h : ∀ m', FLk b m m' → m' 372 1 = b → m' 372 4 = 1 → NC m' (hdN F n D) → HDs m' b D → Q 0 m') : P_X5_head m Q := by
  have tb : isTx b := by rw [hb]; exact isTx_k (by omega)
  have bx := tb
  unfold isTx at bx
  have np := hD.1
  have ru := hD.2.1
  -- the loop over the parameters
  have l197 : ∀ (m2 : MM) (x2 : Int), FLk b m m2 → m2 372 1 = b → m2 372 4 = 1 → NC m2 (mn (mn (hdP D (dNp D).toNat) (hdO D 0).2) (@ite _ (dRu D ≠ 0 ∧ allO D ∧ ¬ anyR D) (Classical.propDecidable _) (some (dFp D, 4)) none)) → HDs m2 b D → (x2 = 0 ∧ ¬ allO D ∨ x2 = 1 ∧ allO D) → P_X5_head_197 Q x2 m2 := by
    intro m2 x2 f2 e1 e4 n2 hd hx
    refine ⟨by constructor <;> omega, ?_⟩
    rcases hx with ⟨rfl, na⟩ | ⟨rfl, al⟩
    · rw [if_pos rfl]
      refine h m2 f2 e1 e4 ?_ hd
      unfold hdN
      rw [if_neg (fun q : allO D ∧ _ => na q.1), mn_none]
      exact n2
    · rw [if_neg (by decide)]
      have g2 : ∀ c i, c = b ∨ b + 9 ≤ c ∧ c ≤ b + 12 → m2 c i = m c i := fun c i z => f2 c i (by omega) (by omega) (by omega) (by omega) (by omega)
      have hB2 : BKh m2 F n := ⟨hB.1, fun k k0 k1 => by
        have tx := isTx_k (k := k) (by omega)
        have q := tx
        unfold isTx at q
        exact ⟨(hB.2 k k0 k1).1, (hB.2 k k0 k1).2.fr tx (fun c i z => f2 c i (by omega) (by omega) (by omega) (by omega) (by omega))⟩⟩
      refine c_isThereC hb e1 (by rw [f2 3 1 (by decide) (by decide) (by decide) (by omega) (by omega)]; exact h31) hn hB2 hD (hc.lk tb f2) al (fun k k0 k1 => hd k (by omega) k1) ?_
      by_cases tw : ∃ g, 0 ≤ g ∧ g < n ∧ twinS (hdF D) (F g)
      · rw [show twN F n (hdF D) = 1 from if_pos tw]
        refine ⟨by decide, ?_⟩
        rw [if_neg (by decide), e1, g2 b 20 (by omega), hc.1.2.2.1]
        refine ⟨tb, c_failC n2 (by decide) hD.2.2.2.1 (fun m3 f3 n3 => ?_)⟩
        refine h m3 (f2.trans f3.lk) (by rw [f3 372 1 (by decide)]; exact e1) (by rw [f3 372 4 (by decide)]; exact e4) ?_ (fun k k0 k1 => (hd k k0 k1).fr (fun c _ _ => f3 _ _ (by omega)))
        unfold hdN
        rw [if_pos (show allO D ∧ _ from ⟨al, tw⟩)]
        exact n3
      · rw [show twN F n (hdF D) = 0 from if_neg tw]
        refine ⟨by decide, ?_⟩
        rw [if_pos rfl]
        refine h m2 f2 e1 e4 ?_ hd
        unfold hdN
        rw [if_neg (fun q : allO D ∧ _ => tw q.2), mn_none]
        exact n2
  have l152 : ∀ (m2 : MM) (x1 x2 : Int), FLk b m m2 → m2 372 1 = b → m2 372 3 = encO (hdR D) → m2 372 4 = 1 → NC m2 (hdP D (dNp D).toNat) → (∀ k, 1 ≤ k → k ≤ dNp D → HDk m2 b D k) → (x1 = 0 ∧ ¬ anyR D ∨ x1 = 1 ∧ anyR D) → (x2 = 0 ∧ ¬ allO D ∨ x2 = 1 ∧ allO D) → P_X5_head_152 Q x1 x2 m2 := by
    intro m2 x1 x2 f2 e1 e3 e4 n2 hd hx1 hx2
    obtain ⟨w, ty, ht⟩ := hD.2.2.2.2.2.2.2.1 0 (by decide) (by omega)
    have hc2 := hc.lk tb f2
    obtain ⟨l0, u0, hT⟩ := hc2.2.2.1
    unfold P_X5_head_152
    rw [e1]
    refine ⟨tb, c_shapeC tb (by decide) w ty ht e1 e3 hT n2 (fun m3 f3 n3 hd3 => ?_)⟩
    have f3' := f2.trans f3.lk
    have z1 : m3 372 1 = b := by rw [f3 372 1 (by decide) (by omega)]; exact e1
    have z4 : m3 372 4 = 1 := by rw [f3 372 4 (by decide) (by omega)]; exact e4
    have hc3 := hc.lk tb f3'
    have hds : HDs m3 b D := by
      intro k k0 k1
      by_cases q : k = 0
      · rw [q]; exact hd3
      · exact (hd k (by omega) k1).fr (fun c _ _ => f3 _ _ (by omega) (by omega))
    rw [z1, hc3.1.2.2.2.2.1]
    refine ⟨tb, by constructor <;> omega, ?_⟩
    have no : ¬ (dRu D ≠ 0 ∧ allO D ∧ ¬ anyR D) → P_X5_head_197 Q x2 m3 := by
      intro q
      refine l197 m3 x2 f3' z1 z4 ?_ hds hx2
      rw [if_neg q, mn_none]
      exact n3
    by_cases r0 : dRu D ≤ 0
    · rw [if_pos r0]; exact no (fun q => q.1 (by omega))
    rw [if_neg r0]
    refine ⟨by constructor <;> omega, ?_⟩
    rcases hx2 with ⟨rfl, na⟩ | ⟨rfl, al⟩
    · rw [if_pos rfl]; exact no (fun q => na q.2.1)
    rw [if_neg (by decide)]
    refine ⟨by constructor <;> omega, ?_⟩
    rcases hx1 with ⟨rfl, nr⟩ | ⟨rfl, ar⟩
    · rw [if_pos rfl, hc3.1.2.2.2.2.2.1 (by omega)]
      refine c_failC n3 (by decide) (hD.2.2.2.2.1 (by omega)) (fun m4 f4 n4 => ?_)
      refine l197 m4 1 (f3'.trans f4.lk) (by rw [f4 372 1 (by decide)]; exact z1) (by rw [f4 372 4 (by decide)]; exact z4) ?_ (fun k k0 k1 => (hds k k0 k1).fr (fun c _ _ => f4 _ _ (by omega))) (Or.inr ⟨rfl, al⟩)
      rw [if_pos (show dRu D ≠ 0 ∧ allO D ∧ ¬ anyR D from ⟨by omega, al, nr⟩)]
      exact n4
    · rw [if_neg (by decide)]; exact no (fun q => q.2.2 ar)
  have L : ∀ (r : Nat) (k : Nat) (x1 x2 : Int) (m2 : MM), (k : Int) + r = dNp D → FLk b m m2 → m2 372 1 = b → m2 372 3 = encO (hdR D) → m2 372 4 = 1 → NC m2 (hdP D k) → (∀ j, 1 ≤ j → j ≤ (k : Int) → HDk m2 b D j) → (x1 = 0 ∧ (¬ ∃ j, 1 ≤ j ∧ j ≤ (k : Int) ∧ hasRT (dTy D j) = 1) ∨ x1 = 1 ∧ ∃ j, 1 ≤ j ∧ j ≤ (k : Int) ∧ hasRT (dTy D j) = 1) → (x2 = 0 ∧ (¬ ∀ j, 1 ≤ j → j ≤ (k : Int) → (hdO D j).1 ≠ none) ∨ x2 = 1 ∧ ∀ j, 1 ≤ j → j ≤ (k : Int) → (hdO D j).1 ≠ none) → P_X5_head_38 Q (r + 1) x1 x2 ((k : Int) + 1) m2 := by
    intro r
    induction r with
    | zero =>
      intro k x1 x2 m2 kr f2 e1 e3 e4 n2 hd hx1 hx2
      have hc2 := hc.lk tb f2
      have ek : (dNp D).toNat = k := by omega
      have ek' : (k : Int) = dNp D := by omega
      unfold P_X5_head_38
      rw [e1, hc2.1.2.2.2.1]
      refine ⟨tb, by constructor <;> omega, by constructor <;> omega, ?_⟩
      rw [if_pos (by omega)]
      rw [ek'] at hx1 hx2 hd
      exact l152 m2 x1 x2 f2 e1 e3 e4 (by rw [ek]; exact n2) hd hx1 hx2
    | succ r ih =>
      intro k x1 x2 m2 kr f2 e1 e3 e4 n2 hd hx1 hx2
      have hc2 := hc.lk tb f2
      obtain ⟨w, ty, ht⟩ := hD.2.2.2.2.2.2.2.1 ((k : Int) + 1) (by omega) (by omega)
      obtain ⟨-, -, l0, u0, hT⟩ := hc2.2.1 ((k : Int) + 1) (by omega) (by omega)
      show P_X5_head_38 Q (r + 1 + 1) x1 x2 ((k : Int) + 1) m2
      unfold P_X5_head_38
      rw [e1, hc2.1.2.2.2.1]
      refine ⟨tb, by constructor <;> omega, by constructor <;> omega, ?_⟩
      rw [if_neg (by omega)]
      refine ⟨by omega, c_shapeC tb (by omega) w ty ht e1 e3 hT n2 (fun m3 f3 n3 hd3 => ?_)⟩
      have f3' := f2.trans f3.lk
      have z1 : m3 372 1 = b := by rw [f3 372 1 (by decide) (by omega)]; exact e1
      have z3 : m3 372 3 = encO (hdR D) := by rw [f3 372 3 (by decide) (by omega)]; exact e3
      have z4 : m3 372 4 = 1 := by rw [f3 372 4 (by decide) (by omega)]; exact e4
      rw [z1]
      refine ⟨tb, by omega, ?_⟩
      rw [hd3.1]
      have hcs := hasRT_cs (dTy D ((k : Int) + 1))
      have hds : ∀ j, 1 ≤ j → j ≤ (k : Int) + 1 → HDk m3 b D j := by
        intro j j0 j1
        by_cases q : j = (k : Int) + 1
        · rw [q]; exact hd3
        · exact (hd j j0 (by omega)).fr (fun c _ _ => f3 _ _ (by omega) (by omega))
      have y1 : ∀ v, v = iOr x1 (hasRT (dTy D ((k : Int) + 1))) → (v = 0 ∧ (¬ ∃ j, 1 ≤ j ∧ j ≤ (k : Int) + 1 ∧ hasRT (dTy D j) = 1) ∨ v = 1 ∧ ∃ j, 1 ≤ j ∧ j ≤ (k : Int) + 1 ∧ hasRT (dTy D j) = 1) := by
        rintro v rfl
        rcases hcs with hq | hq
        · rcases hx1 with ⟨rfl, q⟩ | ⟨rfl, j, j0, j1, j2⟩
          · refine Or.inl ⟨by rw [hq]; decide, ?_⟩
            rintro ⟨j, j0, j1, j2⟩
            by_cases e : j = (k : Int) + 1
            · rw [e, hq] at j2; cases j2
            · exact q ⟨j, j0, by omega, j2⟩
          · exact Or.inr ⟨by rw [hq]; decide, j, j0, by omega, j2⟩
        · refine Or.inr ⟨?_, (k : Int) + 1, by omega, by omega, hq⟩
          rw [hq]
          rcases hx1 with ⟨rfl, -⟩ | ⟨rfl, -⟩ <;> decide
      have y2 : ∀ v, v = iAnd x2 (if (hdO D ((k : Int) + 1)).1 = none then 0 else 1) → (v = 0 ∧ (¬ ∀ j, 1 ≤ j → j ≤ (k : Int) + 1 → (hdO D j).1 ≠ none) ∨ v = 1 ∧ ∀ j, 1 ≤ j → j ≤ (k : Int) + 1 → (hdO D j).1 ≠ none) := by
        rintro v rfl
        by_cases hq : (hdO D ((k : Int) + 1)).1 = none
        · refine Or.inl ⟨?_, fun q => q _ (by omega) (by omega) hq⟩
          rw [if_pos hq]
          rcases hx2 with ⟨rfl, -⟩ | ⟨rfl, -⟩ <;> decide
        · rw [if_neg hq]
          rcases hx2 with ⟨rfl, q⟩ | ⟨rfl, q⟩
          · exact Or.inl ⟨by decide, fun z => q (fun j j0 j1 => z j j0 (by omega))⟩
          · refine Or.inr ⟨by decide, fun j j0 j1 => ?_⟩
            by_cases e : j = (k : Int) + 1
            · rw [e]; exact hq
            · exact q j j0 (by omega)
      obtain ⟨x1', hx1'⟩ : ∃ v, v = iOr x1 (hasRT (dTy D ((k : Int) + 1))) := ⟨_, rfl⟩
      obtain ⟨x2', hx2'⟩ : ∃ v, v = iAnd x2 (if (hdO D ((k : Int) + 1)).1 = none then 0 else 1) := ⟨_, rfl⟩
      have y1' := y1 x1' hx1'
      have y2' := y2 x2' hx2'
      rw [← hx1', ← hx2']
      -- names that are told twice
      have hc3 := hc.lk tb f3'
      have L2 : ∀ (s : Nat) (j : Int) (m4 : MM), 1 ≤ j → j + s = (k : Int) + 1 → Fnt m3 m4 → NC m4 (mn (mn (hdP D k) (hdO D ((k : Int) + 1)).2) (@ite _ (∃ i, 1 ≤ i ∧ i < j ∧ dPn D i = dPn D ((k : Int) + 1)) (Classical.propDecidable _) (some (dPp D ((k : Int) + 1), 5)) none)) → P_X5_head_87 Q (fun z0 z1 z2 z3 => P_X5_head_38 Q (r + 1) z0 z1 z2 z3) (s + 1) x1' x2' ((k : Int) + 1) j m4 := by
        intro s
        induction s with
        | zero =>
          intro j m4 j0 j1 f4 n4
          refine ⟨by constructor <;> omega, by constructor <;> omega, ?_⟩
          rw [if_pos (by omega)]
          have := ih (k + 1) x1' x2' m4 (by omega) (f3'.trans f4.lk) (by rw [f4 372 1 (by decide)]; exact z1) (by rw [f4 372 3 (by decide)]; exact z3) (by rw [f4 372 4 (by decide)]; exact z4) (by
            show NC m4 (mn (hdP D k) (mn (hdO D ((k : Int) + 1)).2 (dupN D ((k : Int) + 1))))
            rw [← mn_assoc]
            have ej : j = (k : Int) + 1 := by omega
            rw [ej] at n4
            exact n4) (fun i i0 i1 => (hds i i0 (by omega)).fr (fun c _ _ => f4 _ _ (by omega))) y1' y2'
          exact this
        | succ s ih2 =>
          intro j m4 j0 j1 f4 n4
          have hc4 := hc3.lk tb f4.lk
          have v1 : m4 372 1 = b := by rw [f4 372 1 (by decide)]; exact z1
          obtain ⟨p1, p2, -⟩ := hc4.2.1 ((k : Int) + 1) (by omega) (by omega)
          obtain ⟨q1, -, -⟩ := hc4.2.1 j j0 (by omega)
          have d7 := hD.2.2.2.2.2.2.1
          show P_X5_head_87 Q _ (s + 1 + 1) x1' x2' ((k : Int) + 1) j m4
          unfold P_X5_head_87
          rw [v1, q1, p1, p2]
          refine ⟨by constructor <;> omega, by constructor <;> omega, ?_⟩
          rw [if_neg (by omega)]
          refine ⟨tb, by omega, by omega, (d7 j j0 (by omega)).1, (d7 _ (by omega) (by omega)).1, ?_⟩
          by_cases same : dPn D j = dPn D ((k : Int) + 1)
          · rw [if_pos same]
            refine c_failC n4 (by decide) (d7 _ (by omega) (by omega)).2 (fun m5 f5 n5 => ?_)
            refine ih2 (j + 1) m5 (by omega) (by omega) (f4.trans f5) ?_
            rw [dupN_step, if_pos (show 1 ≤ j ∧ dPn D j = dPn D ((k : Int) + 1) from ⟨j0, same⟩), ← mn_assoc]
            exact n5
          · rw [if_neg same]
            refine ih2 (j + 1) m4 (by omega) (by omega) f4 ?_
            rw [dupN_step, if_neg (fun q : 1 ≤ j ∧ _ => same q.2), mn_none]
            exact n4
      refine ⟨_, L2 k 1 m3 (by decide) (by omega) (Fnt.refl m3) ?_⟩
      rw [if_neg (fun q : ∃ i, 1 ≤ i ∧ i < 1 ∧ _ => by obtain ⟨i, i0, i1, -⟩ := q; omega), mn_none]
      exact n3
  have l26 : ∀ (v : Int), v = encO (hdR D) → P_X5_head_26 Q v (up m 372 4 1) := by
    rintro v rfl
    rintro m2 rfl
    refine ⟨_, L (dNp D).toNat 0 0 1 (up (up m 372 4 1) 372 3 (encO (hdR D))) (by omega) (fun c i a1 _ _ _ _ => by rw [up_ne (fun z => a1 z.1), up_ne (fun z => a1 z.1)]) (by rw [up_neI (by decide), up_neI (by decide)]; exact h1) (up_at ..) (by rw [up_neI (by decide), up_at]) (by show up (up m 372 4 1) 372 3 (encO (hdR D)) 372 5 = 0; rw [up_neI (by decide), up_neI (by decide)]; exact h5) (fun j j0 j1 => by omega) (Or.inl ⟨rfl, fun ⟨j, j0, j1, _⟩ => by omega⟩) (Or.inr ⟨rfl, fun j j0 j1 => by omega⟩)⟩
  rintro m1 rfl
  have e1 : up m 372 4 1 372 1 = b := by rw [up_neI (by decide)]; exact h1
  have e22 : up m 372 4 1 b 22 = dRu D := by rw [up_ne (by omega)]; exact hc.1.2.2.2.2.1
  rw [e1, e22]
  refine ⟨tb, by constructor <;> omega, ?_⟩
  by_cases r0 : dRu D ≤ 0
  · rw [if_pos r0]
    exact l26 (-1) (by unfold hdR; rw [if_pos (by omega)]; rfl)
  · rw [if_neg r0]
    exact of_000 (l26 0 (by unfold hdR; rw [if_neg (by omega)]; rfl))
end HEAD2
