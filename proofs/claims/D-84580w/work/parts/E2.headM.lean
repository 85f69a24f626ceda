set_option maxRecDepth 100000
/-! the model: heads of functions -/
section HEADM
variable {Q : Int → MM → Prop} {T : MM → Prop} {D : DFN} {n b0 : Int}
theorem c_hasRM : ∀ (t : TT), wfT t → isTy t → ∀ {m : MM} {lo hi k : Int} {dep : Nat} {Q : Int → MM → Prop}, htT t ≤ dep → TM m Tt t lo hi [k] → Q (hasRT t) m → R_X10_hasR dep 0 [k] m Q T := by
  intro t
  induction t with
  | leaf => intro _ h; exact h.elim
  | inner z d u c s ihc ihs =>
    intro w ht m lo hi k dep Q hdep hT h
    have hk := ht.1
    have hs : s = .leaf := ht.2
    subst hs
    obtain ⟨w0, wc, -⟩ := id w
    have hht : htT c + 1 ≤ htT (Std.DTreeMap.Internal.Impl.inner z d u c .leaf) := by
      show htT c + 1 ≤ max (htT c + 1) 0
      omega
    obtain ⟨k', ns', mid, g1, g2, ⟨cl, ch, cs, g3, g4, g5, g6, g7⟩, g8⟩ := hT
    obtain ⟨rfl, rfl⟩ : k = k' ∧ ns' = [] := by cases g1; exact ⟨rfl, rfl⟩
    obtain ⟨dep, rfl⟩ : ∃ q, dep = q + 1 := ⟨dep - 1, by omega⟩
    have e97 := g4.2.2.2.2.2.1 (by omega)
    have v1 := w0.2.1
    show W_X10_hasR (R_X10_hasR dep) k m Q T
    unfold W_X10_hasR
    rw [e97]
    unfold hasRT at h
    by_cases k34 : d.1 = 34 ∨ d.1 = 35
    · rw [if_pos k34] at h
      have hc : isTy c := by
        rcases w0.2.2.2.2.2.2.2.2 with q | q | q | q
        · exfalso; have := q.1; unfold arT at this; omega
        · exfalso; omega
        · exfalso; omega
        · exact q.2
      have cs1 : cs = [m 591 k] := g5.2.2.2.2.2.2.2.2 (by omega)
      subst cs1
      have kc : 0 ≤ m 591 k ∧ m 591 k < 12000 := by
        cases c with
        | leaf => exact hc.elim
        | inner zc dc uc cc sc => obtain ⟨n', ns', mc, i0, i1, ⟨cl', ch', cs', i2, i3⟩, i4⟩ := g7; cases i0; omega
      have ev : (if d.1 = 30 then d.2.2.1 else if d.1 = 31 then 2 else if d.1 = 32 then 4 else if d.1 = 33 then 3 else if d.1 = 34 then 5 else 6) = if d.1 = 34 then 5 else (6 : Int) := by
        rw [if_neg (by omega), if_neg (by omega), if_neg (by omega), if_neg (by omega)]
      rw [ev]
      refine ⟨by omega, by split <;> decide, ?_⟩
      rw [if_neg (by split <;> decide)]
      refine ⟨by constructor <;> omega, ?_⟩
      rw [if_neg (by omega)]
      refine ihc wc hc (by omega) g7 ?_
      have hcs := hasRT_cs c
      refine ⟨by constructor <;> omega, ?_⟩
      rcases hcs with q | q
      · rw [if_pos q]; rw [q] at h; exact h
      · rw [if_neg (by omega)]; rw [q] at h; exact h
    · rw [if_neg k34] at h
      have a1 : m 591 k = -1 := g5.2.2.2.2.2.2.2.1 ⟨by omega, by omega⟩
      by_cases k32 : d.1 = 32
      · rw [if_pos k32] at h
        rw [if_neg (by omega), if_neg (by omega), if_pos k32]
        refine ⟨by omega, by decide, ?_⟩
        rw [if_pos rfl]
        exact h
      · rw [if_neg k32] at h
        have n4 : (if d.1 = 30 then d.2.2.1 else if d.1 = 31 then 2 else if d.1 = 32 then 4 else if d.1 = 33 then 3 else if d.1 = 34 then 5 else (6 : Int)) ≠ 4 ∧ RI (if d.1 = 30 then d.2.2.1 else if d.1 = 31 then 2 else if d.1 = 32 then 4 else if d.1 = 33 then 3 else if d.1 = 34 then 5 else (6 : Int)) := by
          by_cases k30 : d.1 = 30
          · have := w0.2.2.2.2.2.2.1 k30
            rw [if_pos k30]
            exact ⟨by omega, by constructor <;> omega⟩
          · rw [if_neg k30]
            by_cases k31 : d.1 = 31
            · rw [if_pos k31]; decide
            · rw [if_neg k31, if_neg k32, if_pos (by omega)]; decide
        refine ⟨by omega, n4.2, ?_⟩
        rw [if_neg n4.1, a1]
        refine ⟨by decide, ?_⟩
        rw [if_pos (by decide)]
        exact h
/-- what looking at a head may change -/
def FHm (n b0 : Int) (m m' : MM) : Prop := ∀ c i, ¬ (c = 582 ∧ (i = 13 ∨ i = 14 ∨ (61 ≤ i ∧ i ≤ 64))) → ¬ ((598 ≤ c ∧ c ≤ 600) ∧ b0 ≤ i) → ¬ ((c = 612 ∨ c = 613 ∨ c = 614 ∨ c = 621) ∧ i = n) → ¬ (((615 ≤ c ∧ c ≤ 617) ∨ c = 622) ∧ 3 * n ≤ i ∧ i < 3 * n + 3) → m' c i = m c i
theorem FHm.refl (m : MM) : FHm n b0 m m := fun _ _ _ _ _ _ => rfl
theorem FHm.trans {m m1 m2 : MM} (h : FHm n b0 m m1) (k : FHm n b0 m1 m2) : FHm n b0 m m2 := fun c i a1 a2 a3 a4 => (k c i a1 a2 a3 a4).trans (h c i a1 a2 a3 a4)
theorem FHm.st {m m' : MM} (f : FHm n b0 m m') : FSt m m' := fun c i z => f c i (by omega) (by omega) (by omega) (by omega)
theorem FHm.tm {m m' : MM} (f : FHm n b0 m m') {t : TT} {lo hi : Int} {ns : List Int} (h : TM m Tt t lo hi ns) : TM m' Tt t lo hi ns := h.fr f.st (fun d c k _ _ _ => ⟨fun _ => f _ _ (by omega) (by omega) (by omega) (by omega), fun _ => trivial⟩)
/-- a function that was read, in the model -/
def DFm (m : MM) (n b0 : Int) (D : DFN) : Prop := (m 582 32 = n ∧ m 606 n = dNm D ∧ m 609 n = dNp D ∧ m 611 n = dRu D ∧ m 588 0 = dCp D ∧ m 582 110 = dFi D ∧ (dRu D = 0 → m 582 113 = -1) ∧ (dRu D ≠ 0 → (0 ≤ m 582 113 ∧ m 582 113 < 420) ∧ m 588 (m 582 113) = dFp D)) ∧ (∀ k, 1 ≤ k → k ≤ dNp D → m 608 (3 * n + (k - 1)) = dPn D k ∧ ((0 ≤ m 651 (k - 1) ∧ m 651 (k - 1) < 420) ∧ m 588 (m 651 (k - 1)) = dPp D k) ∧ ∃ lo hi, b0 ≤ lo ∧ TM m Tt (dTy D k) lo hi [m 652 (k - 1)]) ∧ ∃ lo hi, b0 ≤ lo ∧ TM m Tt (dTy D 0) lo hi [m 582 112]
theorem DFm.fr {m m' : MM} (f : FHm n b0 m m') (h : DFm m n b0 D) : DFm m' n b0 D := by
  obtain ⟨⟨a1, a2, a3, a4, a5, a6, a7, a8⟩, h2, l, u, h3, h4⟩ := h
  have g : ∀ c i, c = 606 ∨ c = 608 ∨ c = 609 ∨ c = 611 ∨ c = 588 ∨ c = 651 ∨ c = 652 ∨ (c = 582 ∧ (i = 32 ∨ 110 ≤ i)) → m' c i = m c i := fun c i z => f c i (by omega) (by omega) (by omega) (by omega)
  refine ⟨⟨by rw [g _ _ (by omega)]; exact a1, by rw [g _ _ (by omega)]; exact a2, by rw [g _ _ (by omega)]; exact a3, by rw [g _ _ (by omega)]; exact a4, by rw [g _ _ (by omega)]; exact a5, by rw [g _ _ (by omega)]; exact a6, fun q => by rw [g _ _ (by omega)]; exact a7 q, fun q => by rw [g 582 113 (by omega), g _ _ (by omega)]; exact a8 q⟩, fun k k0 k1 => ?_, l, u, h3, by rw [g 582 112 (by omega)]; exact f.tm h4⟩
  obtain ⟨b1, b2, lo, hi, b3, b4⟩ := h2 k k0 k1
  refine ⟨by rw [g _ _ (by omega)]; exact b1, by rw [g 651 _ (by omega), g 588 _ (by omega)]; exact b2, lo, hi, b3, by rw [g 652 _ (by omega)]; exact f.tm b4⟩
/-- a ring of the head, in the model -/
theorem c_judgeHeadM {m : MM} {nt : Nte} {k kk lo hi : Int} (hD : okD D) (hc : DFm m n b0 D) (hn20 : 0 ≤ n ∧ n ≤ 20) (hk : 0 ≤ k ∧ k ≤ dNp D) (hlo : b0 ≤ lo) (hT : TM m Tt (dTy D k) lo hi [kk]) (hn : NN' m nt) (h : ∀ m', FHm n b0 m m' → (∀ c i, 608 ≤ c ∨ (c = 582 ∧ i = 61) → m' c i = m c i) → NN' m' (mn nt (hdO D k).2) → rgM m' kk (hdO D k).1 → (0 ≤ kk ∧ kk < 12000) → Q 0 m') : P_X10_judgeHead kk m Q := by
  have ru := hD.2.1
  obtain ⟨w, ty, ht⟩ := hD.2.2.2.2.2.2.2.1 k hk.1 hk.2
  have kb : 0 ≤ kk ∧ kk < 12000 := by
    generalize dTy D k = t at hT ty
    cases t with
    | leaf => exact ty.elim
    | inner zc dc uc cc sc => obtain ⟨n', ns', mc, i0, i1, ⟨cl', ch', cs', i2, i3⟩, i4⟩ := hT; cases i0; omega
  unfold P_X10_judgeHead
  rw [hc.1.1, hc.1.2.2.2.1]
  refine ⟨by omega, by constructor <;> omega, ?_⟩
  rintro m1 rfl m2 rfl m3 rfl
  obtain ⟨m3, hm3⟩ : ∃ m3, m3 = up (up (up m 582 62 (if dRu D ≤ 0 then (-9) else 0)) 582 63 0) 582 64 0 := ⟨_, rfl⟩
  rw [← hm3]
  have g3 : ∀ c i, ¬ (c = 582 ∧ 62 ≤ i ∧ i ≤ 64) → m3 c i = m c i := fun c i z => by rw [hm3, up_ne (fun q => z ⟨q.1, by omega, by omega⟩), up_ne (fun q => z ⟨q.1, by omega, by omega⟩), up_ne (fun q => z ⟨q.1, by omega, by omega⟩)]
  have f3 : FHm n b0 m m3 := fun c i z1 _ _ _ => g3 c i (fun q => z1 ⟨q.1, by omega⟩)
  have R3' : RM m3 (hdR D) := by
    unfold hdR
    by_cases r0 : dRu D = 0
    · rw [if_pos r0]
      show m3 582 62 = -9
      rw [hm3, up_neI (by decide), up_neI (by decide), up_at, if_pos (by omega)]
    · rw [if_neg r0]
      exact ⟨by rw [hm3, up_neI (by decide), up_neI (by decide), up_at, if_neg (by omega)]; rfl, by rw [hm3, up_neI (by decide), up_at], by rw [hm3, up_at]⟩
  refine c_judgeRingM hdR_ok _ w ty (n := nt) (lo := lo) (hi := hi) (by omega) R3' (f3.tm hT) (hn.congr (g3 _ _ (by omega)) (g3 _ _ (by omega))) (fun m4 f4 n4 t4 r4 => ?_)
  exact h m4 (fun c i z1 z2 z3 z4 => by rw [f4 c i (fun q => z2 ⟨by omega, by omega⟩) (fun q => z1 ⟨q.1, by omega⟩)]; exact f3 c i z1 z2 z3 z4) (fun c i q => by rw [f4 c i (by omega) (by omega)]; exact g3 c i (by omega)) n4 r4 kb
/-- rings of the head in the tables -/
def HMk (m : MM) (n : Int) (D : DFN) (k : Int) : Prop := (m 622 (3 * n + (k - 1)) = hasRT (dTy D k)) ∧ match (hdO D k).1 with
  | none => m 615 (3 * n + (k - 1)) = -9
  | some x => r3M m 615 616 617 (3 * n + (k - 1)) x
theorem HMk.fr {m m' : MM} {k : Int} (h : HMk m n D k) (g : ∀ c, (615 ≤ c ∧ c ≤ 617) ∨ c = 622 → m' c (3 * n + (k - 1)) = m c (3 * n + (k - 1))) : HMk m' n D k := by
  obtain ⟨h1, h2⟩ := h
  refine ⟨(g _ (by omega)).trans h1, ?_⟩
  generalize (hdO D k).1 = o at h2 ⊢
  rcases o with - | x
  · exact (g _ (by omega)).trans h2
  · exact h2.fr (fun c z => g c (by omega))
noncomputable def twM (F : Int → FnR) (f : FnR) (g : Int) (ok : Prop) : Int := @ite _ (ok ∧ twinS f (F g)) (Classical.propDecidable _) 1 0
/-- whether two functions are alike -/
theorem c_isTwinM {m : MM} {F : Int → FnR} {g : Int} (hD : okD D) (hn : 0 ≤ n ∧ n ≤ 20) (hg : 0 ≤ g ∧ g < n) (hB : BKm m F n) (h6 : m 606 n = dNm D) (h9 : m 609 n = dNp D) (hh : ∀ k, 1 ≤ k → k ≤ dNp D → HMk m n D k) (h : Q (twM F (hdF D) g (allO D)) m) : P_X10_isTwin n g m Q := by
  obtain ⟨okg, fx⟩ := hB.2 g hg.1 hg.2
  have np := hD.1
  have npg := okg.1
  have okt : ∀ k, 1 ≤ k → k ≤ dNp D → ∀ x, (hdO D k).1 = some x → ok3 x := fun k k0 k1 x hx => tyO_ok (R := hdR D) (fun x hx => (hdR_ok x hx).1) _ (hD.2.2.2.2.2.2.2.1 k (by omega) k1).1 (hD.2.2.2.2.2.2.2.1 k (by omega) k1).2.1 x hx
  have no : ¬ (allO D ∧ twinS (hdF D) (F g)) → Q 0 m := fun q => by rw [show twM F (hdF D) g (allO D) = 0 from if_neg q] at h; exact h
  have L0 : ¬ (allO D ∧ twinS (hdF D) (F g)) → ∀ (nn : Nat) (j : Int), RI j → P_X10_isTwin_40 Q (nn + 1) n g 0 j m := by
    intro q nn j rj
    unfold P_X10_isTwin_40
    rw [h9]
    refine ⟨by omega, rj, by constructor <;> omega, ?_⟩
    by_cases c1 : dNp D ≤ j
    · rw [if_pos c1]; exact ⟨Or.inl rfl, no q⟩
    · rw [if_neg c1]
      refine ⟨by decide, ?_⟩
      rw [if_pos rfl]
      exact ⟨Or.inl rfl, no q⟩
  unfold P_X10_isTwin
  rw [fx.1, fx.2.1, h6, h9]
  refine ⟨by omega, by omega, okg.2.2.1, hD.2.2.1, ?_⟩
  by_cases c1 : (F g).1 = dNm D
  · rw [if_pos c1]
    refine ⟨by constructor <;> omega, by constructor <;> omega, ?_⟩
    by_cases c2 : (F g).2.1 = dNp D
    · rw [if_pos c2]
      have L1 : ∀ (s : Nat) (j : Int), 1 ≤ j → j + s = dNp D + 1 → (∀ i, 1 ≤ i → i < j → (hdO D i).1 ≠ none ∧ (F g).2.2.2.2.1 i = (hdF D).2.2.2.2.1 i ∧ (F g).2.2.2.2.2.1 i = (hdF D).2.2.2.2.2.1 i) → P_X10_isTwin_40 Q (s + 1) n g 1 (j - 1) m := by
        intro s
        induction s with
        | zero =>
          intro j j0 j1 hj
          unfold P_X10_isTwin_40
          rw [h9]
          refine ⟨by omega, by constructor <;> omega, by constructor <;> omega, ?_⟩
          rw [if_pos (by omega)]
          rw [show twM F (hdF D) g (allO D) = 1 from if_pos ⟨fun i i0 i1 => (hj i i0 (by omega)).1, c1, c2, fun i i0 i1 => (hj i i0 (by have : i ≤ dNp D := i1; omega)).2⟩] at h
          exact ⟨Or.inr rfl, h⟩
        | succ s ih =>
          intro j j0 j1 hj
          obtain ⟨y1, y2⟩ := hh j j0 (by omega)
          obtain ⟨-, z1, z2⟩ := fx.2.2.2.2 j j0 (by omega)
          obtain ⟨og, ogh, -, -⟩ := okg.2.2.2.1 j (by omega) (by omega)
          have hcs := hasRT_cs (dTy D j)
          have gb := ok3_bd og
          have rn : (RI (j - 1 + 1)) := by constructor <;> omega
          show P_X10_isTwin_40 Q (s + 1 + 1) n g 1 (j - 1) m
          unfold P_X10_isTwin_40
          rw [h9, y1, z1, z2.1, z2.2.1, z2.2.2]
          refine ⟨by omega, by constructor <;> omega, by constructor <;> omega, ?_⟩
          rw [if_neg (by omega)]
          refine ⟨by decide, ?_⟩
          rw [if_neg (by decide)]
          rcases hx : (hdO D j).1 with - | x
          · rw [hx] at y2
            have y2' : m 615 (3 * n + (j - 1)) = -9 := y2
            rw [y2']
            refine ⟨by omega, by decide, ?_⟩
            rw [if_pos rfl]
            exact L0 (fun q => q.1 j j0 (by omega) hx) _ _ rn
          · rw [hx] at y2
            obtain ⟨x1, x2, x3⟩ := (show r3M m 615 616 617 (3 * n + (j - 1)) x from y2)
            have ox := okt j j0 (by omega) x hx
            have xb := ok3_bd ox
            have er : (hdF D).2.2.2.2.2.1 j = x := by show (hdO D j).1.getD (0, 0, 0) = x; rw [hx]; rfl
            have nt : ((F g).2.2.2.2.1 j ≠ hasRT (dTy D j) ∨ (F g).2.2.2.2.2.1 j ≠ x) → ¬ (allO D ∧ twinS (hdF D) (F g)) := by
              rintro q ⟨-, -, -, t⟩
              have := t j j0 (by show j ≤ dNp D; omega)
              rw [er] at this
              rcases q with q | q
              · exact q this.1
              · exact q this.2
            rw [x1, x2, x3]
            refine ⟨by omega, xb.1, ?_⟩
            rw [if_neg (by omega)]
            refine ⟨by omega, by constructor <;> omega, by constructor <;> omega, ?_⟩
            by_cases d1 : hasRT (dTy D j) = (F g).2.2.2.2.1 j
            · rw [if_pos d1]
              refine ⟨gb.1, ?_⟩
              by_cases d2 : bM x.1 = bM ((F g).2.2.2.2.2.1 j).1
              · rw [if_pos d2]
                refine ⟨by constructor <;> omega, by constructor <;> omega, ?_⟩
                by_cases d3 : x.2.1 = ((F g).2.2.2.2.2.1 j).2.1
                · rw [if_pos d3]
                  refine ⟨by constructor <;> omega, by constructor <;> omega, ?_⟩
                  by_cases d4 : x.2.2 = ((F g).2.2.2.2.2.1 j).2.2
                  · rw [if_pos d4]
                    have := ih (j + 1) (by omega) (by omega) (fun i i0 i1 => by
                      by_cases e : i = j
                      · rw [e, er]
                        exact ⟨(by rw [hx]; intro q; cases q), d1.symm, Prod.ext ((bM_inj (ok3_b ox) (ok3_b og)).1 d2).symm (Prod.ext d3.symm d4.symm)⟩
                      · exact hj i i0 (by omega))
                    rw [show j + 1 - 1 = j - 1 + 1 by omega] at this
                    exact this
                  · rw [if_neg d4]; exact L0 (nt (Or.inr (fun q => d4 (by rw [q])))) _ _ rn
                · rw [if_neg d3]; exact L0 (nt (Or.inr (fun q => d3 (by rw [q])))) _ _ rn
              · rw [if_neg d2]; exact L0 (nt (Or.inr (fun q => d2 (by rw [q])))) _ _ rn
            · rw [if_neg d1]; exact L0 (nt (Or.inl (fun q => d1 q.symm))) _ _ rn
      have := L1 (dNp D).toNat 1 (by decide) (by omega) (fun i i0 i1 => by omega)
      exact ⟨_, this⟩
    · rw [if_neg c2]
      exact ⟨1, L0 (fun q => c2 q.2.2.1) 0 0 (by decide)⟩
  · rw [if_neg c1]
    exact ⟨1, L0 (fun q => c1 q.2.1) 0 0 (by decide)⟩
end HEADM
