set_option maxRecDepth 100000
/-! the model: rings of parts that stand left -/
section KIDS
variable {Q : Int → MM → Prop} {T : MM → Prop} {e : JE} {ro : Int} {d : ND} {c : TT} {m m1 m2 : MM} {n : Nte} {lo hi k sp : Int} {rc : List R3} {x : R3} {dep : Nat}
/-- a node whose parts are judged -/
def KidsM (m m1 : MM) (e : JE) (ro : Int) (d : ND) (c : TT) (lo hi k sp : Int) (n : Nte) (cs : List Int) : Prop := ∃ cl ch, ((0 ≤ lo ∧ lo ≤ k ∧ k < hi ∧ hi ≤ 12000) ∧ (lo ≤ cl ∧ cl ≤ ch ∧ ch ≤ hi) ∧ (k < cl ∨ ch ≤ k)) ∧ NM m d k ∧ LKm m d k cs ∧ FJm lo hi sp m m1 ∧ TM m1 (AnP m1 e ro) c cl ch cs ∧ NN' m1 (mn n (jdS e c).2)
abbrev noX (d : ND) : Prop := d.1 ≠ 3 ∧ d.1 ≠ 4 ∧ d.1 ≠ 5 ∧ d.1 ≠ 6
theorem AnX_no (h : noX d) : AnX m e ro d c k := ⟨fun q => absurd q h.1, fun q => absurd q h.2.1, fun q => absurd q h.2.2.1, fun q => absurd q h.2.2.2⟩
theorem km_good {cs : List Int} (post : PostM m e ro d c lo hi k sp n Q) (K : KidsM m m1 e ro d c lo hi k sp n cs) (h30 : d.1 < 30) (h5 : d.1 = 5 → e.2.2.1 d.2.2.2) (hrc : allS (jdS e c).1 = some rc) (hx : ownS e d rc = some x) (f2 : FJm k (k + 1) sp m1 m2) (e13 : m2 582 13 = m1 582 13) (e14 : m2 582 14 = m1 582 14) (r2 : rgM m2 k (some x)) (a2 : AnX m2 e ro d c k) : Q 0 m2 := by
  obtain ⟨cl, ch, hb, hN, hL, f1, T1, n1⟩ := K
  obtain ⟨r1', r2'⟩ := nd_some h30 h5 hrc hx
  exact nodeM_fin post hb hN hL h30 f1 T1 f2 (by rw [r2']; exact n1.congr e13 e14) ⟨by rw [r1']; exact r2, fun _ _ => a2⟩
theorem km_none {cs : List Int} (post : PostM m e ro d c lo hi k sp n Q) (K : KidsM m m1 e ro d c lo hi k sp n cs) (h30 : d.1 < 30) (h5 : d.1 = 5 → e.2.2.1 d.2.2.2) (hrc : allS (jdS e c).1 = none) (f2 : FJm k (k + 1) sp m1 m2) (e13 : m2 582 13 = m1 582 13) (e14 : m2 582 14 = m1 582 14) (r2 : m2 598 k = -9) : Q 0 m2 := by
  obtain ⟨cl, ch, hb, hN, hL, f1, T1, n1⟩ := K
  obtain ⟨r1', r2'⟩ := nd_none h30 h5 hrc
  exact nodeM_fin post hb hN hL h30 f1 T1 f2 (by rw [r2']; exact n1.congr e13 e14) ⟨by rw [r1']; exact r2, fun x hx => by rw [r1'] at hx; cases hx⟩
theorem km_set {cs : List Int} (post : PostM m e ro d c lo hi k sp n Q) (K : KidsM m m1 e ro d c lo hi k sp n cs) (h30 : d.1 < 30) (hX : noX d) (hrc : allS (jdS e c).1 = some rc) (hx : ownS e d rc = some x) (f2 : FJm k (k + 1) sp m1 m2) (e13 : m2 582 13 = m1 582 13) (e14 : m2 582 14 = m1 582 14) {b' d' s' : Int} (hb' : b' = bM x.1) (hd' : d' = x.2.1) (hs' : s' = x.2.2) : P_X10_setRing k b' d' s' m2 (fun _ m' => Q 0 m') := by
  have kb : 0 ≤ k ∧ k < 12000 := by obtain ⟨cl, ch, hb, -⟩ := K; omega
  refine c_setRingM kb (fun m3 f3 a b c' => ?_)
  refine km_good post K h30 (fun q => absurd q hX.2.2.1) hrc hx (fun c'' i q1 q2 q3 q4 => by rw [f3 c'' i (fun z => q1 ⟨by omega, by omega, by omega⟩)]; exact f2 c'' i q1 q2 q3 q4) (by rw [f3 _ _ (by omega)]; exact e13) (by rw [f3 _ _ (by omega)]; exact e14) ⟨a.trans hb', b.trans hd', c'.trans hs'⟩ (AnX_no hX)
theorem km_bad {cs : List Int} (post : PostM m e ro d c lo hi k sp n Q) (K : KidsM m m1 e ro d c lo hi k sp n cs) (h30 : d.1 < 30) (hX : d.1 ≠ 3 ∧ d.1 ≠ 4) (h5 : d.1 = 5 → e.2.2.1 d.2.2.2) (hp : 0 ≤ d.2.1 ∧ d.2.1 ≤ 400) (hrc : allS (jdS e c).1 = some rc) (hx : ownS e d rc = none) (f2 : FJm k (k + 1) sp m1 m2) (e13 : m2 582 13 = m1 582 13) (e14 : m2 582 14 = m1 582 14) : P_X10_wrong k m2 (fun _ m' => Q 0 m') := by
  obtain ⟨cl, ch, hb, hN, hL, f1, T1, n1⟩ := K
  have n34 : ¬ (d.1 = 3 ∨ d.1 = 4) := fun q => by rcases q with q | q; exact hX.1 q; exact hX.2 q
  obtain ⟨r1', r2'⟩ := nd_bad h30 h5 hrc hx
  rw [if_neg n34] at r2'
  have ep : m2 595 k = d.2.1 := by
    rw [f2.st 595 k (by omega), f1.st 595 k (by omega)]
    exact hN.2.1
  refine c_wrongM (by omega) (n1.congr e13 e14) hp ep (fun m3 f3 n3 r3 => ?_)
  refine nodeM_fin post hb hN hL h30 f1 T1 (fun c'' i q1 q2 q3 q4 => by rw [f3 c'' i (fun z => q1 ⟨by omega, by omega, by omega⟩) (fun z => q2 ⟨z.1, by omega⟩)]; exact f2 c'' i q1 q2 q3 q4) (by rw [r2', ← mn_assoc]; exact n3) ⟨by rw [r1']; exact r3, fun x hx => by rw [r1'] at hx; cases hx⟩
theorem TNM.lk {P : ND → TT → Int → Prop} (h : TNM m P d c lo hi k) : 0 ≤ k ∧ k < 12000 ∧ lo ≤ k ∧ k < hi := by
  obtain ⟨cl, ch, cs, hb, -⟩ := h
  omega
theorem TNM.rg (h : TNM m (AnP m e ro) d c lo hi k) : rgM m k (rgS e d c) := by
  obtain ⟨cl, ch, cs, hb, hN, hL, hP, -⟩ := h
  exact hP.1
theorem jmFJ {lo hi sp b d s c e t : Int} {m1 m2 : MM} (f : FJm lo hi sp m1 m2) : FJm lo hi sp m1 (jm m2 b d s c e t) := fun c' i q1 q2 q3 q4 => by rw [jm_o (fun z => q2 ⟨z.1, by omega⟩)]; exact f c' i q1 q2 q3 q4
theorem c_isDividedM {j : R3} (oj : ok3 j) (v1 : m 582 65 = bM j.1) (v2 : m 582 66 = j.2.1) (v3 : m 582 67 = j.2.2) (h1 : dvds j → Q 1 m) (h0 : ¬ dvds j → Q 0 m) : P_X10_isDivided m Q := by
  have jb := bM_bd (ok3_b oj)
  have jr := ok3_bd oj
  unfold P_X10_isDivided
  rw [v1, v2, v3]
  refine ⟨by constructor <;> omega, ?_⟩
  by_cases s0 : j.2.2 = 0
  · rw [if_pos s0]
    refine ⟨jr.1, ?_⟩
    have l21 : j ≠ (0, 0, 0) → P_X10_isDivided_21 Q m := by
      intro n0
      unfold P_X10_isDivided_21
      rw [v1, v2]
      refine ⟨by constructor <;> omega, ?_⟩
      by_cases d1 : j.2.1 = 1
      · rw [if_pos d1]
        by_cases jB : j.1 = -2
        · exfalso
          have := ok3_tB oj jB
          rw [this] at d1
          cases d1
        · have okj : okb j.1 := by rcases oj with q | q; exact absurd q.1 jB; exact q.1
          refine c_isFieldM (Or.inl okj) ?_
          by_cases cf : isFb j.1
          · rw [fbN_1 cf]
            refine ⟨by decide, ?_⟩
            rw [if_neg (by decide)]
            exact h1 (Or.inr ⟨jB, s0, d1, cf⟩)
          · rw [fbN_0 cf]
            refine ⟨by decide, ?_⟩
            rw [if_pos rfl]
            exact h0 (fun q => by rcases q with q | q; exact n0 q; exact cf q.2.2.2)
      · rw [if_neg d1]
        exact h0 (fun q => by rcases q with q | q; exact n0 q; exact d1 q.2.2.1)
    by_cases b0 : bM j.1 = 0
    · rw [if_pos b0]
      refine ⟨by constructor <;> omega, ?_⟩
      by_cases d0 : j.2.1 = 0
      · rw [if_pos d0]
        exact h1 (Or.inl (Prod.ext (jb.2.2.2.1.1 b0) (Prod.ext d0 s0)))
      · rw [if_neg d0]
        exact l21 (fun q => d0 (by rw [q]))
    · rw [if_neg b0]
      exact l21 (fun q => b0 (by rw [q]; rfl))
  · rw [if_neg s0]
    exact h0 (fun q => by rcases q with q | q; exact s0 (by rw [q]); exact s0 q.2.1)
/-- two parts, by kinds -/
theorem leftTwoK {na nb : Int} {y : R3} {m3 : MM} {G : MM → Prop} (hk : d.1 = 9 ∨ d.1 = 10 ∨ 12 ≤ d.1 ∧ d.1 ≤ 21) (kb : 0 ≤ k ∧ k < 12000) (ka : 0 ≤ na ∧ na < 12000) (kbb : 0 ≤ nb ∧ nb < 12000) (ek : m3 590 k = kM d.1) (a1 : m3 598 na = bM x.1) (a2 : m3 599 na = x.2.1) (a3 : m3 600 na = x.2.2) (b1 : m3 598 nb = bM y.1) (b2 : m3 599 nb = y.2.1) (b3 : m3 600 nb = y.2.2) (ox : ok3 x) (oy : ok3 y) (hG3 : G m3) (hGj : G (jm m3 (bM x.1) x.2.1 x.2.2 (bM y.1) y.2.1 y.2.2)) (bad : ∀ m4, G m4 → twoS d.1 x y = none → P_X10_wrong k m4 (fun _ m' => Q 0 m')) (set : ∀ m4 z' b' d' s', G m4 → twoS d.1 x y = some z' → b' = bM z'.1 → d' = z'.2.1 → s' = z'.2.2 → P_X10_setRing k b' d' s' m4 (fun _ m' => Q 0 m')) : P_X10_judgeLeft_94 (R_X10_judge dep) Q T k na nb (-1) m3 := by
  have xb := bM_bd (ok3_b ox)
  have yb := bM_bd (ok3_b oy)
  have xr := ok3_bd ox
  have yr := ok3_bd oy
  refine ⟨kb, by rw [ek]; unfold kM; constructor <;> (repeat' split) <;> omega, ?_⟩
  rw [ek]
  -- the join
  obtain ⟨mj, hmj⟩ : ∃ mj, mj = jm m3 (bM x.1) x.2.1 x.2.2 (bM y.1) y.2.1 y.2.2 := ⟨_, rfl⟩
  rw [← hmj] at hGj
  have jv : ∀ j, jn x y = some j → mj 582 65 = bM j.1 ∧ mj 582 66 = j.2.1 ∧ mj 582 67 = j.2.2 := by
    intro j hj
    have v := jn_vals ox oy hj
    rw [hmj, jm_65, jm_66, jm_67]
    exact v
  have joins : ∀ (K1 : Int → MM → Prop), (jn x y = none → K1 0 mj) → (∀ j, jn x y = some j → K1 1 mj) → P_X10_joinsParts na nb m3 K1 := by
    intro K1 k0 k1
    unfold P_X10_joinsParts
    rw [a1, a2, a3, b1, b2, b3]
    refine ⟨by omega, by omega, c_joins ox oy ?_⟩
    rw [← hmj]
    rcases hj : jn x y with - | j
    · exact ⟨Or.inl rfl, k0 hj⟩
    · exact ⟨Or.inr rfl, k1 j hj⟩
  obtain ⟨tw, htw⟩ : ∃ tw, tw = twoS d.1 x y := ⟨_, rfl⟩
  rw [← htw] at bad set
  unfold twoS at htw
  by_cases k9 : d.1 = 9 ∨ d.1 = 10
  · have ek2 : kM d.1 = 11 ∨ kM d.1 = 12 := by unfold kM; rcases k9 with q | q <;> rw [q] <;> decide
    have l172 : P_X10_judgeLeft_172 (R_X10_judge dep) Q T k na nb m3 := by
      unfold P_X10_judgeLeft_172
      rw [a1, b1]
      refine ⟨by omega, xr.1, ?_⟩
      have bad' : ¬ (x.1 = -2 ∧ y.1 = -2) → P_X10_judgeLeft_206 (R_X10_judge dep) Q T k m3 := by
        intro q
        refine bad m3 hG3 ?_
        rw [htw]
        rcases jn x y with - | j
        · rfl
        · simp only
          rw [if_pos k9, if_neg q]
      by_cases qa : x.1 = -2
      · rw [if_pos (xb.2.2.1.2 qa)]
        refine ⟨by omega, yr.1, ?_⟩
        by_cases qb : y.1 = -2
        · rw [if_pos (yb.2.2.1.2 qb)]
          refine set m3 (-2, 0, 0) _ _ _ hG3 ?_ rfl rfl rfl
          have ja : x = y := (ok3_tB ox qa).trans (ok3_tB oy qb).symm
          rw [htw, ja, jn_self]
          simp only
          rw [if_pos k9, if_pos ⟨qb, qb⟩]
        · rw [if_neg (fun q => qb (yb.2.2.1.1 q))]
          exact bad' (fun q => qb q.2)
      · rw [if_neg (fun q => qa (xb.2.2.1.1 q))]
        exact bad' (fun q => qa q.1)
    by_cases c11 : kM d.1 = 11
    · rw [if_pos c11]; exact l172
    · rw [if_neg c11, if_pos (by omega)]; exact l172
  have ek2 : kM d.1 = d.1 + 1 := by
    unfold kM
    rw [if_neg (by omega), if_neg (by omega), if_neg (by omega), if_neg (by omega), if_pos (by omega)]
  rw [ek2, if_neg (by omega), if_neg (by omega)]
  have nn : jn x y = none → tw = none := fun q => by rw [htw, q]
  have l214 : d.1 = 12 ∨ d.1 = 13 → P_X10_judgeLeft_214 (R_X10_judge dep) Q T k na nb m3 := by
    intro q
    refine joins _ (fun hj => ?_) (fun j hj => ?_)
    · refine ⟨by decide, ?_⟩
      rw [if_pos rfl]
      exact bad mj hGj (nn hj)
    · refine ⟨by decide, ?_⟩
      rw [if_neg (by decide)]
      refine set mj (-2, 0, 0) _ _ _ hGj ?_ rfl rfl rfl
      rw [htw, hj]
      simp only
      rw [if_neg k9, if_pos q]
  by_cases c12 : d.1 = 12
  · rw [if_pos (by omega)]; exact l214 (Or.inl c12)
  rw [if_neg (by omega)]
  by_cases c13 : d.1 = 13
  · rw [if_pos (by omega)]; exact l214 (Or.inr c13)
  rw [if_neg (by omega)]
  have l243 : d.1 = 14 ∨ d.1 = 15 → P_X10_judgeLeft_243 (R_X10_judge dep) Q T k na nb m3 := by
    intro q
    refine joins _ (fun hj => ?_) (fun j hj => ?_)
    · refine ⟨by decide, ?_⟩
      rw [if_pos rfl]
      exact bad mj hGj (nn hj)
    · obtain ⟨v1, v2, v3⟩ := jv j hj
      have oj := jn_ok ox oy hj
      have jb := bM_bd (ok3_b oj)
      have jr := ok3_bd oj
      have ht : tw = if j = (0, 0, 0) ∨ j = (1, 0, 0) then some (-2, 0, 0) else none := by
        rw [htw, hj]
        simp only
        rw [if_neg k9, if_neg (by omega), if_pos q]
      have no : ¬ (j = (0, 0, 0) ∨ j = (1, 0, 0)) → P_X10_judgeLeft_293 (R_X10_judge dep) Q T k mj := fun z => bad mj hGj (by rw [ht, if_neg z])
      have l267 : (j.1 = 0 ∨ j.1 = 1) → P_X10_judgeLeft_267 (R_X10_judge dep) Q T k mj := by
        intro q1
        unfold P_X10_judgeLeft_267
        rw [v2, v3]
        refine ⟨by constructor <;> omega, ?_⟩
        by_cases d0 : j.2.1 = 0
        · rw [if_pos d0]
          refine ⟨by constructor <;> omega, ?_⟩
          by_cases s0 : j.2.2 = 0
          · rw [if_pos s0]
            refine set mj (-2, 0, 0) _ _ _ hGj ?_ rfl rfl rfl
            rw [ht, if_pos]
            rcases q1 with q1 | q1
            · exact Or.inl (Prod.ext q1 (Prod.ext d0 s0))
            · exact Or.inr (Prod.ext q1 (Prod.ext d0 s0))
          · rw [if_neg s0]
            exact no (fun z => by rcases z with z | z <;> (rw [z] at s0; exact s0 rfl))
        · rw [if_neg d0]
          exact no (fun z => by rcases z with z | z <;> (rw [z] at d0; exact d0 rfl))
      refine ⟨by decide, ?_⟩
      rw [if_neg (by decide), v1]
      refine ⟨jr.1, ?_⟩
      by_cases b0 : bM j.1 = 0
      · rw [if_pos b0]; exact l267 (Or.inl (jb.2.2.2.1.1 b0))
      rw [if_neg b0]
      by_cases b1' : bM j.1 = 1
      · rw [if_pos b1']; exact l267 (Or.inr (jb.2.2.2.2.1 b1'))
      rw [if_neg b1']
      exact no (fun z => by rcases z with z | z; exact b0 (by rw [z]; rfl); exact b1' (by rw [z]; rfl))
  by_cases c14 : d.1 = 14
  · rw [if_pos (by omega)]; exact l243 (Or.inl c14)
  rw [if_neg (by omega)]
  by_cases c15 : d.1 = 15
  · rw [if_pos (by omega)]; exact l243 (Or.inr c15)
  rw [if_neg (by omega)]
  have l301 : 16 ≤ d.1 ∧ d.1 ≤ 18 → P_X10_judgeLeft_301 (R_X10_judge dep) Q T k na nb m3 := by
    intro q
    refine joins _ (fun hj => ?_) (fun j hj => ?_)
    · refine ⟨by decide, ?_⟩
      rw [if_pos rfl]
      exact bad mj hGj (nn hj)
    · obtain ⟨v1, v2, v3⟩ := jv j hj
      have oj := jn_ok ox oy hj
      have jb := bM_bd (ok3_b oj)
      have jr := ok3_bd oj
      have ht : tw = if j.1 = -2 then none else some j := by
        rw [htw, hj]
        simp only
        rw [if_neg k9, if_neg (by omega), if_neg (by omega), if_neg (by omega), if_neg (by omega)]
      refine ⟨by decide, ?_⟩
      rw [if_neg (by decide), v1, v2, v3]
      refine ⟨jr.1, ?_⟩
      by_cases jB : j.1 = -2
      · rw [if_pos (jb.2.2.1.2 jB)]
        exact bad mj hGj (by rw [ht, if_pos jB])
      · rw [if_neg (fun z => jB (jb.2.2.1.1 z))]
        exact set mj j _ _ _ hGj (by rw [ht, if_neg jB]) rfl rfl rfl
  by_cases c16 : d.1 = 16
  · rw [if_pos (by omega)]; exact l301 (by omega)
  rw [if_neg (by omega)]
  by_cases c17 : d.1 = 17
  · rw [if_pos (by omega)]; exact l301 (by omega)
  rw [if_neg (by omega)]
  by_cases c18 : d.1 = 18
  · rw [if_pos (by omega)]; exact l301 (by omega)
  rw [if_neg (by omega)]
  by_cases c19 : d.1 = 19
  · rw [if_pos (by omega), b1, b2, b3]
    have ht : ∀ j, jn x y = some j → tw = @ite _ (j.1 ≠ -2 ∧ y.2.1 = 0 ∧ y.2.2 = 0 ∧ (j.1 = 0 ∨ isFb j.1)) (Classical.propDecidable _) (some (frac j)) none := by
      intro j hj
      rw [htw, hj]
      simp only
      rw [if_neg k9, if_neg (by omega), if_neg (by omega), if_pos c19]
    have no : ∀ m4, G m4 → (∀ j, jn x y = some j → ¬ (j.1 ≠ -2 ∧ y.2.1 = 0 ∧ y.2.2 = 0 ∧ (j.1 = 0 ∨ isFb j.1))) → P_X10_judgeLeft_434 (R_X10_judge dep) Q T k m4 := by
      intro m4 g4 q
      refine bad m4 g4 ?_
      rcases hj : jn x y with - | j
      · exact nn hj
      · rw [ht j hj, if_neg (q j hj)]
    refine ⟨by omega, by constructor <;> omega, ?_⟩
    by_cases d0 : y.2.1 = 0
    · rw [if_pos d0]
      refine ⟨by constructor <;> omega, ?_⟩
      by_cases s0 : y.2.2 = 0
      · rw [if_pos s0]
        refine ⟨yr.1, ?_⟩
        by_cases yB : y.1 = -2
        · rw [if_pos (yb.2.2.1.2 yB)]
          refine no m3 hG3 (fun j hj q => q.1 ?_)
          have g := (gs_vals oy (jn_ok ox oy hj) (jn_gs ox oy hj).2.1).2.2.2.1 yB
          rw [← g]
          exact yB
        · rw [if_neg (fun z => yB (yb.2.2.1.1 z))]
          refine joins _ (fun hj => ?_) (fun j hj => ?_)
          · refine ⟨by decide, ?_⟩
            rw [if_pos rfl]
            exact no mj hGj (fun j hj' => by rw [hj] at hj'; cases hj')
          · obtain ⟨v1, v2, v3⟩ := jv j hj
            have oj := jn_ok ox oy hj
            have jb := bM_bd (ok3_b oj)
            have jr := ok3_bd oj
            have jB : j.1 ≠ -2 := fun z => by
              have g := (gs_vals oy oj (jn_gs ox oy hj).2.1).2.2.2.2 z
              exact yB (by rw [g]; exact z)
            have okj : okb j.1 := by rcases oj with q | q; exact absurd q.1 jB; exact q.1
            have l403 : (j.1 = 0 ∨ isFb j.1) → P_X10_judgeLeft_403 (R_X10_judge dep) Q T k mj := by
              intro q
              unfold P_X10_judgeLeft_403
              rw [v1, v2, v3]
              refine ⟨jr.1, set mj (frac j) _ _ _ hGj (by rw [ht j hj, if_pos ⟨jB, d0, s0, q⟩]) ?_ rfl rfl⟩
              unfold frac
              simp only
              by_cases j0 : j.1 = 0
              · rw [if_pos (jb.2.2.2.1.2 j0), if_pos j0]; rfl
              · rw [if_neg (fun z => j0 (jb.2.2.2.1.1 z)), if_neg j0]
            refine ⟨by decide, ?_⟩
            rw [if_neg (by decide), v1]
            refine ⟨jr.1, ?_⟩
            by_cases j2 : bM j.1 < 2
            · rw [if_pos j2]
              refine l403 ?_
              by_cases j0 : bM j.1 = 0
              · exact Or.inl (jb.2.2.2.1.1 j0)
              · have : bM j.1 = 1 := by
                  have q := jb.2.2.1
                  have : bM j.1 ≠ -2 := fun z => jB (q.1 z)
                  have h0 : 0 ≤ bM j.1 := by
                    rcases bM_cs j.1 with ⟨q1, -⟩ | ⟨q1, -⟩ | ⟨q1, -⟩
                    · omega
                    · omega
                    · have := okj.1; omega
                  omega
                exact Or.inr (Or.inl (jb.2.2.2.2.1 this))
            · rw [if_neg j2]
              refine c_isFieldM (Or.inl okj) ?_
              by_cases cf : isFb j.1
              · rw [fbN_1 cf]
                refine ⟨by decide, ?_⟩
                rw [if_neg (by decide)]
                exact l403 (Or.inr cf)
              · rw [fbN_0 cf]
                refine ⟨by decide, ?_⟩
                rw [if_pos rfl]
                refine no mj hGj (fun j' hj' q => ?_)
                rw [hj] at hj'
                cases hj'
                rcases q.2.2.2 with z | z
                · have := jb.2.2.2.1.2 z; omega
                · exact cf z
      · rw [if_neg s0]
        exact no m3 hG3 (fun j hj q => s0 q.2.2.1)
    · rw [if_neg d0]
      exact no m3 hG3 (fun j hj q => d0 q.2.1)
  rw [if_neg (by omega)]
  have l442 : P_X10_judgeLeft_442 (R_X10_judge dep) Q T k na nb m3 := by
    refine joins _ (fun hj => ?_) (fun j hj => ?_)
    · refine ⟨by decide, ?_⟩
      rw [if_pos rfl]
      exact bad mj hGj (nn hj)
    · obtain ⟨v1, v2, v3⟩ := jv j hj
      have oj := jn_ok ox oy hj
      have ht : tw = @ite _ (dvds j) (Classical.propDecidable _) (some j) none := by
        rw [htw, hj]
        simp only
        rw [if_neg k9, if_neg (by omega), if_neg (by omega), if_neg (by omega), if_pos (by omega)]
      refine ⟨by decide, ?_⟩
      rw [if_neg (by decide)]
      refine c_isDividedM oj v1 v2 v3 (fun cd => ?_) (fun cd => ?_)
      · refine ⟨by decide, ?_⟩
        rw [if_neg (by decide), v1, v2, v3]
        exact set mj j _ _ _ hGj (by rw [ht, if_pos cd]) rfl rfl rfl
      · refine ⟨by decide, ?_⟩
        rw [if_pos rfl]
        exact bad mj hGj (by rw [ht, if_neg cd])
  by_cases c20 : d.1 = 20
  · rw [if_pos (by omega)]; exact l442
  rw [if_neg (by omega), if_pos (by omega)]
  exact l442
/-- two parts -/
theorem leftTwoM {z zb : Nat} {a b : ND} {u ub : Unit} {ca cb : TT} {cl ch mid na nb : Int} (hk : d.1 = 9 ∨ d.1 = 10 ∨ 12 ≤ d.1 ∧ d.1 ≤ 21) (hc : c = .inner z a u ca (.inner zb b ub cb .leaf)) (w : okN d c) (wc : wfT c) (hb : (0 ≤ lo ∧ lo ≤ k ∧ k < hi ∧ hi ≤ 12000) ∧ (lo ≤ cl ∧ cl ≤ ch ∧ ch ≤ hi) ∧ (k < cl ∨ ch ≤ k)) (hmid : cl ≤ mid ∧ mid ≤ ch) (hN : NM m d k) (hL : LKm m d k [na, nb]) (hC : JCm (R_X10_judge dep) e ro T (.inner zb b ub cb .leaf)) (f1 : FJm lo hi sp m m1) (E1 : EMj m1 e ro) (Ta : TNM m1 (AnP m1 e ro) a ca cl mid na) (Tb : TNM m1 Tt b cb mid ch nb) (n1 : NN' m1 (mn n (ntS e a ca))) (h68 : m1 582 68 = sp) (hsp : 0 ≤ sp ∧ sp + (szT c : Int) + 1 ≤ 5000) (post : PostM m e ro d c lo hi k sp n Q) : W_X10_judgeLeft (R_X10_judge dep) k m1 Q T := by
  have h30 : d.1 < 30 := by omega
  have hX : noX d := by unfold noX; omega
  have hX2 : d.1 ≠ 3 ∧ d.1 ≠ 4 := ⟨hX.1, hX.2.1⟩
  have h5 : d.1 = 5 → e.2.2.1 d.2.2.2 := fun q => absurd q hX.2.2.1
  have ar := okN_ar w (by omega)
  have hs : (szT c : Int) = szT ca + szT cb + 2 := by rw [hc]; show ((szT ca + (szT cb + 0 + 1) + 1 : Nat) : Int) = _; omega
  have kb : 0 ≤ k ∧ k < 12000 := by omega
  have ka := Ta.lk
  have kbb := Tb.lk
  obtain ⟨l4a, l4b⟩ := hL.2.2.2.1 hk
  have q1 : na = m 591 k := by cases l4a; rfl
  have q2 : nb = m 592 k := by cases l4a; rfl
  have e91 : m1 591 k = na := by rw [f1.st 591 k (by omega), q1]
  have e92 : m1 592 k = nb := by rw [f1.st 592 k (by omega), q2]
  have e93 : m1 593 k = -1 := by rw [f1.st 593 k (by omega)]; exact l4b
  have wab : okN a ca ∧ wfT ca ∧ okN b cb ∧ wfT cb := by rw [hc] at wc; exact ⟨wc.1, wc.2.1, wc.2.2.1, wc.2.2.2.1⟩
  have pab : (0 ≤ a.1 ∧ a.1 ≤ 25) ∧ (0 ≤ b.1 ∧ b.1 ≤ 25) := by have := ar.2; rw [hc] at this; exact ⟨this.1, this.2.1⟩
  unfold W_X10_judgeLeft
  rw [e91, e92, e93]
  refine ⟨kb, by constructor <;> omega, ?_⟩
  rw [if_neg (by omega)]
  refine hC.1 (by omega) m1 (mn n (ntS e a ca)) mid ch nb sp _ E1 Tb n1 h68 (by omega) (fun m2 f2 n2 T2 => ?_)
  have f2' : FJm lo hi sp m m2 := f1.trans (f2.mono (by omega) (by omega) (Int.le_refl _))
  have E2 := E1.jm f2
  have oka := fun x hx => rgS_ok E1.ok wab.1 wab.2.1 (x := x) hx
  have okb' := fun x hx => rgS_ok E1.ok wab.2.2.1 wab.2.2.2 (x := x) hx
  have ra : rgM m2 na (rgS e a ca) := Ta.rg.fr (fun c' _ _ => f2 _ _ (by omega) (by omega) (by omega) (by omega))
  have rb : rgM m2 nb (rgS e b cb) := T2.rg
  have J1 : (jdS e c).1 = [rgS e a ca, rgS e b cb] ∧ (jdS e c).2 = mn (ntS e a ca) (ntS e b cb) := by rw [hc]; exact ⟨rfl, by show mn (ntS e a ca) (mn (ntS e b cb) none) = _; rw [mn_none]⟩
  have K : KidsM m m2 e ro d c lo hi k sp n [na, nb] := by
    refine ⟨cl, ch, hb, hN, hL, f2', ?_, by rw [J1.2, ← mn_assoc]; exact n2⟩
    rw [hc]
    refine ⟨na, [nb], mid, rfl, by omega, ?_, nb, [], ch, rfl, Int.le_refl _, T2, rfl, Int.le_refl _⟩
    obtain ⟨cl', ch', cs', a1, a2, a3, a4, a5⟩ := Ta
    exact ⟨cl', ch', cs', a1, a2.fr f2.st (fun q => by omega), a3.fr f2.st, a4.fr (fun c' _ _ => f2 _ _ (by omega) (by omega) (by omega) (by omega)), a5.jm f2 (by omega)⟩
  refine ⟨by decide, ?_⟩
  rw [if_pos (by decide)]
  refine ⟨kb, ?_⟩
  rintro m3 rfl
  have f3 : FJm k (k + 1) sp m2 (up m2 598 k (-9)) := fun c' i q1 _ _ _ => up_ne (fun z => q1 ⟨by omega, by omega, by omega⟩)
  have e33 : up m2 598 k (-9) 582 13 = m2 582 13 := up_ne (by omega)
  have e34 : up m2 598 k (-9) 582 14 = m2 582 14 := up_ne (by omega)
  have r9 : up m2 598 k (-9) 598 k = -9 := up_at ..
  have ra3 : rgM (up m2 598 k (-9)) na (rgS e a ca) := ra.fr (fun c' _ _ => up_ne (by omega))
  have rb3 : rgM (up m2 598 k (-9)) nb (rgS e b cb) := rb.fr (fun c' _ _ => up_ne (by omega))
  have ek : up m2 598 k (-9) 590 k = kM d.1 := by rw [up_ne (by omega), f2'.st 590 k (by omega)]; exact hN.1 h30
  obtain ⟨m3, hm3⟩ : ∃ m3, m3 = up m2 598 k (-9) := ⟨_, rfl⟩
  rw [← hm3] at f3 e33 e34 r9 ra3 rb3 ek ⊢
  have ria := ra3.ri oka
  have rib := rb3.ri okb'
  refine ⟨by omega, ria.1, ?_⟩
  rcases ha : rgS e a ca with - | x
  · rw [if_pos (ria.2.2 ha)]
    exact km_none post K h30 h5 (by rw [J1.1, ha]; rfl) f3 e33 e34 r9
  rw [if_neg (fun q => by have := ria.2.1 q; rw [ha] at this; cases this)]
  refine ⟨by constructor <;> omega, ?_⟩
  rw [if_neg (by omega)]
  refine ⟨by omega, rib.1, ?_⟩
  rcases hb2 : rgS e b cb with - | y
  · rw [if_pos (rib.2.2 hb2)]
    exact km_none post K h30 h5 (by rw [J1.1, ha, hb2]; rfl) f3 e33 e34 r9
  rw [if_neg (fun q => by have := rib.2.1 q; rw [hb2] at this; cases this)]
  have hrc : allS (jdS e c).1 = some [x, y] := by rw [J1.1, ha, hb2]; rfl
  have own := own_two (e := e) (a := x) (a2 := y) hk
  rw [ha] at ra3
  rw [hb2] at rb3
  obtain ⟨a1, a2, a3⟩ := ra3
  obtain ⟨b1, b2, b3⟩ := rb3
  have ox := oka x ha
  have oy := okb' y hb2
  refine ⟨by decide, ?_⟩
  rw [if_pos (by decide)]
  refine leftTwoK (G := fun m4 => FJm k (k + 1) sp m2 m4 ∧ m4 582 13 = m2 582 13 ∧ m4 582 14 = m2 582 14) hk kb ⟨ka.1, ka.2.1⟩ ⟨kbb.1, kbb.2.1⟩ ek a1 a2 a3 b1 b2 b3 ox oy ⟨f3, e33, e34⟩ ⟨jmFJ f3, by rw [jm_o (by omega)]; exact e33, by rw [jm_o (by omega)]; exact e34⟩ (fun m4 g q => km_bad post K h30 hX2 h5 w.1 hrc (own.trans q) g.1 g.2.1 g.2.2) (fun m4 z' b' d' s' g q h1 h2 h3 => km_set post K h30 hX hrc (own.trans q) g.1 g.2.1 g.2.2 h1 h2 h3)
end KIDS
