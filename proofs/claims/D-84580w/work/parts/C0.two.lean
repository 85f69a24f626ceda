set_option maxRecDepth 100000
/-! the component: rings of parts of two, choices, what goes -/
theorem len1 : ∀ {l : List R3}, l.length = 1 → ∃ a, l = [a]
  | [a], _ => ⟨a, rfl⟩
  | [], h => by cases h
  | _ :: _ :: _, h => by simp at h
theorem len2 : ∀ {l : List R3}, l.length = 2 → ∃ a b, l = [a, b]
  | [a, b], _ => ⟨a, b, rfl⟩
  | [], h => by cases h
  | [_], h => by simp at h
  | _ :: _ :: _ :: _, h => by simp at h
theorem len3 : ∀ {l : List R3}, l.length = 3 → ∃ a b c, l = [a, b, c]
  | [a, b, c], _ => ⟨a, b, c, rfl⟩
  | [], h => by cases h
  | [_], h => by simp at h
  | [_, _], h => by simp at h
  | _ :: _ :: _ :: _ :: _, h => by simp at h
theorem ok3_tB {x : R3} (h : ok3 x) (q : x.1 = -2) : x = (-2, 0, 0) := by
  obtain ⟨x1, x2, x3⟩ := x
  rcases h with ⟨a, b, c⟩ | ⟨a, -, -⟩
  · simp only at a b c
    rw [a, b, c]
  · exfalso
    simp only at q a
    omega
theorem jn_self {x : R3} : jn x x = some x := if_pos rfl
section TWOC
variable {Q : Int → MM → Prop} {T : MM → Prop} {b : Int} {e : JE} {d : ND} {c : TT} {m : MM} {n : Nte} {lo hi k : Int} {dep : Nat}
theorem own_two {a a2 : R3} (hk : d.1 = 9 ∨ d.1 = 10 ∨ 12 ≤ d.1 ∧ d.1 ≤ 21) : ownS e d [a, a2] = twoS d.1 a a2 := by
  unfold ownS
  rw [if_neg (by omega), if_neg (by omega), if_neg (by omega), if_neg (by omega), if_neg (by omega), if_neg (by omega), if_neg (by omega), if_neg (by omega)]
  simp only
  rw [if_neg (by omega), if_neg (by omega)]
theorem own_three {a a2 a3 : R3} (hk : d.1 = 8) : ownS e d [a, a2, a3] = if a.1 = -2 then jn a2 a3 else none := by
  unfold ownS
  rw [if_neg (by omega), if_neg (by omega), if_neg (by omega), if_neg (by omega), if_neg (by omega), if_neg (by omega), if_neg (by omega), if_neg (by omega)]
theorem own_turn {x y : R3} (hk : d.1 = 24 ∨ d.1 = 25) : ownS e d [x, y] = if d.1 = 24 then (if jn x y = some y then some y else none) else (if jn y x = some x then some y else none) := by
  unfold ownS
  rw [if_neg (by omega), if_neg (by omega), if_neg (by omega), if_neg (by omega), if_neg (by omega), if_neg (by omega), if_neg (by omega), if_neg (by omega)]
  simp only
  rcases hk with q | q
  · rw [if_pos q, if_pos q]
  · have q4 : ¬ d.1 = 24 := by omega
    rw [if_neg q4, if_pos q, if_neg q4]
theorem own_fn {rc : List R3} (hk : d.1 = 6) : ownS e d rc = fnS d.2.2.1 rc := by
  unfold ownS
  rw [if_neg (by omega), if_neg (by omega), if_neg (by omega), if_neg (by omega), if_neg (by omega), if_neg (by omega), if_pos hk]
theorem own_mx {rc : List R3} (hk : d.1 = 7) : ownS e d rc = mxS d.2.2.1 rc := by
  unfold ownS
  rw [if_neg (by omega), if_neg (by omega), if_neg (by omega), if_neg (by omega), if_neg (by omega), if_neg (by omega), if_neg (by omega), if_pos hk]
theorem own_call {rc : List R3} (hk : d.1 = 5) : ownS e d rc = match e.2.2.2.1 d.2.2.2 rc with
    | none => none
    | some x => some x.2.2 := by
  unfold ownS
  rw [if_neg (by omega), if_neg (by omega), if_neg (by omega), if_neg (by omega), if_neg (by omega), if_pos hk]
  rcases e.2.2.2.1 d.2.2.2 rc with - | x <;> rfl
theorem okN_ar (w : okN d c) (h : d.1 < 24) : arT d.1 (lenT c) ∧ allP c := by
  rcases w.2.2.2.2.2.2.2.2 with q | q | q | q
  · exact q
  · exfalso; omega
  · exfalso; omega
  · exfalso; omega
theorem twoC (hk : d.1 = 9 ∨ d.1 = 10 ∨ 12 ≤ d.1 ∧ d.1 ≤ 21) (w : okN d c) (wc : wfT c) (hC : JCon (R_X5_part dep) b e T c) (hE : ECj m b e) (hT : TN m b d c lo hi k) (hn : NC m n) (post : JPost m b e d c lo hi k n Q) : W_X5_two (R_X5_part (dep + 1)) k m Q T := by
  have h30 : d.1 < 30 := by omega
  have n34 : ¬ (d.1 = 3 ∨ d.1 = 4) := by omega
  have h5 : d.1 = 5 → e.2.2.1 d.2.2.2 := fun q => by exfalso; omega
  have ar := okN_ar w (by omega)
  have l2 : lenT c = 2 := by have := ar.1; unfold arT at this; omega
  have hb := hE.2.1
  unfold W_X5_two
  refine toP5 (parts_nd hC ar.2 wc hE hT hn (fun m1 g f1 E1 T1 n1 hg => ?_))
  rcases hg with ⟨rfl, hrc⟩ | ⟨rfl, rc, hrc, ch, ln, an⟩
  · refine ⟨by decide, ?_⟩
    rw [if_pos rfl]
    exact own_none post f1 n1 h30 h5 hrc
  refine ⟨by decide, ?_⟩
  rw [if_neg (by decide)]
  obtain ⟨a, a2, rfl⟩ := len2 (ln.trans l2)
  obtain ⟨kb1, ea, oa, kb2, ea2, oa2, -⟩ := ch
  obtain ⟨cl, ch', t2, ⟨e1, e4, e5, e9⟩, t4⟩ := id T1
  have kb : 0 ≤ k ∧ k < 160 := by omega
  have aR : AnR m1 b e d c k := ⟨fun q => by exfalso; omega, fun q => by exfalso; omega, fun _ => an⟩
  have xa := encC_bd oa
  have xb := encC_bd oa2
  rw [E1.1]
  refine ⟨hb, kb, kb1, ⟨hb, kb, kb1, ⟨kb2, ?_⟩⟩⟩
  rw [ea, ea2]
  refine c_join oa oa2 ?_
  rw [E1.1, e1]
  have rj : RI (encO (jn a a2)) := encO_ri (fun z hz => jn_ok oa oa2 hz)
  refine ⟨hb, rj, by constructor <;> omega, ?_⟩
  have l289 : ∀ x6 x7, RI x6 → (x6 = 0 → twoS d.1 a a2 = none) → (x6 ≠ 0 → ∃ z, twoS d.1 a a2 = some z ∧ encC z = x7) → P_X5_two_289 (R_X5_part (dep + 1)) Q T k x6 x7 m1 := by
    intro x6 x7 r6 hz hs
    unfold P_X5_two_289
    rw [E1.1]
    refine ⟨r6, ?_⟩
    by_cases q : x6 = 0
    · rw [if_pos q]
      exact ⟨hb, kb, own_bad post f1 n1 w.1 e5 (if_neg n34).symm h30 h5 hrc (by rw [own_two hk]; exact hz q)⟩
    · rw [if_neg q]
      obtain ⟨z, z1, z2⟩ := hs q
      rw [← z2]
      exact own_good post f1 n1 h30 h5 hrc (by rw [own_two hk]; exact z1) aR
  obtain ⟨tw, htw⟩ : ∃ tw, tw = twoS d.1 a a2 := ⟨_, rfl⟩
  rw [← htw] at l289
  unfold twoS at htw
  have l95 : d.1 = 9 ∨ d.1 = 10 → P_X5_two_95 (R_X5_part (dep + 1)) Q T k (encC a) (encC a2) (encO (jn a a2)) m1 := by
    intro q
    refine ⟨⟨xa.1, by split; exact xb.1; trivial⟩, ?_⟩
    by_cases qa : a.1 = -2
    · by_cases qb : a2.1 = -2
      · rw [if_pos (xa.2.1 qa), if_pos (xb.2.1 qb)]
        have ja : a = a2 := (ok3_tB oa qa).trans (ok3_tB oa2 qb).symm
        refine l289 1 _ (by decide) (fun z => absurd z (by decide)) (fun _ => ⟨(-2, 0, 0), ?_, ?_⟩)
        · rw [htw, ja, jn_self]
          simp only
          rw [if_pos q, if_pos ⟨qb, qb⟩]
        · rw [ja, jn_self, ok3_tB oa2 qb]
          rfl
      · rw [if_pos (xa.2.1 qa), if_neg (by have := xb.2.2 qb; omega)]
        refine l289 0 _ (by decide) (fun _ => ?_) (fun z => absurd rfl z)
        rw [htw]
        rcases jn a a2 with - | j
        · rfl
        · simp only
          rw [if_pos q, if_neg (fun z => qb z.2)]
    · rw [if_neg (by have := xa.2.2 qa; omega)]
      refine l289 0 _ (by decide) (fun _ => ?_) (fun z => absurd rfl z)
      rw [htw]
      rcases jn a a2 with - | j
      · rfl
      · simp only
        rw [if_pos q, if_neg (fun z => qa z.1)]
  by_cases k9 : d.1 = 9
  · rw [if_pos k9]; exact l95 (Or.inl k9)
  rw [if_neg k9]
  by_cases k10 : d.1 = 10
  · rw [if_pos k10]; exact l95 (Or.inr k10)
  rw [if_neg k10]
  rcases hj : jn a a2 with - | j
  · -- no join
    rw [hj] at htw
    have bad : ∀ x7, P_X5_two_289 (R_X5_part (dep + 1)) Q T k 0 x7 m1 := fun x7 => l289 0 x7 (by decide) (fun _ => htw) (fun z => absurd rfl z)
    rw [show encO (none : Option R3) = -1 from rfl]
    by_cases k12 : d.1 = 12
    · rw [if_pos k12, if_pos rfl]; exact bad _
    rw [if_neg k12]
    by_cases k13 : d.1 = 13
    · rw [if_pos k13, if_pos rfl]; exact bad _
    rw [if_neg k13]
    have l152 : P_X5_two_152 (R_X5_part (dep + 1)) Q T k (-1) m1 := by
      refine of_000 ⟨by decide, by decide, ?_⟩
      rw [if_neg (by decide)]
      refine of_100 ⟨by decide, ?_⟩
      rw [if_neg (by decide)]
      exact bad _
    by_cases k14 : d.1 = 14
    · rw [if_pos k14]; exact l152
    rw [if_neg k14]
    by_cases k15 : d.1 = 15
    · rw [if_pos k15]; exact l152
    rw [if_neg k15]
    by_cases k19 : d.1 = 19
    · rw [if_pos k19]
      refine ⟨by decide, ?_⟩
      rw [if_pos (by decide)]
      unfold P_X5_two_230
      rw [if_pos rfl]
      exact bad _
    rw [if_neg k19]
    have l267 : P_X5_two_267 (R_X5_part (dep + 1)) Q T k (-1) (-1) m1 := c_dividesC (o := none) (fun x hx => by cases hx) (bad _)
    by_cases k20 : d.1 = 20
    · rw [if_pos k20]; exact l267
    rw [if_neg k20]
    by_cases k21 : d.1 = 21
    · rw [if_pos k21]; exact l267
    rw [if_neg k21]
    refine ⟨by decide, ?_⟩
    rw [if_pos (by decide)]
    exact bad _
  · have oj := jn_ok oa oa2 hj
    have xj := encC_bd oj
    rw [hj] at htw rj
    simp only at htw
    rw [if_neg (by omega)] at htw
    rw [show encO (some j) = encC j from rfl] at rj ⊢
    have jn1 : encC j ≠ -1 := fun q => by
      by_cases jB : j.1 = -2
      · have := xj.2.1 jB; omega
      · have := xj.2.2 jB; omega
    have l131 : d.1 = 12 ∨ d.1 = 13 → P_X5_two_131 (R_X5_part (dep + 1)) Q T k 1 m1 := by
      intro q
      rw [if_pos q] at htw
      exact l289 1 _ (by decide) (fun z => absurd z (by decide)) (fun _ => ⟨(-2, 0, 0), htw, rfl⟩)
    by_cases k12 : d.1 = 12
    · rw [if_pos k12, if_neg jn1]; exact l131 (Or.inl k12)
    rw [if_neg k12]
    by_cases k13 : d.1 = 13
    · rw [if_pos k13, if_neg jn1]; exact l131 (Or.inr k13)
    rw [if_neg k13]
    rw [if_neg (by omega)] at htw
    have l152 : d.1 = 14 ∨ d.1 = 15 → P_X5_two_152 (R_X5_part (dep + 1)) Q T k (encC j) m1 := by
      intro q
      rw [if_pos q] at htw
      refine of_000 ⟨rj, by decide, ?_⟩
      by_cases j0 : j = (0, 0, 0)
      · rw [if_pos (by rw [j0]; rfl)]
        rw [if_pos (Or.inl j0)] at htw
        exact l289 1 _ (by decide) (fun z => absurd z (by decide)) (fun _ => ⟨(-2, 0, 0), htw, rfl⟩)
      · rw [if_neg (fun z => j0 (encC_inj oj (ok3_n (by decide)) (z.trans encC_0.symm)))]
        refine of_100 ⟨by decide, ?_⟩
        by_cases j1 : j = (1, 0, 0)
        · rw [if_pos (by rw [j1]; rfl)]
          rw [if_pos (Or.inr j1)] at htw
          exact l289 1 _ (by decide) (fun z => absurd z (by decide)) (fun _ => ⟨(-2, 0, 0), htw, rfl⟩)
        · rw [if_neg (fun z => j1 (encC_inj oj ok3_Q (z.trans encC_16.symm)))]
          rw [if_neg (fun z => by rcases z with z | z; exact j0 z; exact j1 z)] at htw
          exact l289 0 _ (by decide) (fun _ => htw) (fun z => absurd rfl z)
    by_cases k14 : d.1 = 14
    · rw [if_pos k14]; exact l152 (Or.inl k14)
    rw [if_neg k14]
    by_cases k15 : d.1 = 15
    · rw [if_pos k15]; exact l152 (Or.inr k15)
    rw [if_neg k15]
    rw [if_neg (by omega)] at htw
    by_cases k19 : d.1 = 19
    · rw [if_pos k19]
      rw [if_pos k19] at htw
      refine ⟨rj, ?_⟩
      have l230 : tw = none → P_X5_two_230 (R_X5_part (dep + 1)) Q T k (encC j) m1 := by
        intro z
        unfold P_X5_two_230
        rw [if_pos rfl]
        exact l289 0 _ (by decide) (fun _ => z) (fun z => absurd rfl z)
      by_cases jB : j.1 = -2
      · rw [if_pos (by rw [xj.2.1 jB]; decide)]
        exact l230 (by rw [htw, if_neg (fun z => z.1 jB)])
      rw [if_neg (by have := xj.2.2 jB; omega)]
      have gj := encC_RG oj jB
      obtain ⟨gj1, gj2, gj3, gj4⟩ := id gj
      have okj : okb j.1 := by rcases oj with q | q; exact absurd q.1 jB; exact q.1
      have aB : a2.1 ≠ -2 := fun z => by
        have q := (jn_gs oa oa2 hj).2.1
        have := (gs_vals oa2 oj q).2.2.2.1 z
        exact jB (by rw [← this]; exact z)
      have ga := encC_RG oa2 aB
      obtain ⟨ga1, ga2, ga3, ga4⟩ := id ga
      rw [iAnd15]
      refine ⟨by constructor <;> omega, ?_⟩
      by_cases a0 : encC a2 % 16 = 0
      · rw [if_pos a0]
        refine c_base gj ⟨by constructor <;> omega, ?_⟩
        have good : (j.1 = 0 ∨ isFb j.1) → tw = some (frac j) := fun z => by rw [htw, if_pos ⟨jB, by omega, by omega, z⟩]
        by_cases j0 : j.1 = 0
        · rw [if_pos j0]
          unfold P_X5_two_226
          rw [if_neg (by decide)]
          exact c_fracC oj jB (l289 1 _ (by decide) (fun z => absurd z (by decide)) (fun _ => ⟨frac j, good (Or.inl j0), rfl⟩))
        · rw [if_neg j0]
          refine c_base gj (c_isFieldC (Or.inl okj) ?_)
          by_cases cf : isFb j.1
          · rw [fbN_1 cf]
            refine ⟨by decide, by decide, ?_⟩
            rw [if_neg (by decide)]
            exact c_fracC oj jB (l289 1 _ (by decide) (fun z => absurd z (by decide)) (fun _ => ⟨frac j, good (Or.inr cf), rfl⟩))
          · rw [fbN_0 cf]
            refine ⟨by decide, by decide, ?_⟩
            rw [if_pos (by decide)]
            exact l289 0 _ (by decide) (fun _ => by rw [htw, if_neg (fun z => by rcases z.2.2.2 with z | z; exact j0 z; exact cf z)]) (fun z => absurd rfl z)
      · rw [if_neg a0]
        exact l230 (by rw [htw, if_neg (fun z => a0 (by have := z.2.1; have := z.2.2.1; omega))])
    rw [if_neg k19]
    rw [if_neg k19] at htw
    have l267 : d.1 = 20 ∨ d.1 = 21 → P_X5_two_267 (R_X5_part (dep + 1)) Q T k (encC j) (encC j) m1 := by
      intro q
      rw [if_pos q] at htw
      refine c_dividesC (o := some j) (fun x hx => by cases hx; exact oj) ?_
      by_cases cd : dvds j
      · rw [show dvN (some j) = 1 from if_pos cd]
        rw [if_pos cd] at htw
        exact l289 1 _ (by decide) (fun z => absurd z (by decide)) (fun _ => ⟨j, htw, rfl⟩)
      · rw [show dvN (some j) = 0 from if_neg cd]
        rw [if_neg cd] at htw
        exact l289 0 _ (by decide) (fun _ => htw) (fun z => absurd rfl z)
    by_cases k20 : d.1 = 20
    · rw [if_pos k20]; exact l267 (Or.inl k20)
    rw [if_neg k20]
    by_cases k21 : d.1 = 21
    · rw [if_pos k21]; exact l267 (Or.inr k21)
    rw [if_neg k21]
    rw [if_neg (by omega)] at htw
    refine ⟨rj, ?_⟩
    by_cases jB : j.1 = -2
    · rw [if_pos (by rw [xj.2.1 jB]; decide)]
      rw [if_pos jB] at htw
      exact l289 0 _ (by decide) (fun _ => htw) (fun z => absurd rfl z)
    · rw [if_neg (by have := xj.2.2 jB; omega)]
      rw [if_neg jB] at htw
      exact l289 1 _ (by decide) (fun z => absurd z (by decide)) (fun _ => ⟨j, htw, rfl⟩)
theorem choiceC (hk : d.1 = 8) (w : okN d c) (wc : wfT c) (hC : JCon (R_X5_part dep) b e T c) (hE : ECj m b e) (hT : TN m b d c lo hi k) (hn : NC m n) (post : JPost m b e d c lo hi k n Q) : W_X5_choice (R_X5_part (dep + 1)) k m Q T := by
  have h30 : d.1 < 30 := by omega
  have n34 : ¬ (d.1 = 3 ∨ d.1 = 4) := by omega
  have h5 : d.1 = 5 → e.2.2.1 d.2.2.2 := fun q => by exfalso; omega
  have ar := okN_ar w (by omega)
  have l3 : lenT c = 3 := by have := ar.1; unfold arT at this; omega
  have hb := hE.2.1
  unfold W_X5_choice
  refine toP5 (parts_nd hC ar.2 wc hE hT hn (fun m1 g f1 E1 T1 n1 hg => ?_))
  rcases hg with ⟨rfl, hrc⟩ | ⟨rfl, rc, hrc, ch, ln, an⟩
  · refine ⟨by decide, ?_⟩
    rw [if_pos rfl]
    exact own_none post f1 n1 h30 h5 hrc
  refine ⟨by decide, ?_⟩
  rw [if_neg (by decide)]
  obtain ⟨a, a2, a3, rfl⟩ := len3 (ln.trans l3)
  obtain ⟨kb1, ea, oa, kb2, ea2, oa2, kb3, ea3, oa3, -⟩ := ch
  obtain ⟨cl, ch', t2, ⟨e1, e4, e5, e9⟩, t4⟩ := id T1
  have kb : 0 ≤ k ∧ k < 160 := by omega
  have aR : AnR m1 b e d c k := ⟨fun q => by exfalso; omega, fun q => by exfalso; omega, fun _ => an⟩
  have xa := encC_bd oa
  have own := own_three (e := e) (a := a) (a2 := a2) (a3 := a3) hk
  rw [E1.1]
  refine ⟨hb, ⟨hb, kb, kb1, ⟨kb2, ?_⟩⟩⟩
  rw [E1.1]
  refine ⟨hb, ⟨hb, kb, kb1, kb2, ⟨kb3, ?_⟩⟩⟩
  rw [ea2, ea3]
  refine c_join oa2 oa3 ?_
  rw [E1.1, ea]
  refine ⟨hb, kb, kb1, xa.1, ?_⟩
  have bad : ownS e d [a, a2, a3] = none → P_X5_choice_74 (R_X5_part (dep + 1)) Q T k m1 := by
    intro q
    unfold P_X5_choice_74
    rw [E1.1]
    exact ⟨hb, kb, own_bad post f1 n1 w.1 e5 (if_neg n34).symm h30 h5 hrc q⟩
  by_cases qa : a.1 = -2
  · rw [if_pos (xa.2.1 qa)]
    rw [if_pos qa] at own
    have ok := fun z hz => jn_ok oa2 oa3 (z := z) hz
    refine ⟨encO_ri ok, ?_⟩
    by_cases q : jn a2 a3 = none
    · rw [if_pos ((encO_1 ok).2 q)]
      exact bad (own.trans q)
    · rw [if_neg (fun z => q ((encO_1 ok).1 z))]
      rcases hj : jn a2 a3 with - | j
      · exact absurd hj q
      · exact own_good post f1 n1 h30 h5 hrc (own.trans hj) aR
  · rw [if_neg (by have := xa.2.2 qa; omega)]
    exact bad (by rw [own, if_neg qa])
theorem turnedC (hk : d.1 = 24 ∨ d.1 = 25) (w : okN d c) (wc : wfT c) (hC : JCon (R_X5_part dep) b e T c) (hE : ECj m b e) (hT : TN m b d c lo hi k) (hn : NC m n) (post : JPost m b e d c lo hi k n Q) : W_X5_turned (R_X5_part dep) k m Q T := by
  have h30 : d.1 < 30 := by omega
  have n34 : ¬ (d.1 = 3 ∨ d.1 = 4) := by omega
  have h5 : d.1 = 5 → e.2.2.1 d.2.2.2 := fun q => by exfalso; omega
  have hb := hE.2.1
  have bx := hb
  unfold isTx at bx
  obtain ⟨z, a, u, ca, s, rfl, ha, hs, hh⟩ : ∃ z a u ca s, c = .inner z a u ca s ∧ (0 ≤ a.1 ∧ a.1 ≤ 25) ∧ isTy s ∧ htT s ≤ 16 := by
    rcases w.2.2.2.2.2.2.2.2 with q | q | q | q
    · exfalso; have := q.1; unfold arT at this; omega
    · exact q.2
    · exfalso; omega
    · exfalso; omega
  obtain ⟨wa, wca, ws⟩ := wc
  have eR := hE.2.2.2.1
  unfold W_X5_turned
  obtain ⟨cl, ch, t2, ⟨e1, e4, e5, e9⟩, t4⟩ := id hT
  obtain ⟨mid, t5, t6, t7⟩ := TF_cons.1 t4
  have kb : 0 ≤ k ∧ k < 160 := by omega
  obtain ⟨x1, x2, x3⟩ := id t6
  have kc : 0 ≤ m (b + 2) k ∧ m (b + 2) k < 160 := by obtain ⟨y2, y3⟩ := x3; omega
  have lm : cl ≤ mid := by obtain ⟨y2, y3⟩ := x3; omega
  rw [hE.1]
  refine ⟨hb, kb, hC.1 (by omega) m n cl mid _ _ hE t6 hn (fun m1 f1 n1 a1 => ?_)⟩
  have f1' : FJd b lo hi m m1 := f1.mono (by omega) (by omega)
  have E1 := hE.fj f1
  have g2 : m1 (b + 2) k = m (b + 2) k := f1.st hb (by omega) k
  have g3 : m1 (b + 3) (m (b + 2) k) = m (b + 3) (m (b + 2) k) := f1.st hb (by omega) _
  have T7 := t7.fj hb f1
  have ks : 0 ≤ m (b + 3) (m (b + 2) k) ∧ m (b + 3) (m (b + 2) k) < 160 ∧ mid ≤ m (b + 3) (m (b + 2) k) ∧ m (b + 3) (m (b + 2) k) < ch := by
    cases s with
    | leaf => exact hs.elim
    | inner zs ds us cs ss => obtain ⟨mm, i1, ⟨cl', ch', i2, i3⟩, i4⟩ := t7; omega
  have oka := fun x hx => rgS_ok hE.ok wa wca (x := x) hx
  rw [E1.1]
  refine ⟨hb, ⟨hb, kb, by rw [g2]; exact kc, ?_⟩⟩
  rw [g2, g3]
  have J1 : (jdS e (.inner z a u ca s)).1 = [rgS e a ca, (tyO e.2.2.2.2 s).1] ∧ (jdS e (.inner z a u ca s)).2 = mn (ntS e a ca) (tyO e.2.2.2.2 s).2 := by
    cases s with
    | leaf => exact hs.elim
    | inner zs ds us cs ss =>
      obtain ⟨hs1, rfl⟩ := hs
      have q : nodeS e ds cs (jdS e cs) = tyO e.2.2.2.2 (nd ds cs lf) := by
        unfold nodeS
        rw [if_pos (by omega)]
      have q2 : tyO e.2.2.2.2 (nd ds cs lf) = tyO e.2.2.2.2 (.inner zs ds us cs .leaf) := rfl
      constructor
      · show rgS e a ca :: (nodeS e ds cs (jdS e cs)).1 :: [] = _
        rw [q, q2]
      · show mn (ntS e a ca) (mn (nodeS e ds cs (jdS e cs)).2 none) = _
        rw [mn_none, q, q2]
  refine c_typeC hb eR s ws hs (lo := mid) (hi := ch) (n := mn n (ntS e a ca)) (by omega) E1.1 E1.2.2.1 T7 n1 (fun m2 f2 n2 => ?_)
  have f2' : FJd b lo hi m m2 := f1'.trans f2.fj
  have E2 := hE.fj f2'
  have h2 : m2 (b + 2) k = m (b + 2) k := f2'.st hb (by omega) k
  have h3 : m2 (b + 3) (m (b + 2) k) = m (b + 3) (m (b + 2) k) := f2'.st hb (by omega) _
  rw [E2.1]
  refine ⟨hb, ⟨hb, kb, by rw [h2]; exact kc, ?_⟩⟩
  rw [h2, h3]
  refine ⟨⟨ks.1, ks.2.1⟩, ?_⟩
  rintro m3 rfl
  have okt := fun x hx => tyO_ok (R := e.2.2.2.2) (fun x hx => (eR x hx).1) s ws hs x hx
  have f3 : FJd b lo hi m (up m2 (b + 6) (m (b + 3) (m (b + 2) k)) (encX (tyO e.2.2.2.2 s).1)) := fun c' i' q1 q2 q3 q4 => by rw [up_ne (fun z => q1 ⟨Or.inl z.1, by omega, by omega⟩)]; exact f2' c' i' q1 q2 q3 q4
  have E3 := hE.fj f3
  have T3 := hT.fj hb f3
  have n3 : NC (up m2 (b + 6) (m (b + 3) (m (b + 2) k)) (encX (tyO e.2.2.2.2 s).1)) (mn n (jdS e (.inner z a u ca s)).2) := by
    rw [J1.2, ← mn_assoc]
    exact n2.congr (up_ne (by omega)) (up_ne (by omega))
  obtain ⟨m3, hm3⟩ : ∃ m3, m3 = up m2 (b + 6) (m (b + 3) (m (b + 2) k)) (encX (tyO e.2.2.2.2 s).1) := ⟨_, rfl⟩
  rw [← hm3] at f3 E3 T3 n3 ⊢
  refine ⟨encX_ri oka, ?_⟩
  rcases ha1 : rgS e a ca with - | x
  · rw [if_pos (show encX none = -3 from rfl)]
    exact own_none post f3 n3 h30 h5 (by rw [J1.1, ha1]; rfl)
  have ox := oka x ha1
  have n3x : encX (some x) ≠ -3 := fun q => by have := (encX_3 (o := some x) (fun y hy => by cases hy; exact ox)).1 q; cases this
  rw [if_neg n3x]
  refine ⟨encX_ri okt, ?_⟩
  rcases ht1 : (tyO e.2.2.2.2 s).1 with - | y
  · rw [if_pos (show encX none = -3 from rfl)]
    exact own_none post f3 n3 h30 h5 (by rw [J1.1, ha1, ht1]; rfl)
  have oy := okt y ht1
  have n3y : encX (some y) ≠ -3 := fun q => by have := (encX_3 (o := some y) (fun z hz => by cases hz; exact oy)).1 q; cases this
  rw [if_neg n3y, E3.1]
  have hrc : allS (jdS e (.inner z a u ca s)).1 = some [x, y] := by rw [J1.1, ha1, ht1]; rfl
  obtain ⟨cl3, ch3, t23, ⟨e13, e43, e53, e93⟩, t43⟩ := id T3
  rw [e13]
  refine ⟨hb, by constructor <;> omega, ?_⟩
  -- annotations
  have aF : AnF m3 b e (.inner z a u ca s) (m3 (b + 2) k) := by
    have q2 : m3 (b + 2) k = m (b + 2) k := f3.st hb (by omega) k
    have q3 : m3 (b + 3) (m (b + 2) k) = m (b + 3) (m (b + 2) k) := f3.st hb (by omega) _
    rw [q2]
    have F13 : FJd b mid ch m1 m3 := fun c' i' q1 q2 q3 q4 => by rw [hm3, up_ne (fun z => q1 ⟨Or.inl z.1, by omega, by omega⟩)]; exact f2.fj c' i' q1 q2 q3 q4
    refine AnF_cons.2 ⟨(a1 x ha1).fj hb F13 (t6.fj hb f1) (Or.inl (Int.le_refl _)), ?_⟩
    rw [q3]
    cases s with
    | leaf => exact hs.elim
    | inner zs ds us cs ss =>
      obtain ⟨hs1, rfl⟩ := hs
      refine AnF_cons.2 ⟨⟨fun x' hx' => ?_, fun q => by exfalso; omega, fun q => by exfalso; omega, fun q => by exfalso; omega⟩, trivial⟩
      have q : rgS e ds cs = (tyO e.2.2.2.2 (.inner zs ds us cs .leaf)).1 := by
        unfold rgS nodeS
        rw [if_pos (by omega)]
        rfl
      rw [q, ht1] at hx'
      cases hx'
      rw [hm3, up_at, ht1]
      rfl
  have aR : AnR m3 b e d (.inner z a u ca s) k := ⟨fun q => by exfalso; omega, fun q => by exfalso; omega, fun _ => aF⟩
  have l86 : ∀ v, RI v → (v = 0 → ownS e d [x, y] = none) → (v ≠ 0 → ownS e d [x, y] = some y) → P_X5_turned_86 (R_X5_part dep) Q T k (encC y) v m3 := by
    intro v rv v0 v1
    unfold P_X5_turned_86
    rw [E3.1]
    refine ⟨rv, ?_⟩
    by_cases q : v = 0
    · rw [if_pos q]
      exact ⟨hb, kb, own_bad post f3 n3 w.1 e53 (if_neg n34).symm h30 h5 hrc (v0 q)⟩
    · rw [if_neg q]
      exact own_good post f3 n3 h30 h5 hrc (v1 q) aR
  have own := own_turn (e := e) (x := x) (y := y) hk
  rw [show encX (some x) = encC x from rfl, show encX (some y) = encC y from rfl]
  by_cases k24 : d.1 = 24
  · rw [if_pos k24] at own ⊢
    refine c_goes ox oy (l86 _ (by split <;> decide) (fun q => ?_) (fun q => ?_))
    · rw [own]
      by_cases g : jn x y = some y
      · rw [if_pos g] at q; exact absurd q (by decide)
      · rw [if_neg g]
    · rw [own]
      by_cases g : jn x y = some y
      · rw [if_pos g]
      · rw [if_neg g] at q; exact absurd rfl q
  · rw [if_neg k24] at own ⊢
    refine c_goes oy ox (l86 _ (by split <;> decide) (fun q => ?_) (fun q => ?_))
    · rw [own]
      by_cases g : jn y x = some x
      · rw [if_pos g] at q; exact absurd q (by decide)
      · rw [if_neg g]
    · rw [own]
      by_cases g : jn y x = some x
      · rw [if_pos g]
      · rw [if_neg g] at q; exact absurd rfl q
end TWOC
