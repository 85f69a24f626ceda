set_option maxRecDepth 100000
/-! what parts come to: values are of their rings, all kinds -/
section EVX
variable {F : Int → FnR} {n : Int} {E : EVm} {rec : EVm → PT → ES → ER}
/-- of two parts -/
theorem two_cs {k : Int} {a b x : R3} (hk : 12 ≤ k ∧ k ≤ 21) (ha : ok3 a) (hb : ok3 b) (h : twoS k a b = some x) : ∃ j, jn a b = some j ∧ (k ≠ 19 → opOK (k + 3) j ∧ gs a j ∧ gs b j ∧ x = (if k + 3 ≤ 18 then (-2, 0, 0) else j) ∧ ok3 j) ∧ (k = 19 → x = frac j ∧ opOK 22 (frac j) ∧ gs a (frac j) ∧ gs b ((frac j).1, 0, 0) ∧ ok3 ((frac j).1, 0, 0) ∧ ok3 j) := by
  unfold twoS at h
  cases hj : jn a b with
  | none => rw [hj] at h; cases h
  | some j =>
    have jo := jn_ok ha hb hj
    have g := jn_gs ha hb hj
    have jb : j.1 ≠ -2 → okb j.1 := fun z => by
      rcases jo with w | w
      · exact absurd w.1 z
      · exact w.1
    rw [hj] at h
    simp only at h
    rw [if_neg (by omega)] at h
    refine ⟨j, rfl, ?_⟩
    by_cases c : k = 12 ∨ k = 13
    · rw [if_pos c] at h
      injection h with h
      refine ⟨fun _ => ⟨.inl (by omega), g.1, g.2.1, by rw [if_pos (by omega)]; exact h.symm, jo⟩, fun z => by omega⟩
    rw [if_neg c] at h
    by_cases c : k = 14 ∨ k = 15
    · rw [if_pos c] at h
      by_cases c1 : j = (0, 0, 0) ∨ j = (1, 0, 0)
      · rw [if_pos c1] at h
        injection h with h
        refine ⟨fun _ => ⟨.inr (.inl ⟨by omega, ?_⟩), g.1, g.2.1, by rw [if_pos (by omega)]; exact h.symm, jo⟩, fun z => by omega⟩
        rcases c1 with e | e <;> rw [e] <;> decide
      · rw [if_neg c1] at h; cases h
    rw [if_neg c] at h
    by_cases c : k = 19
    · rw [if_pos c] at h
      by_cases c1 : j.1 ≠ -2 ∧ b.2.1 = 0 ∧ b.2.2 = 0 ∧ (j.1 = 0 ∨ isFb j.1)
      · rw [if_pos c1] at h
        injection h with h
        have fb : isFb (frac j).1 := by
          rcases frac_base j with e | e
          · rw [e]; exact .inl rfl
          · rw [e]
            rcases c1.2.2.2 with q | q
            · exfalso
              have e' : (if j.1 = 0 then (1 : Int) else j.1) = j.1 := e
              rw [if_pos q] at e'
              omega
            · exact q
        have fo := frac_ok jo
        have fo1 : (frac j).1 ≠ -2 := by
          rcases frac_base j with e | e
          · rw [e]; decide
          · rw [e]; exact c1.1
        have fbk : okb (frac j).1 := by
          rcases fo with w | w
          · exact absurd w.1 fo1
          · exact w.1
        have gbj := gs_vals hb jo g.2.1
        have b2 : b.1 ≠ -2 := fun z => by
          have e := gbj.2.2.2.1 z
          rw [e] at z; exact c1.1 z
        have o2 : ok3 ((frac j).1, 0, 0) := .inr ⟨fbk, by show (0 : Int) ≤ 0 ∧ (0 : Int) ≤ 2; decide, by show (0 : Int) ≤ 0 ∧ (0 : Int) ≤ 3; decide⟩
        have gb : gs b ((frac j).1, 0, 0) := by
          refine gs_of hb o2 b2 fo1 ?_ ?_ ?_
          · show b.1 = (if j.1 = 0 then 1 else j.1) ∨ b.1 = 0
            by_cases q : j.1 = 0
            · rcases gbj.1 with e | e
              · exact .inr (by omega)
              · exact .inr e.1
            · rw [if_neg q]
              rcases gbj.1 with e | e
              · exact .inl e
              · exact .inr e.1
          · show b.2.1 ≤ 0; omega
          · exact .inl c1.2.2.1
        exact ⟨fun z => absurd c z, fun _ => ⟨h.symm, .inr (.inr (.inr (.inl ⟨rfl, fbk, fb⟩))), gs_frac ha jo g.1, gb, o2, jo⟩⟩
      · rw [if_neg c1] at h; cases h
    rw [if_neg c] at h
    by_cases c2 : k = 20 ∨ k = 21
    · rw [if_pos c2] at h
      by_cases c1 : dvds j
      · rw [if_pos c1] at h
        injection h with h
        refine ⟨fun _ => ⟨.inr (.inr (.inr (.inr ⟨by omega, ?_⟩))), g.1, g.2.1, by rw [if_neg (by omega)]; exact h.symm, jo⟩, fun z => by omega⟩
        rcases c1 with e | e
        · rw [e]; exact ⟨rfl, .inl ⟨rfl, rfl⟩⟩
        · exact ⟨e.2.1, .inr ⟨jb e.1, e.2.2.1, e.2.2.2⟩⟩
      · rw [if_neg c1] at h; cases h
    rw [if_neg c2] at h
    by_cases c3 : j.1 = -2
    · rw [if_pos c3] at h; cases h
    · rw [if_neg c3] at h
      injection h with h
      exact ⟨fun _ => ⟨.inr (.inr (.inl ⟨by omega, c3⟩)), g.1, g.2.1, by rw [if_neg (by omega)]; exact h.symm, jo⟩, fun z => by omega⟩
theorem ar_len {k : Int} {l : Nat} (h : arT k l) : ((0 ≤ k ∧ k ≤ 4) → l = 0) ∧ ((5 ≤ k ∧ k ≤ 7) → 1 ≤ l) ∧ (k = 8 → l = 3) ∧ ((k = 9 ∨ k = 10 ∨ 12 ≤ k ∧ k ≤ 21) → l = 2) ∧ ((k = 11 ∨ k = 22 ∨ k = 23) → l = 1) := by
  unfold arT at h
  omega
theorem okN_ar2 {d : ND} {c : TT} (h : okN d c) (hk : 0 ≤ d.1 ∧ d.1 ≤ 23) : arT d.1 (lenT c) ∧ allP c := by
  rcases h.2.2.2.2.2.2.2.2 with q | q | q | q
  · exact q
  · omega
  · omega
  · omega
theorem evK_VR (hV : VrO F n rec) : VrO F n (evK F rec) := by
  intro E a s V s' x hE hk w wc hx he
  obtain ⟨rc, hA, ho, hlen, ⟨x1, x2, x3⟩, hrc, hl⟩ := ndc hE hk w wc hx
  have eX : rgN E.1 a = x := by
    show (rgS E.1 a.1 a.2).getD (0, 0, 0) = x
    rw [hx]; rfl
  -- a part as it is
  have part : ∀ {k : Nat} {s V s'}, k < lenT a.2 → (0 ≤ (prT a.2 k).1.1 ∧ (prT a.2 k).1.1 ≤ 25) → rec E (prT a.2 k) s = (.ok V, s') → VR E.2.1 (rgN E.1 (prT a.2 k)) V := by
    intro k s V s' hk' hkd h
    have q := prT_wf wc hk'
    exact hV E _ s V s' _ hE hkd q.1 q.2 (hl k hk').1 h
  have okc : ∀ k, k < lenT a.2 → ok3 (rgN E.1 (prT a.2 k)) ∧ okMo (rgN E.1 (prT a.2 k)).1 E.2.1 := fun k hk' => by
    have := hrc _ (List.mem_of_getElem? (hl k hk').2)
    exact ⟨this.1, this.2.1⟩
  have moX : MU (muR x.1 E.2.1) := muR_MU (ok3_b x1) x2
  unfold evK at he
  unfold ownS at ho
  by_cases c0 : a.1.1 = 0
  · rw [if_pos c0] at he ho
    injection ho with ho; injection he with he _; injection he with he
    rw [← ho, ← he]
    have := w.2.1
    exact VR_num (by omega)
  rw [if_neg c0] at he ho
  have unk : ∀ (j d : Int), (d = 1 ∧ j = 1 ∨ d = 2 ∧ j = 7) → VR E.2.1 (0, d, 0) (rvv (unkR j)) := by
    intro j d hj
    refine ⟨?_, fun q => by exfalso; have q' : (0 : Int) = -2 := q; omega⟩
    show NN (muR 0 E.2.1) d 0 (rvv (unkR j))
    rw [muR_0]
    refine rvv_NN (by decide) ⟨fun k => ?_, fun k hk' => ?_⟩
    · unfold unkR setP
      by_cases c : k = j
      · rw [if_pos c]; exact NB_11 (by decide)
      · rw [if_neg c]; exact NB_zr (by decide)
    · unfold unkR setP
      have : cof d = (if d = 0 then 1 else if d = 1 then 7 else 49) := rfl
      rcases hj with ⟨rfl, rfl⟩ | ⟨rfl, rfl⟩
      · rw [if_neg (by rw [this] at hk'; have hk' : (7 : Int) ≤ k := hk'; omega)]; rfl
      · rw [if_neg (by rw [this] at hk'; have hk' : (49 : Int) ≤ k := hk'; omega)]; rfl
  by_cases c1 : a.1.1 = 1
  · rw [if_pos c1] at he ho
    injection ho with ho; injection he with he _; injection he with he
    rw [← ho, ← he]; exact unk 1 1 (.inl ⟨rfl, rfl⟩)
  rw [if_neg c1] at he ho
  by_cases c2 : a.1.1 = 2
  · rw [if_pos c2] at he ho
    injection ho with ho; injection he with he _; injection he with he
    rw [← ho, ← he]; exact unk 7 2 (.inr ⟨rfl, rfl⟩)
  rw [if_neg c2] at he ho
  by_cases c3 : a.1.1 = 3
  · rw [if_pos c3] at he ho
    injection he with he _; injection he with he
    rw [← he]; exact hE.rs w.2.1.1 ho
  rw [if_neg c3] at he ho
  by_cases c4 : a.1.1 = 4
  · rw [if_pos c4] at he ho
    injection he with he _; injection he with he
    cases hn : E.1.1 a.1.2.2.2 with
    | none => rw [hn] at ho; cases ho
    | some y =>
      rw [hn] at ho
      injection ho with ho
      have e : nmI E.1 a.1.2.2.2 = y.1 := by unfold nmI; rw [hn]
      rw [← he, ← ho, e]
      exact hE.nm hn
  rw [if_neg c4] at he ho
  have ar := okN_ar2 w
  by_cases c5 : a.1.1 = 5
  · rw [if_pos c5] at he ho
    have al := (ar (by omega)).2
    cases hc : E.1.2.2.2.1 a.1.2.2.2 rc with
    | none => rw [hc] at ho; cases ho
    | some y =>
      obtain ⟨f, R, z⟩ := y
      rw [hc] at ho
      injection ho with ho
      have ho : z = x := ho
      subst ho
      have ecl : clS E.1 a.1.2.2.2 a.2 = (f, R, z) := by
        unfold clS
        rw [← (allS_get hA).2.2, hc]; rfl
      unfold evCall at he
      rw [ecl] at he
      simp only at he
      obtain ⟨n', hn', ec⟩ := hE.call
      have hF := hE.1.1
      rw [ec] at hc
      obtain ⟨m1, m2, m3, m4, m5, m6, m7, ⟨pp, m8⟩, m9⟩ := mtS_ok hn'.1 (fun k k0 k1 => (hF k k0 (by omega)).1) (fun y hy => (hrc y hy).1) hc
      have Bz := mtS_base (hF.le hn'.2) (fun y hy => (hrc y hy).2.2) hc
      rw [← ec] at hc
      have Ff := hF f m2.1 (by omega)
      cases hN : evN (fun k => evP rec E a.2 ((instS (F f) ((k : Int) + 1) R).getD (0, 0, 0)) k) (F f).2.1.toNat 0 (fun _ => zV) s with
      | mk r s1 =>
        rw [hN] at he
        cases r with
        | error e => simp only at he; injection he with he _; cases he
        | ok g =>
          simp only at he
          obtain ⟨g1, -⟩ := evN_ok _ _ _ _ _ _ hN
          have np : (F f).2.1 = (lenT a.2 : Int) := by rw [m3, hlen]
          have args : ∀ (i : Nat), (i : Int) < (F f).2.1 → ∀ y, instS (F f) ((i : Int) + 1) R = some y → VR E.2.1 y (g i) := by
            intro i hi y hy
            have il : i < lenT a.2 := by omega
            obtain ⟨s2, s3, h2⟩ := g1 i (Nat.zero_le _) (by omega)
            have e1 : (instS (F f) ((i : Int) + 1) R).getD (0, 0, 0) = y := by rw [hy]; rfl
            have h2 : evP rec E a.2 ((instS (F f) ((i : Int) + 1) R).getD (0, 0, 0)) i s2 = (.ok (g i), s3) := h2
            rw [e1] at h2
            obtain ⟨y', q1, q2⟩ := prc_gs m8 i (by omega) _ (hl i il).2
            rw [show (1 : Int) + (i : Int) = (i : Int) + 1 by omega, hy] at q1
            injection q1 with q1
            subst q1
            have yo := instS_ok Ff.1 (k := (i : Int) + 1) (by omega) m6 hy
            have yb : okMo y.1 E.2.1 := by
              rcases instS_base (Ff.2 ((i : Int) + 1) (by omega) (by omega)) hy with q | ⟨r, q3, q4⟩
              · exact okMo_lt q
              · rw [← q4]; exact hE.mo (Bz.2 r q3)
            exact evP_VR hV hE wc il (prT_kd al il) hrc hl yo yb q2 h2
          by_cases cd : E.2.2.1 = 20
          · rw [if_pos cd] at he; injection he with he _; cases he
          rw [if_neg cd] at he
          obtain ⟨hE', x', z', q1, q2, q3, q4, q5⟩ := hE.callee (cd := E.2.2.1 + 1) (fun y hy => (hrc y hy).1) (fun y hy => (hrc y hy).2.2) hc args
          obtain ⟨U, s2, h1, h2⟩ := andE_ok he
          injection h2 with h2 _
          injection h2 with h2
          have rt := (hE.1.2 f m2.1 (by omega)).1
          have vr := hV _ (rootF (F f)) _ U s2 x' hE' rt.1 rt.2.1 rt.2.2 q1 h1
          have e1 : rgN (JEf F f (nrmR R)) (rootF (F f)) = x' := by unfold rgN; rw [q1]; rfl
          rw [e1, q2] at h2
          have h2 : conv (ownM E.2.1 R) x' z' U = V := h2
          rw [← h2]
          refine q5 _ (conv_VR (rgS_ok hE'.jok rt.2.1 rt.2.2 q1) ?_ ?_ q3 vr)
          · exact instS_ok Ff.1 (by have := Ff.1.1; omega) (fun r hr => (hE'.R r hr).1) q2
          · exact hE'.mo (instS_base (Ff.2 0 (Int.le_refl _) (by have := Ff.1.1; omega)) q2)
  rw [if_neg c5] at he ho
  by_cases c6 : a.1.1 = 6
  · rw [if_pos c6] at he ho
    have al := (ar (by omega)).2
    unfold evFun at he
    obtain ⟨U, s1, h1, h2⟩ := andE_ok he
    unfold fnS at ho
    by_cases l1 : lenT a.2 = 1
    · have er := rc_1 hA l1
      rw [er] at ho
      simp only at ho
      by_cases cf : a.1.2.2.1 = 0 ∨ a.1.2.2.1 = 2 ∨ a.1.2.2.1 = 3
      · rw [if_pos cf] at ho; cases ho
      rw [if_neg cf] at ho h2
      rw [if_neg (by omega)] at h1
      injection h2 with h2 _
      have o0 := okc 0 (by omega)
      have fa : ok3 (fnA a.1.2.2.1 (rgN E.1 (prT a.2 0))) ∧ okMo (fnA a.1.2.2.1 (rgN E.1 (prT a.2 0))).1 E.2.1 ∧ gs (rgN E.1 (prT a.2 0)) (fnA a.1.2.2.1 (rgN E.1 (prT a.2 0))) := by
        unfold fnA
        by_cases q : a.1.2.2.1 = 9 ∨ 11 < a.1.2.2.1
        · rw [if_pos q]
          exact ⟨frac_ok o0.1, fr_mo o0.2, gs_frac o0.1 o0.1 jn_self⟩
        · rw [if_neg q]; exact ⟨o0.1, o0.2, jn_self⟩
      have vU := evP_VR hV hE wc (by omega) (prT_kd al (by omega)) hrc hl fa.1 fa.2.1 fa.2.2 h1
      rw [eX] at h2
      exact fn1_VR o0.1 o0.2 ⟨fun q => cf (.inl q), fun q => cf (.inr (.inl q)), fun q => cf (.inr (.inr q))⟩ ho vU h2
    · by_cases l2 : lenT a.2 = 2
      · have er := rc_2 hA l2
        rw [er] at ho
        simp only at ho
        by_cases cf : a.1.2.2.1 = 0 ∨ a.1.2.2.1 = 2 ∨ a.1.2.2.1 = 3
        · rw [if_pos cf] at ho h2
          obtain ⟨W, s2, h3, h4⟩ := andE_ok h2
          injection h4 with h4 _
          rw [eX] at h1 h3 h4
          have o0 := okc 0 (by omega)
          have o1 := okc 1 (by omega)
          have ea : fnA a.1.2.2.1 (rgN E.1 (prT a.2 0)) = rgN E.1 (prT a.2 0) := by unfold fnA; rw [if_neg (by omega)]
          have g0 : a.1.2.2.1 = 0 → gs (rgN E.1 (prT a.2 0)) x ∧ gs (rgN E.1 (prT a.2 1)) x := by
            intro q
            unfold fn2S at ho
            rw [if_pos q] at ho
            cases hj : jn (rgN E.1 (prT a.2 0)) (rgN E.1 (prT a.2 1)) with
            | none => rw [hj] at ho; cases ho
            | some j =>
              rw [hj] at ho
              simp only at ho
              by_cases cd : dvds j
              · rw [if_pos cd] at ho
                injection ho with ho
                subst ho
                have := jn_gs o0.1 o1.1 hj
                exact ⟨this.1, this.2.1⟩
              · rw [if_neg cd] at ho; cases ho
          have g3 : a.1.2.2.1 = 3 → gs (rgN E.1 (prT a.2 1)) x := by
            intro q
            unfold fn2S at ho
            rw [if_neg (by omega)] at ho
            by_cases q1 : (rgN E.1 (prT a.2 0)).1 = -2 ∨ (rgN E.1 (prT a.2 0)).2.2 ≠ 0 ∨ (rgN E.1 (prT a.2 0)).2.1 = 0
            · rw [if_pos q1] at ho; cases ho
            rw [if_neg q1, if_neg (by omega)] at ho
            by_cases q2 : (rgN E.1 (prT a.2 1)).1 = -2
            · rw [if_pos q2] at ho; cases ho
            rw [if_neg q2] at ho
            have oa : ok3 ((rgN E.1 (prT a.2 0)).1, (rgN E.1 (prT a.2 0)).2.1 - 1, 0) := by
              rcases o0.1 with w | w
              · exact absurd (.inl w.1) q1
              · exact .inr ⟨w.1, by show (0 : Int) ≤ (rgN E.1 (prT a.2 0)).2.1 - 1 ∧ (rgN E.1 (prT a.2 0)).2.1 - 1 ≤ 2; omega, by show (0 : Int) ≤ 0 ∧ (0 : Int) ≤ 3; decide⟩
            exact (jn_gs oa o1.1 ho).2.1
          have vU : VR E.2.1 (if a.1.2.2.1 = 0 then x else fnA a.1.2.2.1 (rgN E.1 (prT a.2 0))) U := by
            by_cases q : a.1.2.2.1 = 0
            · rw [if_pos q] at h1 ⊢
              exact evP_VR hV hE wc (by omega) (prT_kd al (by omega)) hrc hl x1 x2 (g0 q).1 h1
            · rw [if_neg q, ea] at h1 ⊢
              exact evP_VR hV hE wc (by omega) (prT_kd al (by omega)) hrc hl o0.1 o0.2 jn_self h1
          have vW : VR E.2.1 (if a.1.2.2.1 = 2 then rgN E.1 (prT a.2 1) else x) W := by
            by_cases q : a.1.2.2.1 = 2
            · rw [if_pos q] at h3 ⊢
              exact evP_VR hV hE wc (by omega) (prT_kd al (by omega)) hrc hl o1.1 o1.2 jn_self h3
            · rw [if_neg q] at h3 ⊢
              refine evP_VR hV hE wc (by omega) (prT_kd al (by omega)) hrc hl x1 x2 ?_ h3
              by_cases q0 : a.1.2.2.1 = 0
              · exact (g0 q0).2
              · exact g3 (by omega)
          exact fn2_VR o0.1 o1.1 o0.2 o1.2 cf ho vU vW h4
        · rw [if_neg cf] at ho; cases ho
      · exfalso
        split at ho
        · rw [List.length_cons, List.length_nil] at hlen; omega
        · rw [List.length_cons, List.length_cons, List.length_nil] at hlen; omega
        · cases ho
  rw [if_neg c6] at he ho
  by_cases c7 : a.1.1 = 7
  · rw [if_pos c7] at he ho
    have al := (ar (by omega)).2
    unfold evMat at he
    unfold mxS at ho
    cases hr : rc with
    | nil => rw [hr] at ho; cases ho
    | cons b l =>
      rw [hr] at ho
      simp only at ho
      cases hj : jnL b l with
      | none => rw [hj] at ho; cases ho
      | some j =>
        rw [hj] at ho
        simp only at ho
        by_cases cv : 0 < a.1.2.2.1 ∧ j.1 ≠ -2 ∧ j.2.2 = 0
        · rw [if_pos cv] at ho
          injection ho with ho
          rw [eX] at he
          cases hN : evN (fun k => evP rec E a.2 (x.1, x.2.1, 0) k) (lenT a.2) 0 (fun _ => zV) s with
          | mk r s1 =>
            rw [hN] at he
            cases r with
            | error e => simp only at he; injection he with he _; cases he
            | ok g =>
              simp only at he
              injection he with he _
              injection he with he
              obtain ⟨g1, -⟩ := evN_ok _ _ _ _ _ _ hN
              have v3 := w.2.2.2.2.2.1 c7
              have ex1 : x.1 = j.1 := by rw [← ho]
              have ex2 : x.2.1 = j.2.1 := by rw [← ho]
              have ex3 : x.2.2 = a.1.2.2.1 := by rw [← ho]
              have xb : x.1 ≠ -2 := by rw [ex1]; exact cv.2.1
              have len := v3.2 (by omega)
              have zo : ok3 (x.1, x.2.1, 0) := by
                rcases x1 with q | q
                · exact absurd q.1 xb
                · exact .inr ⟨q.1, q.2.1, by show (0 : Int) ≤ 0 ∧ (0 : Int) ≤ 3; decide⟩
              have jg : ∀ (l : List R3) (b j : R3), ok3 b → (∀ y, y ∈ l → ok3 y) → jnL b l = some j → ok3 j ∧ gs b j ∧ ∀ y, y ∈ l → gs y j := by
                intro l
                induction l with
                | nil => intro b j hb _ h; injection h with h; rw [← h]; exact ⟨hb, jn_self, fun y hy => by cases hy⟩
                | cons c l ih =>
                  intro b j hb hl' h
                  unfold jnL at h
                  cases hk : jn b c with
                  | none => rw [hk] at h; cases h
                  | some k =>
                    rw [hk] at h
                    have co := hl' c (by simp)
                    have ko := jn_ok hb co hk
                    obtain ⟨i1, i2, i3⟩ := ih k j ko (fun y hy => hl' y (List.mem_cons_of_mem _ hy)) h
                    have gk := jn_gs hb co hk
                    have tr : ∀ {u : R3}, ok3 u → gs u k → gs u j := by
                      intro u uo ug
                      have v1 := gs_vals uo ko ug
                      have v2 := gs_vals ko i1 i2
                      by_cases q : u.1 = -2
                      · rw [v1.2.2.2.1 q]; exact i2
                      · by_cases q2 : j.1 = -2
                        · have e := v2.2.2.2.2 q2
                          rw [← e]; exact ug
                        · refine gs_of uo i1 q q2 ?_ ?_ ?_
                          · rcases v1.1 with e | e
                            · rcases v2.1 with e' | e'
                              · exact .inl (e.trans e')
                              · exact .inr (e.trans e'.1)
                            · exact .inr e.1
                          · have := v1.2.1; have := v2.2.1; omega
                          · rcases v1.2.2.1 with e | e
                            · rcases v2.2.2.1 with e' | e'
                              · exact .inl (e.trans e')
                              · exact .inr (e.trans e')
                            · exact .inr e
                    refine ⟨i1, tr hb gk.1, fun y hy => ?_⟩
                    rcases List.mem_cons.1 hy with rfl | hy
                    · exact tr co gk.2.1
                    · exact i3 y hy
              obtain ⟨jo, jb, jl⟩ := jg l b j (hrc b (by rw [hr]; simp)).1 (fun y hy => (hrc y (by rw [hr]; exact List.mem_cons_of_mem _ hy)).1) hj
              have ej : j = (x.1, x.2.1, 0) := by rw [ex1, ex2, ← cv.2.2]
              have xe : x = (x.1, x.2.1, x.2.2) := rfl
              rw [← he, xe]
              refine mat_VR xb moX (by rw [ex3]; omega) (fun i hi => ?_)
              have il : i < lenT a.2 := by rw [ex3] at hi; omega
              obtain ⟨s2, s3, h2⟩ := g1 i (Nat.zero_le _) (by omega)
              refine evP_VR hV hE wc il (prT_kd al il) hrc hl zo x2 ?_ h2
              rw [← ej]
              have mm := List.mem_of_getElem? (hl i il).2
              rw [hr] at mm
              rcases List.mem_cons.1 mm with e | mm
              · rw [e]; exact jb
              · exact jl _ mm
        · rw [if_neg cv] at ho; cases ho
  rw [if_neg c7] at he ho
  rw [eX] at he
  by_cases c8 : a.1.1 = 8
  · rw [if_pos c8] at he
    have aa := ar (by omega)
    have al := aa.2
    have l3 := (ar_len aa.1).2.2.1 c8
    have er := rc_3 hA l3
    rw [er] at ho
    simp only at ho
    by_cases b0 : (rgN E.1 (prT a.2 0)).1 = -2
    · rw [if_pos b0] at ho
      have gg := jn_gs (okc 1 (by omega)).1 (okc 2 (by omega)).1 ho
      obtain ⟨U, s1, h1, h2⟩ := andE_ok he
      by_cases cc : (U 0 0 0).1 = 0
      · rw [if_pos cc] at h2
        exact evP_VR hV hE wc (by omega) (prT_kd al (by omega)) hrc hl x1 x2 gg.2.1 h2
      · rw [if_neg cc] at h2
        exact evP_VR hV hE wc (by omega) (prT_kd al (by omega)) hrc hl x1 x2 gg.1 h2
    · rw [if_neg b0] at ho; cases ho
  rw [if_neg c8] at he
  have bool2 : a.1.1 = 9 ∨ a.1.1 = 10 → lenT a.2 = 2 ∧ x = (-2, 0, 0) ∧ rgN E.1 (prT a.2 0) = (-2, 0, 0) ∧ rgN E.1 (prT a.2 1) = (-2, 0, 0) ∧ allP a.2 := by
    intro q
    have aa := ar (by omega)
    have l2 := (ar_len aa.1).2.2.2.1 (by omega)
    have er := rc_2 hA l2
    rw [er] at ho
    simp only at ho
    rw [if_neg (by omega), if_neg (by omega)] at ho
    unfold twoS at ho
    cases hj : jn (rgN E.1 (prT a.2 0)) (rgN E.1 (prT a.2 1)) with
    | none => rw [hj] at ho; cases ho
    | some j =>
      rw [hj] at ho
      simp only at ho
      rw [if_pos q] at ho
      by_cases b : (rgN E.1 (prT a.2 0)).1 = -2 ∧ (rgN E.1 (prT a.2 1)).1 = -2
      · rw [if_pos b] at ho
        injection ho with ho
        have e : ∀ y : R3, ok3 y → y.1 = -2 → y = (-2, 0, 0) := by
          intro y oy yb
          rcases oy with q | q
          · exact Prod.ext q.1 (Prod.ext q.2.1 q.2.2)
          · have := q.1; omega
        exact ⟨l2, ho.symm, e _ (okc 0 (by omega)).1 b.1, e _ (okc 1 (by omega)).1 b.2, aa.2⟩
      · rw [if_neg b] at ho; cases ho
  by_cases c9 : a.1.1 = 9
  · rw [if_pos c9] at he
    obtain ⟨l2, e1, e2, e3, al⟩ := bool2 (.inl c9)
    obtain ⟨U, s1, h1, h2⟩ := andE_ok he
    by_cases cc : (U 0 0 0).1 = 1
    · rw [if_pos cc] at h2
      injection h2 with h2 _
      injection h2 with h2
      have := part (by omega) (prT_kd al (by omega)) h1
      rw [e2] at this
      rw [← h2, e1]; exact this
    · rw [if_neg cc] at h2
      have := part (by omega) (prT_kd al (by omega)) h2
      rw [e3] at this
      rw [e1]; exact this
  rw [if_neg c9] at he
  by_cases c10 : a.1.1 = 10
  · rw [if_pos c10] at he
    obtain ⟨l2, e1, e2, e3, al⟩ := bool2 (.inr c10)
    obtain ⟨U, s1, h1, h2⟩ := andE_ok he
    by_cases cc : (U 0 0 0).1 = 0
    · rw [if_pos cc] at h2
      injection h2 with h2 _
      injection h2 with h2
      have := part (by omega) (prT_kd al (by omega)) h1
      rw [e2] at this
      rw [← h2, e1]; exact this
    · rw [if_neg cc] at h2
      have := part (by omega) (prT_kd al (by omega)) h2
      rw [e3] at this
      rw [e1]; exact this
  rw [if_neg c10] at he
  have one : a.1.1 = 11 ∨ a.1.1 = 22 ∨ a.1.1 = 23 → lenT a.2 = 1 ∧ rc = [rgN E.1 (prT a.2 0)] ∧ allP a.2 := by
    intro q
    have aa := ar (by omega)
    have l1 := (ar_len aa.1).2.2.2.2 q
    exact ⟨l1, rc_1 hA l1, aa.2⟩
  by_cases c11 : a.1.1 = 11
  · rw [if_pos c11] at he
    obtain ⟨l1, er, al⟩ := one (.inl c11)
    rw [er] at ho
    simp only at ho
    rw [if_pos c11] at ho
    by_cases b : (rgN E.1 (prT a.2 0)).1 = -2
    · rw [if_pos b] at ho
      injection ho with ho
      obtain ⟨U, s1, h1, h2⟩ := andE_ok he
      injection h2 with h2 _
      injection h2 with h2
      have := VR_bit (part (by omega) (prT_kd al (by omega)) h1) b
      rw [← h2, ← ho]
      exact VR_bool (by omega)
    · rw [if_neg b] at ho; cases ho
  rw [if_neg c11] at he
  by_cases c22 : a.1.1 = 22
  · rw [if_pos c22] at he
    obtain ⟨l1, er, al⟩ := one (.inr (.inl c22))
    rw [er] at ho
    simp only at ho
    rw [if_neg (by omega), if_pos c22] at ho
    by_cases b : (rgN E.1 (prT a.2 0)).1 = -2
    · rw [if_pos b] at ho; cases ho
    · rw [if_neg b] at ho
      injection ho with ho
      obtain ⟨U, s1, h1, h2⟩ := andE_ok he
      injection h2 with h2 _
      injection h2 with h2
      have vU := part (by omega) (prT_kd al (by omega)) h1
      rw [ho] at vU b
      rw [← h2]
      exact ⟨negV_NN moX vU.1, fun q => absurd q b⟩
  rw [if_neg c22] at he
  by_cases c23 : a.1.1 = 23
  · rw [if_pos c23] at he
    obtain ⟨l1, er, al⟩ := one (.inr (.inr c23))
    rw [er] at ho
    simp only at ho
    rw [if_neg (by omega), if_neg (by omega)] at ho
    by_cases b : (rgN E.1 (prT a.2 0)).1 ≠ -2 ∧ a.1.2.2.1 ≤ 12
    · rw [if_pos b] at ho
      injection ho with ho
      obtain ⟨U, s1, h1, h2⟩ := andE_ok he
      injection h2 with h2 _
      have vU := part (by omega) (prT_kd al (by omega)) h1
      rw [ho] at vU b
      exact ⟨pwG_NN moX (ok3_ds x1).1 vU.1.nv _ _ _ (oneV_NN moX (ok3_ds x1).1) h2, fun q => absurd q b.1⟩
    · rw [if_neg b] at ho; cases ho
  rw [if_neg c23] at he
  have cv : a.1.1 = 24 ∨ a.1.1 = 25 → lenT a.2 = 2 ∧ (0 ≤ (prT a.2 0).1.1 ∧ (prT a.2 0).1.1 ≤ 25) := by
    intro q
    rcases w.2.2.2.2.2.2.2.2 with u | u | u | u
    · have := (ar_len u.1); unfold arT at u; omega
    · obtain ⟨-, z, d1, uu, ca, st, e, k1, k2, -⟩ := u
      rw [e]
      refine ⟨?_, k1⟩
      show lenT st + 1 = 2
      cases st with
      | leaf => exact k2.elim
      | inner z2 d2 u2 c2 s2 =>
        have e2 := k2.2
        rw [e2]; rfl
    · omega
    · omega
  by_cases c24 : a.1.1 = 24
  · rw [if_pos c24] at he
    obtain ⟨l2, k0⟩ := cv (.inl c24)
    have er := rc_2 hA l2
    rw [er] at ho
    simp only at ho
    rw [if_pos c24] at ho
    by_cases b : jn (rgN E.1 (prT a.2 0)) (rgN E.1 (prT a.2 1)) = some (rgN E.1 (prT a.2 1))
    · rw [if_pos b] at ho
      injection ho with ho
      rw [ho] at b
      exact evP_VR hV hE wc (by omega) k0 hrc hl x1 x2 b he
    · rw [if_neg b] at ho; cases ho
  rw [if_neg c24] at he
  by_cases c25 : a.1.1 = 25
  · rw [if_pos c25] at he
    obtain ⟨l2, k0⟩ := cv (.inr c25)
    have er := rc_2 hA l2
    rw [er] at ho
    simp only at ho
    rw [if_neg (by omega), if_pos c25] at ho
    by_cases b : jn (rgN E.1 (prT a.2 1)) (rgN E.1 (prT a.2 0)) = some (rgN E.1 (prT a.2 0))
    · rw [if_pos b] at ho
      injection ho with ho
      rw [ho] at b
      obtain ⟨U, s1, h1, h2⟩ := andE_ok he
      injection h2 with h2 _
      have vU := part (by omega) k0 h1
      have o0 := okc 0 (by omega)
      have gv := gs_vals x1 o0.1 b
      have mo0 : MU (muR (rgN E.1 (prT a.2 0)).1 E.2.1) := muR_MU (ok3_b o0.1) o0.2
      unfold backS at h2
      by_cases ob : okB (if (rgN E.1 (prT a.2 0)).1 = x.1 then 0 else 1) (muR (rgN E.1 (prT a.2 0)).1 E.2.1) x.2.1 (rgN E.1 (prT a.2 0)).2.2 x.2.2 U
      · rw [if_pos ob] at h2
        injection h2 with h2
        have nn := backV_NN mo0 (by rcases gv.2.2.1 with e | e; exact .inl e.symm; exact .inr e) (ok3_ds x1).1 (ok3_ds o0.1).1 vU.1 ob
        rw [← h2]
        refine ⟨?_, fun q => ?_⟩
        · by_cases e : (rgN E.1 (prT a.2 0)).1 = x.1
          · rw [if_pos e, if_pos rfl, e] at nn; exact nn
          · rw [if_neg e, if_neg (by decide)] at nn
            have x0 : x.1 = 0 := by
              rcases gv.1 with q | q
              · exact absurd q.symm e
              · exact q.1
            rw [x0, muR_0]; exact nn
        · have e := gv.2.2.2.1 q
          have b0 : (rgN E.1 (prT a.2 0)).1 = -2 := by rw [← e]; exact q
          have := vU.2 b0
          have e3 : (rgN E.1 (prT a.2 0)).2.2 = x.2.2 := by rw [← e]
          have e4 : backV (rgN E.1 (prT a.2 0)).2.2 x.2.2 U 0 0 0 = U 0 0 0 := by
            unfold backV
            rw [if_pos (by decide), if_pos e3]
          rw [e4]; exact this
      · rw [if_neg ob] at h2; cases h2
    · rw [if_neg b] at ho; cases ho
  rw [if_neg c25] at he
  have hk2 : 12 ≤ a.1.1 ∧ a.1.1 ≤ 21 := by omega
  have aa := ar (by omega)
  have al := aa.2
  have l2 := (ar_len aa.1).2.2.2.1 (by omega)
  have er := rc_2 hA l2
  rw [er] at ho
  simp only at ho
  rw [if_neg c24, if_neg c25] at ho
  have o0 := okc 0 (by omega)
  have o1 := okc 1 (by omega)
  obtain ⟨j, hj, t1, t2⟩ := two_cs hk2 o0.1 o1.1 ho
  have jm : okMo j.1 E.2.1 := by
    rcases jn_base hj with e | e
    · rw [e]; exact o0.2
    · rw [e]; exact o1.2
  unfold evTwo at he
  obtain ⟨U, s1, h1, h2⟩ := andE_ok he
  obtain ⟨W, s2, h3, h4⟩ := andE_ok h2
  injection h4 with h4 _
  by_cases c19 : a.1.1 = 19
  · obtain ⟨u1, u2, u3, u4, u5, u6⟩ := t2 c19
    have ej : twJ E.1 a = frac j := by unfold twJ; rw [if_pos c19, eX]; exact u1
    rw [ej] at h1 h3 h4
    rw [if_pos c19] at h3
    have v1 := evP_VR hV hE wc (by omega) (prT_kd al (by omega)) hrc hl (frac_ok u6) (fr_mo jm) u3 h1
    have v2 := evP_VR hV hE wc (by omega) (prT_kd al (by omega)) hrc hl u5 (fr_mo jm) u4 h3
    rw [c19] at h4
    have := binS_VR (op := 22) (frac_ok u6) (fr_mo jm) u2 v1 (by rw [if_pos rfl]; exact v2) h4
    rw [if_neg (by decide)] at this
    rw [u1]; exact this
  · obtain ⟨u1, u2, u3, u4, u5⟩ := t1 c19
    have ej : twJ E.1 a = j := by unfold twJ; rw [if_neg c19, hj]; rfl
    rw [ej] at h1 h3 h4
    rw [if_neg c19] at h3
    have v1 := evP_VR hV hE wc (by omega) (prT_kd al (by omega)) hrc hl u5 jm u2 h1
    have v2 := evP_VR hV hE wc (by omega) (prT_kd al (by omega)) hrc hl u5 jm u3 h3
    have := binS_VR (op := a.1.1 + 3) u5 jm u1 v1 (by rw [if_neg (by omega)]; exact v2) h4
    rw [u4]; exact this
/-- what is worked is of its ring -/
theorem ev_VR : ∀ (m : Nat), VrO F n (ev F m) := by
  intro m
  induction m with
  | zero => intro E a s V s' x _ _ _ _ _ h; injection h with h _; cases h
  | succ m ih =>
    intro E a s V s' x hE hk w wc hx h
    unfold ev at h
    by_cases c : 20000 < s.1 + wtS E.1 a
    · rw [if_pos c] at h; injection h with h _; cases h
    · rw [if_neg c] at h
      exact evK_VR ih E a _ V s' x hE hk w wc hx h
end EVX
