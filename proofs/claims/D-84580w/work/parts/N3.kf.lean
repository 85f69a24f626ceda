set_option maxRecDepth 100000
/-! what is known of a part that is worked, by its kind -/
def Kcall (F : Int → FnR) (n : Int) (E : EVm) (a : PT) (x : R3) (f : Int) (R : Option R3) : Prop := clS E.1 a.1.2.2.2 a.2 = (f, R, x) ∧ (0 ≤ f ∧ f < n) ∧ (F f).2.1 = (lenT a.2 : Int) ∧ okF (F f) ∧ ((R = none → (F f).2.2.1 = 0) ∧ (R ≠ none → (F f).2.2.1 ≠ 0)) ∧ (∀ r, R = some r → ok3 r ∧ r.1 ≠ -2) ∧ (∀ k, 0 ≤ k → k ≤ (F f).2.1 → instS (F f) k R ≠ none) ∧ (∀ i, i < lenT a.2 → ∃ y, instS (F f) ((i : Int) + 1) R = some y ∧ ok3 y ∧ okMo y.1 E.2.1 ∧ gs (rgN E.1 (prT a.2 i)) y) ∧
  ∀ (g : Nat → VV) (cd : Int), (∀ i, i < lenT a.2 → ∀ y, instS (F f) ((i : Int) + 1) R = some y → VR E.2.1 y (g i)) → EvO F n (JEf F f (nrmR R), ownM E.2.1 R, cd, (fun i => g i.toNat), E.2.2.2.2) ∧ ∃ x' z', rgS (JEf F f (nrmR R)) (rootF (F f)).1 (rootF (F f)).2 = some x' ∧ instS (F f) 0 (nrmR R) = some z' ∧ gs x' z' ∧ ok3 x' ∧ ok3 z' ∧ okMo z'.1 (ownM E.2.1 R) ∧ z'.2 = x.2 ∧ rgN (JEf F f (nrmR R)) (rootF (F f)) = x'
def Kf (F : Int → FnR) (n : Int) (E : EVm) (a : PT) (x : R3) : Prop :=
  (okMo x.1 E.2.1 ∧ MU (muR x.1 E.2.1) ∧ ∀ i, i < lenT a.2 → (okN (prT a.2 i).1 (prT a.2 i).2 ∧ wfT (prT a.2 i).2) ∧ okMo (rgN E.1 (prT a.2 i)).1 E.2.1) ∧
  (a.1.1 = 5 → ∃ f R, Kcall F n E a x f R) ∧
  (a.1.1 = 6 → (lenT a.2 = 1 ∧ ¬ (a.1.2.2.1 = 0 ∨ a.1.2.2.1 = 2 ∨ a.1.2.2.1 = 3) ∧ fn1S a.1.2.2.1 (rgN E.1 (prT a.2 0)) = some x ∧ ok3 (fnA a.1.2.2.1 (rgN E.1 (prT a.2 0))) ∧ okMo (fnA a.1.2.2.1 (rgN E.1 (prT a.2 0))).1 E.2.1 ∧ gs (rgN E.1 (prT a.2 0)) (fnA a.1.2.2.1 (rgN E.1 (prT a.2 0)))) ∨ (lenT a.2 = 2 ∧ (a.1.2.2.1 = 0 ∨ a.1.2.2.1 = 2 ∨ a.1.2.2.1 = 3) ∧ fn2S a.1.2.2.1 (rgN E.1 (prT a.2 0)) (rgN E.1 (prT a.2 1)) = some x ∧ fnA a.1.2.2.1 (rgN E.1 (prT a.2 0)) = rgN E.1 (prT a.2 0) ∧ (a.1.2.2.1 = 0 → gs (rgN E.1 (prT a.2 0)) x ∧ gs (rgN E.1 (prT a.2 1)) x) ∧ (a.1.2.2.1 = 3 → gs (rgN E.1 (prT a.2 1)) x))) ∧
  (a.1.1 = 7 → ∀ i, i < lenT a.2 → gs (rgN E.1 (prT a.2 i)) (x.1, x.2.1, 0)) ∧
  (a.1.1 = 8 → gs (rgN E.1 (prT a.2 1)) x ∧ gs (rgN E.1 (prT a.2 2)) x) ∧
  (12 ≤ a.1.1 ∧ a.1.1 ≤ 21 → ok3 (twJ E.1 a) ∧ okMo (twJ E.1 a).1 E.2.1 ∧ ok3 (if a.1.1 = 19 then ((twJ E.1 a).1, 0, 0) else twJ E.1 a) ∧ gs (rgN E.1 (prT a.2 0)) (twJ E.1 a) ∧ gs (rgN E.1 (prT a.2 1)) (if a.1.1 = 19 then ((twJ E.1 a).1, 0, 0) else twJ E.1 a) ∧ opOK (a.1.1 + 3) (twJ E.1 a) ∧ x = (if a.1.1 + 3 ≤ 18 then (-2, 0, 0) else twJ E.1 a))
section KFS
variable {F : Int → FnR} {n : Int} {E : EVm} {a : PT} {x : R3}
theorem gs_tr {u k j : R3} (uo : ok3 u) (ko : ok3 k) (i1 : ok3 j) (ug : gs u k) (i2 : gs k j) : gs u j := by
  have v1 := gs_vals uo ko ug
  have v2 := gs_vals ko i1 i2
  by_cases q : u.1 = -2
  · rw [v1.2.2.2.1 q]; exact i2
  · by_cases q2 : j.1 = -2
    · have e := v2.2.2.2.2 q2
      rw [← e]; exact ug
    · refine gs_of uo i1 q q2 ?_ ?_ ?_
      · rcases v1.1 with e | e
        · rcases v2.1 with e' | e'
          · exact .inl (e.trans e')
          · exact .inr (e.trans e'.1)
        · exact .inr e.1
      · have := v1.2.1; have := v2.2.1; omega
      · rcases v1.2.2.1 with e | e
        · rcases v2.2.2.1 with e' | e'
          · exact .inl (e.trans e')
          · exact .inr (e.trans e')
        · exact .inr e
theorem jnL_gs : ∀ (l : List R3) (b j : R3), ok3 b → (∀ y, y ∈ l → ok3 y) → jnL b l = some j → ok3 j ∧ gs b j ∧ ∀ y, y ∈ l → gs y j := by
  intro l
  induction l with
  | nil => intro b j hb _ h; injection h with h; rw [← h]; exact ⟨hb, jn_self, fun y hy => by cases hy⟩
  | cons c l ih =>
    intro b j hb hl' h
    unfold jnL at h
    cases hk : jn b c with
    | none => rw [hk] at h; cases h
    | some k =>
      rw [hk] at h
      have co := hl' c (by simp)
      have ko := jn_ok hb co hk
      obtain ⟨i1, i2, i3⟩ := ih k j ko (fun y hy => hl' y (List.mem_cons_of_mem _ hy)) h
      have gk := jn_gs hb co hk
      refine ⟨i1, gs_tr hb ko i1 gk.1 i2, fun y hy => ?_⟩
      rcases List.mem_cons.1 hy with rfl | hy
      · exact gs_tr co ko i1 gk.2.1 i2
      · exact i3 y hy
theorem nd_kf (h : EvO F n E) (hk : 0 ≤ a.1.1 ∧ a.1.1 ≤ 25) (w : okN a.1 a.2) (wc : wfT a.2) (hx : rgS E.1 a.1 a.2 = some x) : ∃ rc, Kd F E.1 a x rc ∧ Kf F n E a x := by
  obtain ⟨rc, K⟩ := nd_kd (F := F) h.jok hk w wc hx
  obtain ⟨rc', hA, ho, hlen, ⟨x1, x2, x3⟩, hrc, hl⟩ := ndc h hk w wc hx
  have er : rc' = rc := Option.some.inj (hA.symm.trans K.1.2.2.1)
  subst er
  have okc : ∀ k, k < lenT a.2 → ok3 (rgN E.1 (prT a.2 k)) ∧ okMo (rgN E.1 (prT a.2 k)).1 E.2.1 := fun k hk' => by
    have := hrc _ (List.mem_of_getElem? (hl k hk').2)
    exact ⟨this.1, this.2.1⟩
  refine ⟨rc', K, ⟨x2, muR_MU (ok3_b x1) x2, fun i hi => ⟨prT_wf wc hi, (okc i hi).2⟩⟩, fun c5 => ?_, fun c6 => ?_, fun c7 => ?_, fun c8 => ?_, fun c2 => ?_⟩
  · obtain ⟨al, f, R, e1, hc⟩ := K.2.2.2.1 c5
    obtain ⟨n', hn', ec⟩ := h.call
    have hF := h.1.1
    have hc' := hc
    rw [ec] at hc'
    obtain ⟨m1, m2, m3, m4, m5, m6, m7, ⟨pp, m8⟩, m9⟩ := mtS_ok hn'.1 (fun k k0 k1 => (hF k k0 (by omega)).1) (fun y hy => (hrc y hy).1) hc'
    have Bz := mtS_base (hF.le hn'.2) (fun y hy => (hrc y hy).2.2) hc'
    have Ff := hF f m2.1 (by omega)
    have np : (F f).2.1 = (lenT a.2 : Int) := by rw [m3, hlen]
    have Ff1 := Ff.1.1
    refine ⟨f, R, e1, by omega, np, Ff.1, ⟨fun q => ?_, mtS_rule hc'⟩, m6, m7, fun i il => ?_, fun g cd hg => ?_⟩
    · rcases m5 with u | u
      · exact u.2
      · exact absurd q u.2
    · obtain ⟨y, q1, q2⟩ := prc_gs m8 i (by omega) _ (hl i il).2
      rw [show (1 : Int) + (i : Int) = (i : Int) + 1 by omega] at q1
      have yo := instS_ok Ff.1 (k := (i : Int) + 1) (by omega) m6 q1
      have yb : okMo y.1 E.2.1 := by
        rcases instS_base (Ff.2 ((i : Int) + 1) (by omega) (by omega)) q1 with q | ⟨r, q3, q4⟩
        · exact okMo_lt q
        · rw [← q4]; exact h.mo (Bz.2 r q3)
      exact ⟨y, q1, yo, yb, q2⟩
    · obtain ⟨hE', x', z', q1, q2, q3, q4, q5⟩ := h.callee (g := g) (cd := cd) (fun y hy => (hrc y hy).1) (fun y hy => (hrc y hy).2.2) hc (fun i hi y hy => hg i (by omega) y hy)
      obtain ⟨z'', u1, u2, u3, u4⟩ := inst_nrm (mo := E.2.1) m6 (Ff.2 0 (Int.le_refl _) (by omega)) m4
      have ez : z'' = z' := Option.some.inj (u1.symm.trans q2)
      subst ez
      have rt := (h.1.2 f m2.1 (by omega)).1
      refine ⟨hE', x', z'', q1, q2, q3, rgS_ok hE'.jok rt.2.1 rt.2.2 q1, instS_ok Ff.1 ⟨Int.le_refl _, by omega⟩ (fun r hr => (hE'.R r hr).1) q2, hE'.mo (instS_base (Ff.2 0 (Int.le_refl _) (by omega)) q2), u2, ?_⟩
      unfold rgN; rw [q1]; rfl
  · obtain ⟨al, hfn⟩ := K.2.2.2.2.1 c6
    rcases nd_fun hA hfn with ⟨l1, l2, l3⟩ | ⟨l1, l2, l3⟩
    · have o0 := okc 0 (by omega)
      refine .inl ⟨l1, l2, l3, ?_⟩
      unfold fnA
      by_cases q : a.1.2.2.1 = 9 ∨ 11 < a.1.2.2.1
      · rw [if_pos q]
        exact ⟨frac_ok o0.1, fr_mo o0.2, gs_frac o0.1 o0.1 jn_self⟩
      · rw [if_neg q]; exact ⟨o0.1, o0.2, jn_self⟩
    · have o0 := okc 0 (by omega)
      have o1 := okc 1 (by omega)
      refine .inr ⟨l1, l2, l3, by unfold fnA; rw [if_neg (by omega)], fun q => ?_, fun q => ?_⟩
      · unfold fn2S at l3
        rw [if_pos q] at l3
        cases hj : jn (rgN E.1 (prT a.2 0)) (rgN E.1 (prT a.2 1)) with
        | none => rw [hj] at l3; cases l3
        | some j =>
          rw [hj] at l3
          simp only at l3
          by_cases cd : dvds j
          · rw [if_pos cd] at l3
            injection l3 with l3
            subst l3
            have := jn_gs o0.1 o1.1 hj
            exact ⟨this.1, this.2.1⟩
          · rw [if_neg cd] at l3; cases l3
      · unfold fn2S at l3
        rw [if_neg (by omega)] at l3
        by_cases q1 : (rgN E.1 (prT a.2 0)).1 = -2 ∨ (rgN E.1 (prT a.2 0)).2.2 ≠ 0 ∨ (rgN E.1 (prT a.2 0)).2.1 = 0
        · rw [if_pos q1] at l3; cases l3
        rw [if_neg q1, if_neg (by omega)] at l3
        by_cases q2 : (rgN E.1 (prT a.2 1)).1 = -2
        · rw [if_pos q2] at l3; cases l3
        rw [if_neg q2] at l3
        have oa : ok3 ((rgN E.1 (prT a.2 0)).1, (rgN E.1 (prT a.2 0)).2.1 - 1, 0) := by
          rcases o0.1 with w | w
          · exact absurd (.inl w.1) q1
          · exact .inr ⟨w.1, by show (0 : Int) ≤ (rgN E.1 (prT a.2 0)).2.1 - 1 ∧ (rgN E.1 (prT a.2 0)).2.1 - 1 ≤ 2; omega, by show (0 : Int) ≤ 0 ∧ (0 : Int) ≤ 3; decide⟩
        exact (jn_gs oa o1.1 l3).2.1
  · have c7' : ownS E.1 a.1 rc' = mxS a.1.2.2.1 rc' := by
      unfold ownS
      rw [if_neg (by omega), if_neg (by omega), if_neg (by omega), if_neg (by omega), if_neg (by omega), if_neg (by omega), if_neg (by omega), if_pos c7]
    rw [c7'] at ho
    intro i il
    have mm := List.mem_of_getElem? (hl i il).2
    cases hr : rc' with
    | nil => rw [hr] at mm; cases mm
    | cons b l =>
      rw [hr] at ho mm
      unfold mxS at ho
      simp only at ho
      cases hj : jnL b l with
      | none => rw [hj] at ho; cases ho
      | some j =>
        rw [hj] at ho
        simp only at ho
        by_cases cv : 0 < a.1.2.2.1 ∧ j.1 ≠ -2 ∧ j.2.2 = 0
        · rw [if_pos cv] at ho
          injection ho with ho
          obtain ⟨jo, jb, jl⟩ := jnL_gs l b j (hrc b (by rw [hr]; simp)).1 (fun y hy => (hrc y (by rw [hr]; exact List.mem_cons_of_mem _ hy)).1) hj
          have ej : (x.1, x.2.1, (0 : Int)) = j := by rw [← ho]; exact Prod.ext rfl (Prod.ext rfl cv.2.2.symm)
          rw [ej]
          rcases List.mem_cons.1 mm with e | mm
          · rw [e]; exact jb
          · exact jl _ mm
        · rw [if_neg cv] at ho; cases ho
  · obtain ⟨al, l3, b0, hj⟩ := K.2.2.2.2.2.2.1 c8
    have gg := jn_gs (okc 1 (by omega)).1 (okc 2 (by omega)).1 hj
    exact ⟨gg.1, gg.2.1⟩
  · obtain ⟨al, l2, ht⟩ := K.2.2.2.2.2.2.2.2.2.2.2.2 c2
    have o0 := okc 0 (by omega)
    have o1 := okc 1 (by omega)
    obtain ⟨j, hj, t1, t2⟩ := two_cs c2 o0.1 o1.1 ht
    have jm : okMo j.1 E.2.1 := by
      rcases jn_base hj with e | e
      · rw [e]; exact o0.2
      · rw [e]; exact o1.2
    have eX := K.1.1
    by_cases c19 : a.1.1 = 19
    · obtain ⟨u1, u2, u3, u4, u5, u6⟩ := t2 c19
      have ej : twJ E.1 a = frac j := by unfold twJ; rw [if_pos c19, eX]; exact u1
      rw [ej, if_pos c19]
      exact ⟨frac_ok u6, fr_mo jm, u5, u3, u4, by rw [c19]; exact u2, by rw [if_neg (by omega)]; exact u1⟩
    · obtain ⟨u1, u2, u3, u4, u5⟩ := t1 c19
      have ej : twJ E.1 a = j := by unfold twJ; rw [if_neg c19, hj]; rfl
      rw [ej, if_neg c19]
      exact ⟨u5, jm, u5, u2, u3, u1, u4⟩
end KFS
