set_option maxRecDepth 100000
/-! the component: code of parts, the other kinds -/
section CGR
variable {F : Int → FnR} {e : JE} {fl b cd p q k : Int} {T : MM → Prop} {Q : Int → MM → Prop} {m m' m1 : MM} {a : PT} {c : TT} {D dep : Nat}
theorem CgS.ring (h : CgS m F e fl b cd p c k) {i : Nat} (hl : i < lenT c) (hr : rgS e (prT c i).1 (prT c i).2 = some (rgN e (prT c i))) : m (b + 6) (nthF m b i k) = encC (rgN e (prT c i)) := by
  obtain ⟨h1, h2, lo, hi, h3, h4⟩ := h
  exact (h4.nth hl).1 _ hr
theorem CgS.end (h : CgS m F e fl b cd p c k) : nthF m b (lenT c) k = -1 := by
  obtain ⟨h1, h2, lo, hi, h3, h4⟩ := h
  exact nthF.end h3
theorem CgS.fld (h : CgS m F e fl b cd p c k) (f : FwC cd p m m') {j i : Int} (hj : j ≤ 16) (hj0 : 0 ≤ j) : m' (b + j) i = m (b + j) i := by
  have tb := tx_b2 h.1.1
  exact f.lo h.1.2.1 (by omega)
theorem CgS.nth (h : CgS m F e fl b cd p c k) (f : FwC cd p m m') (i : Nat) : nthF m' b i k = nthF m b i k := nthF.lo f h.1.1 h.1.2.1 i k
/-- two parts that go to one ring -/
theorem c_twoG {k0 : Int} {d : ND} (hk : 12 ≤ d.1 ∧ d.1 ≤ 21) (hP : PaC F e fl b cd T D c) (hd : D ≤ dep) (hi : lenT c = 2) (hkd : allP c) (h : CgS m F e fl b cd p c k) (kr : 0 ≤ k0 ∧ k0 < 160) (k2 : m (b + 2) k0 = k) (ht : twoS d.1 (rgN e (prT c 0)) (rgN e (prT c 1)) = some (rgN e (d, c))) (k6 : m (b + 6) k0 = encC (rgN e (d, c))) (hl : p + ((cgTwo e c (cgC F e fl c) d p).length : Int) ≤ 1199) (kq : ∀ m', CoS m' b cd (p + ((cgTwo e c (cgC F e fl c) d p).length : Int)) → FwC cd p m m' → CoA m' cd p (cgTwo e c (cgC F e fl c) d p) → Q 0 m') : R_X7_part (dep + 2) 5 [k0, d.1] m Q T := by
  have hb := h.1.1
  have hc := h.1.2.1
  have tb := tx_b2 hb
  have e0 := h.1.2.2.1
  have pp := h.1.2.2.2.2.2.2
  have o0 := (hP.2.1 0 (by omega)).2
  have o1 := (hP.2.1 1 (by omega)).2
  obtain ⟨j, hj, t1, t2⟩ := two_cs hk o0 o1 ht
  have kri : RI d.1 := by constructor <;> omega
  -- the ring of both
  have jo : ok3 (twJ e (d, c)) ∧ (d.1 = 19 → (twJ e (d, c)).1 ≠ -2 ∧ ok3 ((twJ e (d, c)).1, 0, 0)) := by
    unfold twJ
    by_cases c19 : d.1 = 19
    · rw [if_pos c19]
      obtain ⟨u1, u2, u3, u4, u5, u6⟩ := t2 c19
      refine ⟨by rw [u1]; exact frac_ok u6, fun _ => ⟨?_, by rw [u1]; exact u5⟩⟩
      rw [u1]
      rcases u2 with q | q | q | q | q
      · exact absurd q (by decide)
      · exact absurd q.1 (by decide)
      · exact q.2
      · have : okb (frac j).1 := q.2.1
        intro z
        rw [z] at this
        revert this
        unfold okb
        omega
      · exact absurd q.1 (by decide)
    · rw [if_neg c19]
      obtain ⟨u1, u2, u3, u4, u5⟩ := t1 c19
      have : jn (rgN e (prT (d, c).2 0)) (rgN e (prT (d, c).2 1)) = some j := hj
      rw [this]
      exact ⟨u5, fun z => absurd z c19⟩
  unfold cgTwo at hl kq
  generalize hJ : twJ e (d, c) = J at jo hl kq
  have zo : ok3 (if d.1 = 19 then (J.1, 0, 0) else J) := by
    by_cases c19 : d.1 = 19
    · rw [if_pos c19]; exact (jo.2 c19).2
    · rw [if_neg c19]; exact jo.1
  generalize hL0 : cgT e c (cgC F e fl c) J 0 p = L0 at hl kq
  generalize hq : p + (L0.length : Int) = q at hl kq
  generalize hL1 : cgT e c (cgC F e fl c) (if d.1 = 19 then (J.1, 0, 0) else J) 1 q = L1 at hl kq
  have el : p + ((L0 ++ (L1 ++ [(d.1 + 3, encC J, 0)])).length : Int) = q + (L1.length : Int) + 1 := by
    simp only [List.length_append, List.length_cons, List.length_nil]; omega
  rw [el] at hl kq
  have go : P_X7_two_60 (R_X7_part (dep + 1)) Q T k0 d.1 (encC J) m := by
    unfold P_X7_two_60
    rw [e0, k2]
    refine ⟨hb, kr, ?_⟩
    refine c_q2 (i := 0) hP hd (by omega) (prT_kd hkd (by omega)) h jo.1 (by rw [hL0]; omega) (fun m1 S1 F1 C1 => ?_)
    rw [hL0, hq] at S1
    rw [hL0] at C1
    have k2' : m1 (b + 2) k0 = k := by rw [F1.lo hc (by omega)]; exact k2
    rw [S1.1.2.2.1]
    refine ⟨hb, hb, kr, by rw [k2']; exact S1.p0 (by omega), kri, ?_⟩
    have ez : (if d.1 = 19 then iAnd (encC J) (-16) else encC J : Int) = encC (if d.1 = 19 then (J.1, 0, 0) else J) := by
      by_cases c19 : d.1 = 19
      · rw [if_pos c19, if_pos c19]
        have jn := (jo.2 c19).1
        have g := encC_RG jo.1 jn
        have e1 : encC (J.1, 0, 0) = 16 * J.1 := by
          show (if J.1 = -2 then -2 else 16 * J.1 + 4 * 0 + 0 : Int) = _
          rw [if_neg jn]; omega
        rw [iAndM16 ((encC_bd jo.1).2.2 jn) g.ri, e1]
        obtain ⟨g1, g2, g3, g4⟩ := g
        omega
      · rw [if_neg c19, if_neg c19]
    rw [ez, k2']
    refine c_q2 (i := 1) hP hd (by omega) (prT_kd hkd (by omega)) S1 zo (by rw [hL1]; omega) (fun m2 S2 F2 C2 => ?_)
    rw [hL1] at S2 C2
    refine ⟨kri, ?_⟩
    have eop : (if d.1 = 12 then 15 else (if d.1 = 13 then 16 else (if d.1 = 14 then 17 else (if d.1 = 15 then 18 else ((19 + d.1) - 16) : Int) : Int) : Int) : Int) = d.1 + 3 := by
      by_cases c1 : d.1 = 12
      · rw [if_pos c1]; omega
      rw [if_neg c1]
      by_cases c1 : d.1 = 13
      · rw [if_pos c1]; omega
      rw [if_neg c1]
      by_cases c1 : d.1 = 14
      · rw [if_pos c1]; omega
      rw [if_neg c1]
      by_cases c1 : d.1 = 15
      · rw [if_pos c1]; omega
      rw [if_neg c1]; omega
    rw [eop]
    refine c_addI S2.1 (by omega) (fun m3 S3 F3 C3 => ?_)
    refine kq m3 S3 ((F1.trans F2 (by omega)).trans F3 (by omega)) (CoA.app.2 ⟨(C1.keep F2 (by omega)).keep F3 (by omega), ?_⟩)
    rw [hq]
    exact CoA.app.2 ⟨C2.keep F3 (Int.le_refl _), C3⟩
  show W_X7_two (R_X7_part (dep + 1)) k0 d.1 m Q T
  unfold W_X7_two
  rw [e0, k2]
  have p1 := h.p1 (i := 1) (by omega)
  refine ⟨hb, kr, h.p0 (by omega), hb, kr, by rw [k2]; exact h.p0 (by omega), by rw [k2]; exact p1, kri, ?_⟩
  rw [k2]
  by_cases c19 : d.1 = 19
  · rw [if_pos c19, e0]
    refine ⟨hb, ?_⟩
    rw [k6]
    have : twJ e (d, c) = rgN e (d, c) := by unfold twJ; rw [if_pos c19]
    rw [this] at hJ
    rw [hJ]; exact go
  · rw [if_neg c19]
    have r0 : m (b + 6) k = encC (rgN e (prT c 0)) := h.ring (i := 0) (by omega) (hP.2.1 0 (by omega)).1
    have r1 : m (b + 6) (m (b + 3) k) = encC (rgN e (prT c 1)) := h.ring (i := 1) (by omega) (hP.2.1 1 (by omega)).1
    rw [r0, r1]
    refine c_join o0 o1 ?_
    have : twJ e (d, c) = j := by
      unfold twJ; rw [if_neg c19]
      have : jn (rgN e (prT (d, c).2 0)) (rgN e (prT (d, c).2 1)) = some j := hj
      rw [this]; rfl
    rw [hJ] at this
    rw [hj]
    show P_X7_two_60 (R_X7_part (dep + 1)) Q T k0 d.1 (encC j) m
    rw [← this]; exact go
/-- what a built-in function's rings are -/
theorem nd_fun {rc : List R3} {f : Int} {x : R3} (hA : allS (jdS e c).1 = some rc) (ho : fnS f rc = some x) : (lenT c = 1 ∧ ¬ (f = 0 ∨ f = 2 ∨ f = 3) ∧ fn1S f (rgN e (prT c 0)) = some x) ∨ (lenT c = 2 ∧ (f = 0 ∨ f = 2 ∨ f = 3) ∧ fn2S f (rgN e (prT c 0)) (rgN e (prT c 1)) = some x) := by
  have hlen := (rc_at hA).1
  unfold fnS at ho
  by_cases l1 : lenT c = 1
  · rw [rc_1 hA l1] at ho
    simp only at ho
    by_cases cf : f = 0 ∨ f = 2 ∨ f = 3
    · rw [if_pos cf] at ho; cases ho
    · rw [if_neg cf] at ho; exact .inl ⟨l1, cf, ho⟩
  · by_cases l2 : lenT c = 2
    · rw [rc_2 hA l2] at ho
      simp only at ho
      by_cases cf : f = 0 ∨ f = 2 ∨ f = 3
      · rw [if_pos cf] at ho; exact .inr ⟨l2, cf, ho⟩
      · rw [if_neg cf] at ho; cases ho
    · exfalso
      split at ho
      · rw [List.length_cons, List.length_nil] at hlen; omega
      · rw [List.length_cons, List.length_cons, List.length_nil] at hlen; omega
      · cases ho
theorem fn1_nb {f : Int} {a x : R3} (h : fn1S f a = some x) : a.1 ≠ -2 ∧ (f = 8 ∨ f = 9 → x.1 ≠ -2) := by
  unfold fn1S at h
  by_cases c : a.1 = -2
  · rw [if_pos c] at h; cases h
  rw [if_neg c] at h
  refine ⟨c, fun hf => ?_⟩
  rw [if_neg (by omega), if_neg (by omega), if_neg (by omega)] at h
  by_cases c8 : f = 7 ∨ f = 8
  · rw [if_pos c8] at h
    by_cases q : a.2.2 ≠ 0
    · rw [if_pos q] at h; injection h with h; rw [← h]; exact c
    · rw [if_neg q] at h; cases h
  rw [if_neg c8, if_pos (by omega)] at h
  by_cases q : a.2.1 = 0 ∧ (a.1 = 0 ∨ isFb a.1)
  · rw [if_pos q] at h; injection h with h; rw [← h]
    rcases frac_base a with e | e
    · rw [e]; decide
    · rw [e]; exact c
  · rw [if_neg q] at h; cases h
theorem fn2_nb {f : Int} {a b x : R3} (h : fn2S f a b = some x) (hf : f = 0 ∨ f = 3) : x.1 ≠ -2 := by
  unfold fn2S at h
  by_cases c0 : f = 0
  · rw [if_pos c0] at h
    cases hj : jn a b with
    | none => rw [hj] at h; cases h
    | some j =>
      rw [hj] at h
      simp only at h
      by_cases cd : dvds j
      · rw [if_pos cd] at h
        injection h with h
        rw [← h]
        rcases cd with q | q
        · rw [q]; decide
        · exact q.1
      · rw [if_neg cd] at h; cases h
  · rw [if_neg c0] at h
    by_cases q : a.1 = -2 ∨ a.2.2 ≠ 0 ∨ a.2.1 = 0
    · rw [if_pos q] at h; cases h
    rw [if_neg q, if_neg (by omega)] at h
    by_cases q2 : b.1 = -2
    · rw [if_pos q2] at h; cases h
    rw [if_neg q2] at h
    exact jn_nB (by show a.1 ≠ -2; exact fun z => q (.inl z)) h
/-- a built-in function -/
theorem c_funG {k0 : Int} {d : ND} {rc : List R3} (hP : PaC F e fl b cd T D c) (hd : D ≤ dep) (hkd : allP c) (h : CgS m F e fl b cd p c k) (kr : 0 ≤ k0 ∧ k0 < 160) (k2 : m (b + 2) k0 = k) (k4 : m (b + 4) k0 = d.2.2.1) (hv : 0 ≤ d.2.2.1 ∧ d.2.2.1 ≤ 13) (hA : allS (jdS e c).1 = some rc) (ho : fnS d.2.2.1 rc = some (rgN e (d, c))) (hx : ok3 (rgN e (d, c))) (k6 : m (b + 6) k0 = encC (rgN e (d, c))) (hl : p + ((cgFun e c (cgC F e fl c) d p).length : Int) ≤ 1199) (kq : ∀ m', CoS m' b cd (p + ((cgFun e c (cgC F e fl c) d p).length : Int)) → FwC cd p m m' → CoA m' cd p (cgFun e c (cgC F e fl c) d p) → Q 0 m') : R_X7_part (dep + 2) 2 [k0] m Q T := by
  have hb := h.1.1
  have hc := h.1.2.1
  have tb := tx_b2 hb
  have e0 := h.1.2.2.1
  have pp := h.1.2.2.2.2.2.2
  have nf := nd_fun hA ho
  have l0 : 0 < lenT c := by omega
  have r0 : m (b + 6) k = encC (rgN e (prT c 0)) := h.ring (i := 0) l0 (hP.2.1 0 l0).1
  have o0 := (hP.2.1 0 l0).2
  unfold cgFun at hl kq
  generalize hL0 : cgF1 e c (cgC F e fl c) d p = L0 at hl kq
  generalize hq : p + (L0.length : Int) = q at hl kq
  generalize hL1 : cgF2 e c (cgC F e fl c) d q = L1 at hl kq
  have el : p + ((L0 ++ (L1 ++ [(28 + d.2.2.1, encC (fnA d.2.2.1 (rgN e (prT c 0))), encC (rgN e (d, c)))])).length : Int) = q + (L1.length : Int) + 1 := by
    simp only [List.length_append, List.length_cons, List.length_nil]; omega
  rw [el] at hl kq
  -- the last instruction
  have fin : ∀ (m2 : MM) (ra : Int), ra = encC (fnA d.2.2.1 (rgN e (prT c 0))) → CoS m2 b cd (q + (L1.length : Int)) → FwC cd p m m2 → CoA m2 cd p L0 → CoA m2 cd q L1 → P_X7_function_151 (R_X7_part (dep + 1)) Q T d.2.2.1 ra (encC (rgN e (d, c))) m2 := by
    intro m2 ra era S2 F2 C1 C2
    rw [era]
    refine c_addI S2 (by omega) (fun m3 S3 F3 C3 => ?_)
    refine kq m3 S3 (F2.trans F3 (by omega)) (CoA.app.2 ⟨C1.keep F3 (by omega), ?_⟩)
    rw [hq]
    exact CoA.app.2 ⟨C2.keep F3 (Int.le_refl _), C3⟩
  have nxt : ∀ {m2 : MM}, FwC cd p m m2 → m2 (b + 3) k = nthF m2 b 1 k := fun _ => rfl
  show W_X7_function (R_X7_part (dep + 1)) k0 m Q T
  unfold W_X7_function
  rw [e0, k2, k4, k6, r0]
  refine ⟨hb, kr, h.p0 l0, by constructor <;> omega, ?_⟩
  unfold cgF1 at hL0
  unfold cgF2 at hL1
  by_cases f0 : d.2.2.1 = 0
  · rw [if_pos f0]
    rw [if_pos f0] at hL0
    rw [if_pos (.inl f0), if_neg (by omega)] at hL1
    have l2 : lenT c = 2 := by omega
    refine c_q2 (i := 0) hP hd (by omega) (prT_kd hkd (by omega)) h hx (by rw [hL0]; omega) (fun m1 S1 F1 C1 => ?_)
    rw [hL0, hq] at S1
    rw [hL0] at C1
    rw [S1.1.2.2.1]
    refine ⟨hb, ?_⟩
    refine c_q2 (i := 1) hP hd (by omega) (prT_kd hkd (by omega)) S1 hx (by rw [hL1]; omega) (fun m2 S2 F2 C2 => ?_)
    rw [hL1] at S2 C2
    exact fin m2 _ (by unfold fnA; rw [if_neg (by omega)]) S2.1 (F1.trans F2 (by omega)) (C1.keep F2 (by omega)) C2
  rw [if_neg f0]
  rw [if_neg f0] at hL0
  by_cases f3 : d.2.2.1 = 3
  · rw [if_pos f3]
    have ea : fnA d.2.2.1 (rgN e (prT c 0)) = rgN e (prT c 0) := by unfold fnA; rw [if_neg (by omega)]
    rw [ea, cgT_same] at hL0
    rw [if_pos (.inr (.inr f3)), if_neg (by omega)] at hL1
    have l2 : lenT c = 2 := by omega
    refine c_q3 (i := 0) hP (by omega) (by omega) (prT_kd hkd (by omega)) h (by rw [hL0]; omega) (fun m1 S1 F1 C1 => ?_)
    rw [hL0, hq] at S1
    rw [hL0] at C1
    rw [S1.1.2.2.1]
    refine ⟨hb, ?_⟩
    refine c_q2 (i := 1) hP hd (by omega) (prT_kd hkd (by omega)) S1 hx (by rw [hL1]; omega) (fun m2 S2 F2 C2 => ?_)
    rw [hL1] at S2 C2
    exact fin m2 _ (by rw [ea]) S2.1 (F1.trans F2 (by omega)) (C1.keep F2 (by omega)) C2
  rw [if_neg f3]
  have frc : d.2.2.1 = 9 ∨ 11 < d.2.2.1 → P_X7_function_111 (R_X7_part (dep + 1)) Q T d.2.2.1 k (encC (rgN e (prT c 0))) (encC (rgN e (d, c))) m := by
    intro hf
    have a1 : (rgN e (prT c 0)).1 ≠ -2 := by
      rcases nf with w | w
      · exact (fn1_nb w.2.2).1
      · omega
    have ea : fnA d.2.2.1 (rgN e (prT c 0)) = frac (rgN e (prT c 0)) := by unfold fnA; rw [if_pos hf]
    rw [ea] at hL0
    rw [if_neg (by omega)] at hL1
    have eL1 : L1.length = 0 := by rw [← hL1]; rfl
    refine c_fracC o0 a1 ?_
    refine c_q2 (i := 0) hP hd (by omega) (prT_kd hkd (by omega)) h (frac_ok o0) (by rw [hL0]; omega) (fun m1 S1 F1 C1 => ?_)
    rw [hL0, hq] at S1
    rw [hL0] at C1
    have S1' := S1.1
    rw [show q = q + (L1.length : Int) by omega] at S1'
    exact fin m1 _ (by rw [ea]) S1' F1 C1 (by rw [← hL1]; exact CoA.nil)
  by_cases f9 : d.2.2.1 = 9
  · rw [if_pos f9]; exact frc (.inl f9)
  rw [if_neg f9]
  by_cases f11 : d.2.2.1 ≤ 11
  · rw [if_pos f11]
    have ea : fnA d.2.2.1 (rgN e (prT c 0)) = rgN e (prT c 0) := by unfold fnA; rw [if_neg (by omega)]
    rw [ea, cgT_same] at hL0
    refine c_q3 (i := 0) hP (by omega) (by omega) (prT_kd hkd (by omega)) h (by rw [hL0]; omega) (fun m1 S1 F1 C1 => ?_)
    rw [hL0, hq] at S1
    rw [hL0] at C1
    by_cases f2 : d.2.2.1 = 2
    · rw [if_pos f2]
      rw [if_pos (.inr (.inl f2)), if_pos f2, cgT_same] at hL1
      have l2 : lenT c = 2 := by omega
      rw [S1.1.2.2.1]
      refine ⟨hb, ?_⟩
      refine c_q3 (i := 1) hP (by omega) (by omega) (prT_kd hkd (by omega)) S1 (by rw [hL1]; omega) (fun m2 S2 F2 C2 => ?_)
      rw [hL1] at S2 C2
      exact fin m2 _ (by rw [ea]) S2.1 (F1.trans F2 (by omega)) (C1.keep F2 (by omega)) C2
    · rw [if_neg f2]
      rw [if_neg (by omega)] at hL1
      have eL1 : L1.length = 0 := by rw [← hL1]; rfl
      have S1' := S1.1
      rw [show q = q + (L1.length : Int) by omega] at S1'
      exact fin m1 _ (by rw [ea]) S1' F1 C1 (by rw [← hL1]; exact CoA.nil)
  · rw [if_neg f11]
    exact frc (.inr (by omega))
end CGR
