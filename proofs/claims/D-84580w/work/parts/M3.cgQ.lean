set_option maxRecDepth 100000
/-! the component: code of parts, kinds without loops -/
/-- the coder stands at p, a chain of parts lies at k -/
def CgS (m : MM) (F : Int → FnR) (e : JE) (fl b cd p : Int) (c : TT) (k : Int) : Prop := CoS m b cd p ∧ CgE m F e fl b ∧ ∃ lo hi, TF m b c lo hi k ∧ AnF m b e c k
def PaC (F : Int → FnR) (e : JE) (fl b cd : Int) (T : MM → Prop) (D : Nat) (c : TT) : Prop := wfT c ∧ (∀ i, i < lenT c → rgS e (prT c i).1 (prT c i).2 = some (rgN e (prT c i)) ∧ ok3 (rgN e (prT c i))) ∧ ∀ i, i < lenT c → (0 ≤ (prT c i).1.1 ∧ (prT c i).1.1 ≤ 25) → ∀ dep, D ≤ dep → PaN F e fl b cd T (R_X7_part dep) (prT c i)
section CGQ
variable {F : Int → FnR} {e : JE} {fl b cd p q k : Int} {T : MM → Prop} {Q : Int → MM → Prop} {m m' m1 : MM} {a : PT} {c : TT} {D dep : Nat}
theorem CgS.nx (h : CgS m F e fl b cd p c k) (S : CoS m' b cd q) (f : FwC cd p m m') : CgS m' F e fl b cd q c k := by
  obtain ⟨h1, h2, lo, hi, h3, h4⟩ := h
  have hb := h1.1
  have hc := h1.2.1
  exact ⟨S, h2.lo f hb hc, lo, hi, h3.lo f hb hc, AnF.lo f hb hc h4⟩
theorem c_q2 {z : R3} {i : Nat} (hP : PaC F e fl b cd T D c) (hd : D ≤ dep) (hi : i < lenT c) (hkd : 0 ≤ (prT c i).1.1 ∧ (prT c i).1.1 ≤ 25) (h : CgS m F e fl b cd p c k) (hz : ok3 z) (hl : p + ((cgT e c (cgC F e fl c) z i p).length : Int) ≤ 1199) (kq : ∀ m', CgS m' F e fl b cd (p + ((cgT e c (cgC F e fl c) z i p).length : Int)) c k → FwC cd p m m' → CoA m' cd p (cgT e c (cgC F e fl c) z i p) → Q 0 m') : R_X7_part (dep + 1) 4 [nthF m b i k, encC z] m Q T := by
  have h0 := h
  obtain ⟨h1, h2, lo, hi', h3, h4⟩ := h
  exact c_part2i (hP.2.2 i hi hkd dep hd) hi h1 h2 h3 h4 (by rw [(hP.2.1 i hi).1]; exact fun z => by cases z) hP.1 hz hl (fun m' S f C => kq m' (h0.nx S f) f C)
theorem c_q3 {i : Nat} (hP : PaC F e fl b cd T D c) (hd : D ≤ dep) (hi : i < lenT c) (hkd : 0 ≤ (prT c i).1.1 ∧ (prT c i).1.1 ≤ 25) (h : CgS m F e fl b cd p c k) (hl : p + ((cgC F e fl c i p).length : Int) ≤ 1199) (kq : ∀ m', CgS m' F e fl b cd (p + ((cgC F e fl c i p).length : Int)) c k → FwC cd p m m' → CoA m' cd p (cgC F e fl c i p) → Q 0 m') : R_X7_part dep 3 [nthF m b i k] m Q T := by
  have h0 := h
  obtain ⟨h1, h2, lo, hi', h3, h4⟩ := h
  exact c_part3i (hP.2.2 i hi hkd dep hd) hi h1 h2 h3 h4 (by rw [(hP.2.1 i hi).1]; exact fun z => by cases z) hl (fun m' S f C => kq m' (h0.nx S f) f C)
theorem cgTn_same {x : R3} : cgTn x x = [] := if_pos rfl
/-- a part, as it is -/
theorem cgT_same {i : Nat} : cgT e c (cgC F e fl c) (rgN e (prT c i)) i p = cgC F e fl c i p := by
  unfold cgT; rw [cgTn_same, List.append_nil]
/-- a jump's goal is put in -/
theorem c_patch {op x y j v : Int} {l0 : List Ins} (S : CoS m b cd q) (C : CoA m cd j [(op, x, y)]) (e1 : m' = up m (cd + 2) j v) : CoS m' b cd q ∧ CoA m' cd j [(op, v, y)] ∧ (∀ p, p ≤ j → FwC cd p m m') ∧ ∀ (p : Int) (l : List Ins), (p + (l.length : Int) ≤ j ∨ j < p) → CoA m cd p l → CoA m' cd p l := by
  have cb := cd_b S.2.1
  obtain ⟨h1, h2, h3, h4, h5, h6, h7⟩ := S
  have ne : ∀ c i, ¬ (c = cd + 2 ∧ i = j) → m' c i = m c i := fun c i z => by rw [e1, up_ne (by omega)]
  refine ⟨⟨h1, h2, by rw [ne _ _ (by omega)]; exact h3, by rw [ne _ _ (by omega)]; exact h4, by rw [ne _ _ (by omega)]; exact h5, by rw [ne _ _ (by omega)]; exact h6, h7⟩, ?_, fun p hp c i z z' => ne c i (fun w => z ⟨by omega, by omega⟩), fun p l hl C => C.fr (fun c i _ z1 z2 => ne c i (by omega))⟩
  have := (CoA.cons.1 C).1
  exact CoA.cons.2 ⟨⟨by rw [ne _ _ (by omega)]; exact this.1, by rw [e1, up_at], by rw [ne _ _ (by omega)]; exact this.2.2⟩, CoA.nil⟩
/-- the node at k, of which the parts are spoken -/
def NdQ (m : MM) (b : Int) (a : PT) (k : Int) : Prop := (0 ≤ k ∧ k < 160) ∧ m (b + 1) k = a.1.1 ∧ m (b + 4) k = a.1.2.2.1
theorem NdQ.nx (h : NdQ m b a k) (f : FwC cd p m m') (hb : isTx b) (hc : isCd cd) : NdQ m' b a k := by
  have tb := tx_b2 hb
  exact ⟨h.1, by rw [f.lo hc (by omega)]; exact h.2.1, by rw [f.lo hc (by omega)]; exact h.2.2⟩
theorem CgS.p0 (h : CgS m F e fl b cd p c k) (hl : 0 < lenT c) : 0 ≤ k ∧ k < 160 := by
  obtain ⟨h1, h2, lo, hi, h3, h4⟩ := h
  obtain ⟨lo', hi', t⟩ := h3.nth hl
  have r := t.rng
  have : nthF m b 0 k = k := rfl
  omega
theorem CgS.p1 (h : CgS m F e fl b cd p c k) {i : Nat} (hl : i < lenT c) : 0 ≤ nthF m b i k ∧ nthF m b i k < 160 := by
  obtain ⟨h1, h2, lo, hi, h3, h4⟩ := h
  obtain ⟨lo', hi', t⟩ := h3.nth hl
  have r := t.rng
  omega
/-- or, and -/
theorem c_boolG {op k0 x2 : Int} (hop : (if x2 = 9 then 12 else 13 : Int) = op) (hx2 : RI x2) (hP : PaC F e fl b cd T D c) (hd : D ≤ dep) (hi : lenT c = 2) (hkd : allP c) (h : CgS m F e fl b cd p c k) (kr : 0 ≤ k0 ∧ k0 < 160) (k2 : m (b + 2) k0 = k) (hl : p + ((cgBool (cgC F e fl c) op p).length : Int) ≤ 1199) (kq : ∀ m', CoS m' b cd (p + ((cgBool (cgC F e fl c) op p).length : Int)) → FwC cd p m m' → CoA m' cd p (cgBool (cgC F e fl c) op p) → Q 0 m') : P_X7_part_381 (R_X7_part dep) Q T k0 x2 m := by
  have hb := h.1.1
  have hc := h.1.2.1
  have tb := tx_b2 hb
  have e0 := h.1.2.2.1
  unfold cgBool at hl kq
  generalize hL0 : cgC F e fl c 0 p = L0 at hl kq
  generalize hq : p + (L0.length : Int) + 1 = q at hl kq
  generalize hL1 : cgC F e fl c 1 q = L1 at hl kq
  have el : p + ((L0 ++ (op, q + (L1.length : Int), 0) :: L1).length : Int) = q + (L1.length : Int) := by
    simp only [List.length_append, List.length_cons]; omega
  rw [el] at hl kq
  unfold P_X7_part_381
  rw [e0, k2]
  refine ⟨hb, kr, ?_⟩
  refine c_q3 (i := 0) hP hd (by omega) (prT_kd hkd (by omega)) h (by rw [hL0]; omega) (fun m1 S1 F1 C1 => ?_)
  rw [hL0] at S1 C1
  refine ⟨hx2, ?_⟩
  rw [hop, S1.1.2.2.2.1]
  refine ⟨hc, c_insC S1.1 (by omega) (fun m2 S2 F2 C2 => ?_)⟩
  have G2 := S1.nx S2 F2
  have k2' : m2 (b + 2) k0 = k := by rw [F2.lo hc (by omega), F1.lo hc (by omega)]; exact k2
  rw [S2.2.2.1]
  refine ⟨hb, hb, kr, by rw [k2']; exact G2.p0 (by omega), ?_⟩
  rw [k2']
  rw [hq] at S2 G2
  refine c_q3 (i := 1) hP hd (by omega) (prT_kd hkd (by omega)) G2 (by rw [hL1]; omega) (fun m3 S3 F3 C3 => ?_)
  rw [hL1] at S3 C3
  rw [S3.1.2.2.2.1, S3.1.2.2.2.2.2.1]
  refine ⟨hc, by have := h.1.2.2.2.2.2.2; omega, ?_⟩
  intro m4 e4
  obtain ⟨S4, C4, F4, K4⟩ := c_patch (l0 := []) S3.1 (C2.keep F3 (by rw [List.length_singleton]; omega)) e4
  have pp := h.1.2.2.2.2.2.2
  refine kq m4 S4 ?_ ?_
  · exact ((F1.trans F2 (by omega)).trans F3 (by omega)).trans (F4 _ (Int.le_refl _)) (by omega)
  · refine CoA.app.2 ⟨K4 _ _ (.inl (Int.le_refl _)) ((C1.keep F2 (Int.le_refl _)).keep F3 (by omega)), CoA.cons.2 ⟨(CoA.cons.1 C4).1, ?_⟩⟩
    rw [hq]
    exact K4 _ _ (.inr (by omega)) C3
/-- not, minus -/
theorem c_oneG {op k0 x2 x3 : Int} (hop : (if x2 = 11 then 14 else 25 : Int) = op) (hx2 : RI x2) (hP : PaC F e fl b cd T D c) (hd : D ≤ dep) (hi : lenT c = 1) (hkd : allP c) (h : CgS m F e fl b cd p c k) (kr : 0 ≤ k0 ∧ k0 < 160) (k2 : m (b + 2) k0 = k) (hl : p + ((cgC F e fl c 0 p ++ [(op, x3, 0)]).length : Int) ≤ 1199) (kq : ∀ m', CoS m' b cd (p + ((cgC F e fl c 0 p ++ [(op, x3, 0)]).length : Int)) → FwC cd p m m' → CoA m' cd p (cgC F e fl c 0 p ++ [(op, x3, 0)]) → Q 0 m') : P_X7_part_450 (R_X7_part dep) Q T k0 x2 x3 m := by
  have hb := h.1.1
  have hc := h.1.2.1
  have e0 := h.1.2.2.1
  have el : p + ((cgC F e fl c 0 p ++ [(op, x3, 0)]).length : Int) = p + ((cgC F e fl c 0 p).length : Int) + 1 := by
    simp only [List.length_append, List.length_cons, List.length_nil]; omega
  rw [el] at hl kq
  unfold P_X7_part_450
  rw [e0, k2]
  refine ⟨hb, kr, ?_⟩
  refine c_q3 (i := 0) hP hd (by omega) (prT_kd hkd (by omega)) h (by omega) (fun m1 S1 F1 C1 => ?_)
  refine ⟨hx2, ?_⟩
  rw [hop]
  refine c_addI S1.1 (by omega) (fun m2 S2 F2 C2 => ?_)
  exact kq m2 S2 (F1.trans F2 (by omega)) (CoA.app.2 ⟨C1.keep F2 (Int.le_refl _), C2⟩)
/-- choice -/
theorem c_choiceG {k0 : Int} {d : ND} {x : R3} (hP : PaC F e fl b cd T D c) (hd : D ≤ dep) (hi : lenT c = 3) (hkd : allP c) (h : CgS m F e fl b cd p c k) (kr : 0 ≤ k0 ∧ k0 < 160) (k2 : m (b + 2) k0 = k) (hx : ok3 (rgN e (d, c))) (k6 : m (b + 6) k0 = encC (rgN e (d, c))) (hl : p + ((cgIf e c (cgC F e fl c) d p).length : Int) ≤ 1199) (kq : ∀ m', CoS m' b cd (p + ((cgIf e c (cgC F e fl c) d p).length : Int)) → FwC cd p m m' → CoA m' cd p (cgIf e c (cgC F e fl c) d p) → Q 0 m') : R_X7_part (dep + 2) 1 [k0] m Q T := by
  have hb := h.1.1
  have hc := h.1.2.1
  have tb := tx_b2 hb
  have e0 := h.1.2.2.1
  unfold cgIf at hl kq
  generalize hL0 : cgC F e fl c 0 p = L0 at hl kq
  generalize hq : p + (L0.length : Int) + 1 = q at hl kq
  generalize hL1 : cgT e c (cgC F e fl c) (rgN e (d, c)) 1 q = L1 at hl kq
  generalize hr : q + (L1.length : Int) + 1 = r at hl kq
  generalize hL2 : cgT e c (cgC F e fl c) (rgN e (d, c)) 2 r = L2 at hl kq
  have el : p + ((L0 ++ (11, r, 0) :: (L1 ++ (10, r + (L2.length : Int), 0) :: L2)).length : Int) = r + (L2.length : Int) := by
    simp only [List.length_append, List.length_cons]; omega
  rw [el] at hl kq
  have pp := h.1.2.2.2.2.2.2
  show W_X7_choice (R_X7_part (dep + 1)) k0 m Q T
  unfold W_X7_choice
  rw [e0, k2]
  refine ⟨hb, kr, ?_⟩
  refine c_q3 (i := 0) hP (by omega) (by omega) (prT_kd hkd (by omega)) h (by rw [hL0]; omega) (fun m1 S1 F1 C1 => ?_)
  rw [hL0] at S1 C1
  rw [S1.1.2.2.2.1]
  refine ⟨hc, c_insC S1.1 (by omega) (fun m2 S2 F2 C2 => ?_)⟩
  have G2 := S1.nx S2 F2
  have k2' : m2 (b + 2) k0 = k := by rw [F2.lo hc (by omega), F1.lo hc (by omega)]; exact k2
  have k6' : m2 (b + 6) k0 = encC (rgN e (d, c)) := by rw [F2.lo hc (by omega), F1.lo hc (by omega)]; exact k6
  rw [S2.2.2.1]
  refine ⟨hb, hb, kr, by rw [k2']; exact G2.p0 (by omega), ?_⟩
  refine ⟨by rw [S2.2.2.1]; exact hb, ?_⟩
  rw [S2.2.2.1, k2', k6']
  rw [hq] at S2 G2
  refine c_q2 (i := 1) hP (by omega) (by omega) (prT_kd hkd (by omega)) G2 hx (by rw [hL1]; omega) (fun m3 S3 F3 C3 => ?_)
  rw [hL1] at S3 C3
  rw [S3.1.2.2.2.1]
  refine ⟨hc, c_insC S3.1 (by omega) (fun m4 S4 F4 C4 => ?_)⟩
  have G4 := S3.nx S4 F4
  rw [hr] at S4 G4
  rw [S4.2.2.2.1, S4.2.2.2.2.2.1]
  refine ⟨hc, by omega, ?_⟩
  intro m5 e5
  obtain ⟨S5, C5, F5, K5⟩ := c_patch (l0 := []) S4 ((C2.keep F3 (by rw [List.length_singleton]; omega)).keep F4 (by rw [List.length_singleton]; omega)) e5
  have k2'' : m5 (b + 2) k0 = k := by rw [(F5 _ (Int.le_refl _)).lo hc (by omega), F4.lo hc (by omega), F3.lo hc (by omega)]; exact k2'
  have k6'' : m5 (b + 6) k0 = encC (rgN e (d, c)) := by rw [(F5 _ (Int.le_refl _)).lo hc (by omega), F4.lo hc (by omega), F3.lo hc (by omega)]; exact k6'
  have G5 : CgS m5 F e fl b cd r c k := by
    obtain ⟨g1, g2, lo, hi, g3, g4⟩ := G4
    exact ⟨S5, g2.lo (F5 _ (Int.le_refl _)) hb hc, lo, hi, g3.lo (F5 _ (Int.le_refl _)) hb hc, AnF.lo (F5 _ (Int.le_refl _)) hb hc g4⟩
  rw [S5.2.2.1]
  refine ⟨hb, hb, kr, by rw [k2'']; exact G5.p0 (by omega), by rw [k2'']; exact G5.p1 (i := 1) (by omega), ?_⟩
  refine ⟨by rw [S5.2.2.1]; exact hb, ?_⟩
  rw [S5.2.2.1, k2'', k6'']
  refine c_q2 (i := 2) hP (by omega) (by omega) (prT_kd hkd (by omega)) G5 hx (by rw [hL2]; omega) (fun m6 S6 F6 C6 => ?_)
  rw [hL2] at S6 C6
  rw [S6.1.2.2.2.1, S6.1.2.2.2.2.2.1]
  refine ⟨hc, by omega, ?_⟩
  intro m7 e7
  have C4' : CoA m5 cd (q + (L1.length : Int)) [(10, 0, 0)] := K5 _ _ (.inr (by omega)) C4
  obtain ⟨S7, C7, F7, K7⟩ := c_patch (l0 := []) S6.1 (C4'.keep F6 (by rw [List.length_singleton]; omega)) e7
  refine kq m7 S7 ?_ ?_
  · exact ((((((F1.trans F2 (by omega)).trans F3 (by omega)).trans F4 (by omega)).trans (F5 _ (Int.le_refl _)) (by omega)).trans F6 (by omega)).trans (F7 _ (Int.le_refl _)) (by omega))
  · have a0 : CoA m4 cd p L0 := ((C1.keep F2 (Int.le_refl _)).keep F3 (by omega)).keep F4 (by omega)
    have a1 : CoA m4 cd q L1 := C3.keep F4 (Int.le_refl _)
    have b0 := (K5 _ _ (.inl (Int.le_refl _)) a0).keep F6 (by omega)
    have b1 := (K5 _ _ (.inr (by omega)) a1).keep F6 (by omega)
    have c5 := C5.keep F6 (by rw [List.length_singleton]; omega)
    refine CoA.app.2 ⟨K7 _ _ (.inl (by omega)) b0, CoA.cons.2 ⟨(CoA.cons.1 (K7 _ _ (.inl (by rw [List.length_singleton]; omega)) c5)).1, ?_⟩⟩
    rw [hq]
    refine CoA.app.2 ⟨K7 _ _ (.inl (Int.le_refl _)) b1, CoA.cons.2 ⟨(CoA.cons.1 C7).1, ?_⟩⟩
    rw [hr]
    exact K7 _ _ (.inr (by omega)) C6
end CGQ
