set_option maxRecDepth 100000
/-! the component: code of calls, of matrices; one part, all parts -/
section CGL
variable {F : Int → FnR} {e : JE} {fl b cd p q k : Int} {T : MM → Prop} {Q : Int → MM → Prop} {m m' m1 : MM} {a : PT} {c : TT} {D dep : Nat}
/-- the parts of a call -/
theorem c_callL {k0 f : Int} {R : Option R3} (hP : PaC F e fl b cd T D c) (hd : D ≤ dep) (hkd : allP c) (kr : 0 ≤ k0 ∧ k0 < 160) (hf : 0 ≤ f ∧ f < 21) (hR : ∀ x, R = some x → ok3 x ∧ x.1 ≠ -2) (hn : R = none → (F f).2.2.1 = 0) (hF : okF (F f)) (hlen : (F f).2.1 = (lenT c : Int)) (hI : ∀ j, 0 ≤ j → j ≤ (F f).2.1 → instS (F f) j R ≠ none) : ∀ (j i : Nat) (m : MM) (p : Int) (Q : Int → MM → Prop), i + j = lenT c → CgS m F e fl b cd p c k → (m (b + 7) k0 = f ∧ TXh m (8 + 17 * f) (F f)) → p + ((cgN (fun k => cgT e c (cgC F e fl c) ((instS (F f) ((k : Int) + 1) R).getD (0, 0, 0)) k) j i p ++ [(8, f, encO R)]).length : Int) ≤ 1199 → (∀ m', CoS m' b cd (p + ((cgN (fun k => cgT e c (cgC F e fl c) ((instS (F f) ((k : Int) + 1) R).getD (0, 0, 0)) k) j i p ++ [(8, f, encO R)]).length : Int)) → FwC cd p m m' → CoA m' cd p (cgN (fun k => cgT e c (cgC F e fl c) ((instS (F f) ((k : Int) + 1) R).getD (0, 0, 0)) k) j i p ++ [(8, f, encO R)]) → Q 0 m') → ∀ r, j ≤ r → P_X7_call_42 (R_X7_part (dep + 1)) Q T (r + 1) k0 (8 + 17 * f) ((i : Int) + 1) (encO R) (nthF m b i k) m := by
  intro j
  induction j with
  | zero =>
    intro i m p Q hij h hm hl kq r hr
    have hb := h.1.1
    have en : nthF m b i k = -1 := by rw [show i = lenT c by omega]; exact h.end
    rw [en]
    refine ⟨by constructor <;> decide, ?_⟩
    rw [if_pos rfl]
    unfold P_X7_call_79
    rw [h.1.2.2.1, hm.1]
    refine ⟨hb, kr, c_addI h.1 ?_ (fun m2 S2 F2 C2 => kq m2 S2 F2 C2)⟩
    have hl : p + (([(8, f, encO R)] : List Ins).length : Int) ≤ 1199 := hl
    rw [List.length_singleton] at hl
    omega
  | succ j ih =>
    intro i m p Q hij h hm hl kq r hr
    have hb := h.1.1
    have hc := h.1.2.1
    have tb := tx_b2 hb
    have p1 := h.p1 (i := i) (by omega)
    have pp := h.1.2.2.2.2.2.2
    obtain ⟨r', rfl⟩ : ∃ r', r = r' + 1 := ⟨r - 1, by omega⟩
    refine ⟨by constructor <;> omega, ?_⟩
    rw [if_neg (by omega)]
    refine c_ringC (isTx_k hf) hF hm.2 (by omega) hR hn ?_
    cases hz : instS (F f) ((i : Int) + 1) R with
    | none => exact absurd hz (hI _ (by omega) (by omega))
    | some z =>
      have zo := instS_ok hF (k := (i : Int) + 1) (by omega) hR hz
      rw [cgN_len0] at hl kq
      simp only [hz, Option.getD_some] at hl kq
      generalize hL0 : cgT e c (cgC F e fl c) z i p = L0 at hl kq
      have ih' := ih (i + 1)
      generalize hL1 : cgN (fun k => cgT e c (cgC F e fl c) ((instS (F f) ((k : Int) + 1) R).getD (0, 0, 0)) k) j (i + 1) (p + (L0.length : Int)) = L1 at hl kq
      rw [List.append_assoc] at hl kq
      have el : p + ((L0 ++ (L1 ++ [(8, f, encO R)])).length : Int) = p + (L0.length : Int) + ((L1 ++ [(8, f, encO R)]).length : Int) := by
        rw [List.length_append]; omega
      rw [el] at hl kq
      refine c_q2 hP hd (by omega) (prT_kd hkd (by omega)) h zo (by rw [hL0]; omega) (fun m2 S2 F2 C2 => ?_)
      rw [hL0] at S2 C2
      rw [S2.1.2.2.1]
      refine ⟨hb, p1, ?_⟩
      have en : m2 (b + 3) (nthF m b i k) = nthF m2 b (i + 1) k := by rw [nthF.nx, h.nth F2]
      rw [en, show ((i : Int) + 1 + 1) = (((i + 1 : Nat) : Int) + 1) by omega]
      have tf := tx_b2 (isTx_k hf)
      refine ih' m2 (p + (L0.length : Int)) Q (by omega) S2 ⟨by rw [F2.lo hc (by omega)]; exact hm.1, hm.2.fr (isTx_k hf) (fun c i z => F2.lo hc (by omega))⟩ (by rw [hL1]; omega) (fun m3 S3 F3 C3 => ?_) r' (by omega)
      rw [hL1] at S3 C3
      exact kq m3 S3 (F2.trans F3 (by omega)) (CoA.app.2 ⟨C2.keep F3 (Int.le_refl _), C3⟩)
/-- the parts of a matrix -/
theorem c_matL {x : R3} (hP : PaC F e fl b cd T D c) (hd : D ≤ dep) (hkd : allP c) (hx : ok3 x) (xb : x.1 ≠ -2) (hz : ok3 (x.1, x.2.1, 0)) : ∀ (j i : Nat) (m : MM) (p : Int) (Q : Int → MM → Prop), i + j = lenT c → CgS m F e fl b cd p c k → p + ((cgN (fun k => cgT e c (cgC F e fl c) (x.1, x.2.1, 0) k) j i p ++ [(27, encC x, 0)]).length : Int) ≤ 1199 → (∀ m', CoS m' b cd (p + ((cgN (fun k => cgT e c (cgC F e fl c) (x.1, x.2.1, 0) k) j i p ++ [(27, encC x, 0)]).length : Int)) → FwC cd p m m' → CoA m' cd p (cgN (fun k => cgT e c (cgC F e fl c) (x.1, x.2.1, 0) k) j i p ++ [(27, encC x, 0)]) → Q 0 m') → ∀ r, j ≤ r → P_X7_part_331 (R_X7_part (dep + 1)) Q T (r + 1) (encC x) (nthF m b i k) m := by
  intro j
  induction j with
  | zero =>
    intro i m p Q hij h hl kq r hr
    have en : nthF m b i k = -1 := by rw [show i = lenT c by omega]; exact h.end
    rw [en]
    refine ⟨by constructor <;> decide, ?_⟩
    rw [if_pos rfl]
    refine c_addI h.1 ?_ (fun m2 S2 F2 C2 => kq m2 S2 F2 C2)
    have hl : p + (([(27, encC x, 0)] : List Ins).length : Int) ≤ 1199 := hl
    rw [List.length_singleton] at hl
    omega
  | succ j ih =>
    intro i m p Q hij h hl kq r hr
    have hb := h.1.1
    have hc := h.1.2.1
    have p1 := h.p1 (i := i) (by omega)
    have pp := h.1.2.2.2.2.2.2
    obtain ⟨r', rfl⟩ : ∃ r', r = r' + 1 := ⟨r - 1, by omega⟩
    refine ⟨by constructor <;> omega, ?_⟩
    rw [if_neg (by omega)]
    refine c_plain (encC_RG hx xb) ?_
    have ez : 16 * x.1 + 4 * x.2.1 = encC (x.1, x.2.1, 0) := by
      show _ = (if x.1 = -2 then -2 else 16 * x.1 + 4 * x.2.1 + 0 : Int)
      rw [if_neg xb]; omega
    rw [ez]
    rw [cgN_len0] at hl kq
    generalize hL0 : cgT e c (cgC F e fl c) (x.1, x.2.1, 0) i p = L0 at hl kq
    have ih' := ih (i + 1)
    generalize hL1 : cgN (fun k => cgT e c (cgC F e fl c) (x.1, x.2.1, 0) k) j (i + 1) (p + (L0.length : Int)) = L1 at hl kq
    rw [List.append_assoc] at hl kq
    have el : p + ((L0 ++ (L1 ++ [(27, encC x, 0)])).length : Int) = p + (L0.length : Int) + ((L1 ++ [(27, encC x, 0)]).length : Int) := by
      rw [List.length_append]; omega
    rw [el] at hl kq
    refine c_q2 hP hd (by omega) (prT_kd hkd (by omega)) h hz (by rw [hL0]; omega) (fun m2 S2 F2 C2 => ?_)
    rw [hL0] at S2 C2
    rw [S2.1.2.2.1]
    refine ⟨hb, p1, ?_⟩
    have en : m2 (b + 3) (nthF m b i k) = nthF m2 b (i + 1) k := by rw [nthF.nx, h.nth F2]
    rw [en]
    refine ih' m2 (p + (L0.length : Int)) Q (by omega) S2 (by rw [hL1]; omega) (fun m3 S3 F3 C3 => ?_) r' (by omega)
    rw [hL1] at S3 C3
    exact kq m3 S3 (F2.trans F3 (by omega)) (CoA.app.2 ⟨C2.keep F3 (Int.le_refl _), C3⟩)
theorem wtR_bd {x : R3} (h : ok3 x) : 1 ≤ wtR x ∧ wtR x ≤ 441 := by
  have ds := ok3_ds h
  unfold wtR
  have hs : x.2.2 = 0 ∨ x.2.2 = 1 ∨ x.2.2 = 2 ∨ x.2.2 = 3 := by omega
  have hd : x.2.1 = 0 ∨ x.2.1 = 1 ∨ x.2.1 = 2 := by omega
  rcases hs with e | e | e | e <;> rw [e] <;> rcases hd with e | e | e <;> rw [e] <;> decide
/-- its steps -/
theorem c_wtG {rec : RecT} {x : R3} {rc : List R3} (K : Kd F e a x rc) (w : okN a.1 a.2) (hk : 0 ≤ a.1.1 ∧ a.1.1 ≤ 25) (e0 : m 377 0 = b) (hb : isTx b) (kr : 0 ≤ k ∧ k < 160) (k1 : m (b + 1) k = a.1.1) (k4 : m (b + 4) k = a.1.2.2.1) (k6 : m (b + 6) k = encC x) (kc : a.1.1 = 6 → (0 ≤ m (b + 2) k ∧ m (b + 2) k < 160) ∧ m (b + 6) (m (b + 2) k) = encC (rgN e (prT a.2 0))) (go : P_X7_part_87 rec Q T k a.1.1 (encC x) (wtS e a) m) : W_X7_part rec k m Q T := by
  obtain ⟨⟨eX, xo, hA, hl⟩, K3, K4, K5, K6, K7, K8, K9, K11, K22, K24, K25, K12⟩ := K
  have vb := w.2.1
  unfold W_X7_part
  rw [e0, k1, k6]
  refine ⟨hb, kr, by constructor <;> omega, ?_⟩
  unfold wtS at go
  rw [eX] at go
  have nb2 : a.1.1 = 18 ∨ a.1.1 = 20 ∨ a.1.1 = 21 → x.1 ≠ -2 := by
    intro q
    obtain ⟨-, l2, ht⟩ := K12 (by omega)
    unfold twoS at ht
    cases hj : jn (rgN e (prT a.2 0)) (rgN e (prT a.2 1)) with
    | none => rw [hj] at ht; cases ht
    | some j =>
      rw [hj] at ht
      simp only at ht
      rw [if_neg (by omega), if_neg (by omega), if_neg (by omega), if_neg (by omega)] at ht
      by_cases c2 : a.1.1 = 20 ∨ a.1.1 = 21
      · rw [if_pos c2] at ht
        by_cases cd : dvds j
        · rw [if_pos cd] at ht
          injection ht with ht
          rw [← ht]
          rcases cd with q | q
          · rw [q]; decide
          · exact q.1
        · rw [if_neg cd] at ht; cases ht
      · rw [if_neg c2] at ht
        by_cases c3 : j.1 = -2
        · rw [if_pos c3] at ht; cases ht
        · rw [if_neg c3] at ht; injection ht with ht; rw [← ht]; exact c3
  by_cases c2 : a.1.1 = 18 ∨ a.1.1 = 20 ∨ a.1.1 = 21
  · rw [if_pos c2] at go
    have h38 : P_X7_part_38 rec Q T k a.1.1 (encC x) m := c_weightI xo (nb2 c2) go
    by_cases d1 : a.1.1 = 18
    · rw [if_pos d1]; exact h38
    rw [if_neg d1]
    by_cases d1 : a.1.1 = 20
    · rw [if_pos d1]; exact h38
    rw [if_neg d1, if_pos (by omega)]; exact h38
  rw [if_neg c2] at go
  rw [if_neg (by omega), if_neg (by omega), if_neg (by omega)]
  by_cases c23 : a.1.1 = 23
  · rw [if_pos c23] at go ⊢
    have q := K22 (.inr c23)
    have wb := wtR_bd xo
    refine c_weightI xo q.2.2.2.1 ?_
    rw [e0, k4]
    refine ⟨hb, c_max (by decide) (by constructor <;> omega) go⟩
  rw [if_neg c23] at go ⊢
  by_cases c6 : a.1.1 = 6
  · rw [if_pos c6] at go ⊢
    obtain ⟨kb, k6'⟩ := kc c6
    have nf := nd_fun hA (K6 c6).2
    unfold P_X7_heavy
    rw [e0, k4, k6']
    refine ⟨hb, kr, kb, by constructor <;> omega, ?_⟩
    have heavy : (a.1.2.2.1 = 0 ∨ a.1.2.2.1 = 3 ∨ a.1.2.2.1 = 8 ∨ a.1.2.2.1 = 9) → P_X7_heavy_49 (fun r1 m1 => P_X7_part_87 rec Q T k a.1.1 (encC x) r1 m1) k m := by
      intro hf
      rw [if_pos hf] at go
      unfold P_X7_heavy_49
      rw [e0, k6]
      refine ⟨hb, kr, c_weightI xo ?_ go⟩
      rcases nf with w | w
      · exact (fn1_nb w.2.2).2 (by omega)
      · exact fn2_nb w.2.2 (by omega)
    by_cases d1 : a.1.2.2.1 = 0
    · rw [if_pos d1]; exact heavy (by omega)
    rw [if_neg d1]
    by_cases d1 : a.1.2.2.1 = 3
    · rw [if_pos d1]; exact heavy (by omega)
    rw [if_neg d1]
    by_cases d1 : a.1.2.2.1 = 8
    · rw [if_pos d1]; exact heavy (by omega)
    rw [if_neg d1]
    by_cases d1 : a.1.2.2.1 = 9
    · rw [if_pos d1]; exact heavy (by omega)
    rw [if_neg d1]
    rw [if_neg (by omega)] at go
    have h75 : (a.1.2.2.1 = 5 ∨ a.1.2.2.1 = 10) → P_X7_heavy_75 (fun r1 m1 => P_X7_part_87 rec Q T k a.1.1 (encC x) r1 m1) (encC (rgN e (prT a.2 0))) m := by
      intro hf
      rw [if_pos hf] at go
      rcases nf with w | w
      · exact c_weightI (hl 0 (by omega)).2.1 (fn1_nb w.2.2).1 go
      · omega
    by_cases d1 : a.1.2.2.1 = 5
    · rw [if_pos d1]; exact h75 (by omega)
    rw [if_neg d1]
    by_cases d1 : a.1.2.2.1 = 10
    · rw [if_pos d1]; exact h75 (by omega)
    rw [if_neg d1]
    rw [if_neg (by omega)] at go
    exact go
  · rw [if_neg c6] at go ⊢
    exact go
/-- one part -/
theorem c_nodeG (hk : 0 ≤ a.1.1 ∧ a.1.1 ≤ 25) (w : okN a.1 a.2) (wc : wfT a.2) (hP : ∀ i, i < lenT a.2 → (0 ≤ (prT a.2 i).1.1 ∧ (prT a.2 i).1.1 ≤ 25) → ∀ dep, D ≤ dep → PaN F e fl b cd T (R_X7_part dep) (prT a.2 i)) : ∀ dep, D + 3 ≤ dep → PaN F e fl b cd T (R_X7_part dep) a := by
  intro dep hd k lo hi m p Q hS hE hT hAn hx hl kq
  obtain ⟨dep, rfl⟩ : ∃ d', dep = d' + 3 := ⟨dep - 3, by omega⟩
  have hb := hS.1
  have hc := hS.2.1
  have tb := tx_b2 hb
  have rg := hT.rng
  have kr : 0 ≤ k ∧ k < 160 := by omega
  have pp := hS.2.2.2.2.2.2
  have hx' : rgS e a.1 a.2 = some (rgN e a) := by
    cases hr : rgS e a.1 a.2 with
    | none => exact absurd hr hx
    | some y => unfold rgN; rw [hr]; rfl
  obtain ⟨rc, K⟩ := nd_kd (F := F) hE.1 hk w wc hx'
  have K' := K
  obtain ⟨⟨eX, xo, hA, hlr⟩, K3, K4, K5, K6, K7, K8, K9, K11, K22, K24, K25, K12⟩ := K
  have hPC : PaC F e fl b cd T D a.2 := ⟨wc, fun i hi => ⟨(hlr i hi).1, (hlr i hi).2.1⟩, hP⟩
  obtain ⟨cl, ch, t1, ⟨k1, k4, k5, k9⟩, t3⟩ := id hT
  have k6 : m (b + 6) k = encC (rgN e a) := hAn.1 _ hx'
  have hG : CgS m F e fl b cd p a.2 (m (b + 2) k) := ⟨hS, hE, cl, ch, t3, hAn.2.2.2 (by omega)⟩
  show W_X7_part (R_X7_part (dep + 2)) k m Q T
  refine c_wtG (F := F) K' w hk hS.2.2.1 hb kr k1 k4 k6 (fun c6 => ?_) ?_
  · have l0 : 0 < lenT a.2 := by
      have := nd_fun hA (K6 c6).2
      omega
    exact ⟨hG.p0 l0, hG.ring (i := 0) l0 (hlr 0 l0).1⟩
  unfold cg at hl kq
  rw [show ∀ (u : Ins) (l : List Ins), (u :: l).length = l.length + 1 from fun _ _ => rfl, show ∀ n : Nat, p + ((n + 1 : Nat) : Int) = p + 1 + (n : Int) from fun n => by omega] at hl kq
  unfold P_X7_part_87
  refine c_addI hS (by omega) (fun m1 S1 F1 C1 => ?_)
  have G1 := hG.nx S1 F1
  -- what is left to do
  have kq1 : ∀ m', CoS m' b cd (p + 1 + ((cgK e a.2 (cgC F e fl a.2) F fl a.1 (p + 1)).length : Int)) → FwC cd (p + 1) m1 m' → CoA m' cd (p + 1) (cgK e a.2 (cgC F e fl a.2) F fl a.1 (p + 1)) → Q 0 m' := fun m' S f C => kq m' S (F1.trans f (by omega)) (CoA.cons.2 ⟨(CoA.cons.1 (C1.keep f (by rw [List.length_singleton]; omega))).1, C⟩)
  have f1 : m1 377 0 = b := S1.2.2.1
  have f2 : m1 (b + 2) k = m (b + 2) k := F1.lo hc (by omega)
  have f4 : m1 (b + 4) k = a.1.2.2.1 := by rw [F1.lo hc (by omega)]; exact k4
  have f6 : m1 (b + 6) k = encC (rgN e a) := by rw [F1.lo hc (by omega)]; exact k6
  have f7 : m1 (b + 7) k = m (b + 7) k := F1.lo hc (by omega)
  have f8 : m1 (b + 8) k = m (b + 8) k := F1.lo hc (by omega)
  have kri : RI a.1.1 := by constructor <;> omega
  clear kq
  rw [f1]
  refine ⟨kri, ?_⟩
  unfold cgK at hl kq1
  have one : ∀ {u : Ins}, p + 1 + (([u] : List Ins).length : Int) ≤ 1199 → p + 1 < 1200 := fun h => by rw [List.length_singleton] at h; omega
  by_cases c0 : a.1.1 = 0
  · rw [if_pos c0] at hl kq1 ⊢
    rw [f4]
    exact ⟨hb, kr, c_addI S1 (one hl) kq1⟩
  rw [if_neg c0] at hl kq1 ⊢
  by_cases c1 : a.1.1 = 1
  · rw [if_pos c1] at hl kq1 ⊢
    refine ⟨kri, ?_⟩
    rw [if_pos c1]
    exact c_addI S1 (one hl) kq1
  rw [if_neg c1] at hl kq1 ⊢
  by_cases c2 : a.1.1 = 2
  · rw [if_pos c2] at hl kq1 ⊢
    refine ⟨kri, ?_⟩
    rw [if_neg c1]
    exact c_addI S1 (one hl) kq1
  rw [if_neg c2] at hl kq1 ⊢
  by_cases c3 : a.1.1 = 3
  · rw [if_pos c3] at hl kq1 ⊢
    rw [f4]
    exact ⟨hb, kr, c_addI S1 (one hl) kq1⟩
  rw [if_neg c3] at hl kq1 ⊢
  by_cases c4 : a.1.1 = 4
  · rw [if_pos c4] at hl kq1 ⊢
    obtain ⟨i, hi', hn⟩ := K4 c4
    have fl1 : m1 b 1 = fl := by rw [F1.lo hc (by omega)]; exact hE.2.1.1
    have flb := hE.2.1.2
    rw [f7, hAn.2.1 c4 i _ hi', ← hn, fl1]
    exact ⟨hb, by constructor <;> omega, kr, c_addI S1 (one hl) kq1⟩
  rw [if_neg c4] at hl kq1 ⊢
  by_cases c5 : a.1.1 = 5
  · rw [if_pos c5] at hl kq1 ⊢
    obtain ⟨al, f, R, ecl, hcl⟩ := K5 c5
    unfold cgCall at hl kq1
    rw [ecl] at hl kq1
    obtain ⟨je, -, n', n1, n2, BK⟩ := G1.2.1
    have hcl' := hcl
    rw [n2] at hcl'
    obtain ⟨u1, u2, u3, u4, u5, u6, u7, u8, u9⟩ := mtS_ok n1.1 (fun k k0 k1 => (BK.2 k k0 k1).1) (fun y hy => by
      obtain ⟨i, hi2⟩ := List.mem_iff_getElem?.1 hy
      have hil : i < lenT a.2 := by
        rw [← (rc_at hA).1]
        by_cases c : i < rc.length
        · exact c
        · rw [List.getElem?_eq_none (by omega)] at hi2; cases hi2
      rw [(hlr i hil).2.2] at hi2
      injection hi2 with hi2
      rw [← hi2]; exact (hlr i hil).2.1) hcl'
    have Bf := BK.2 f u2.1 (by omega)
    obtain ⟨a7, a8⟩ := hAn.2.2.1 c5 rc f R _ hA hcl
    have hlen : (F f).2.1 = (lenT a.2 : Int) := by rw [u3, (rc_at hA).1]
    have en : (F f).2.1.toNat = lenT a.2 := by omega
    simp only [en] at hl kq1
    show W_X7_call (R_X7_part (dep + 1)) k m1 (fun r5 m5 => Q 0 m5) T
    unfold W_X7_call
    rw [f1, f7, a7, f8, a8, f2]
    refine ⟨S1.2.2.2.2.1, hb, kr, by omega, lenT a.2 + 1, ?_⟩
    exact c_callL (dep := dep) hPC (by omega) al kr (by omega) u6 (fun z => by rcases u5 with q | q; exact q.2; exact absurd z q.2) Bf.1 hlen u7 (lenT a.2) 0 m1 (p + 1) (fun r5 m5 => Q 0 m5) (by omega) G1 ⟨by rw [f7]; exact a7, Bf.2⟩ hl kq1 _ (Nat.le_refl _)
  rw [if_neg c5] at hl kq1 ⊢
  by_cases c6 : a.1.1 = 6
  · rw [if_pos c6] at hl kq1 ⊢
    obtain ⟨al, ho⟩ := K6 c6
    exact c_funG (d := a.1) (rc := rc) (Q := fun r6 m6 => Q 0 m6) hPC (by omega) al G1 kr f2 f4 ⟨w.2.1.1, w.2.2.2.2.1 c6⟩ hA ho xo f6 hl kq1
  rw [if_neg c6] at hl kq1 ⊢
  by_cases c7 : a.1.1 = 7
  · rw [if_pos c7] at hl kq1 ⊢
    obtain ⟨al, xb, x2, v3, len, zo⟩ := K7 c7
    rw [f2]
    refine ⟨hb, kr, lenT a.2 + 1, ?_⟩
    exact c_matL hPC (by omega) al xo xb zo (lenT a.2) 0 m1 (p + 1) _ (by omega) G1 hl kq1 _ (Nat.le_refl _)
  rw [if_neg c7] at hl kq1 ⊢
  by_cases c8 : a.1.1 = 8
  · rw [if_pos c8] at hl kq1 ⊢
    obtain ⟨al, l3, b0, hj⟩ := K8 c8
    exact c_choiceG (x := (0, 0, 0)) (d := a.1) (Q := fun r6 m6 => Q 0 m6) hPC (by omega) l3 al G1 kr f2 xo f6 hl kq1
  rw [if_neg c8] at hl kq1 ⊢
  by_cases c9 : a.1.1 = 9
  · rw [if_pos c9] at hl kq1 ⊢
    obtain ⟨al, l2, -⟩ := K9 (.inl c9)
    exact c_boolG (by rw [if_pos c9]) kri hPC (by omega) l2 al G1 kr f2 hl kq1
  rw [if_neg c9] at hl kq1 ⊢
  by_cases c10 : a.1.1 = 10
  · rw [if_pos c10] at hl kq1 ⊢
    obtain ⟨al, l2, -⟩ := K9 (.inr c10)
    exact c_boolG (by rw [if_neg c9]) kri hPC (by omega) l2 al G1 kr f2 hl kq1
  rw [if_neg c10] at hl kq1 ⊢
  by_cases c11 : a.1.1 = 11
  · rw [if_pos c11] at hl kq1 ⊢
    obtain ⟨al, l1, -⟩ := K11 c11
    exact c_oneG (by rw [if_pos c11]) kri hPC (by omega) l1 al G1 kr f2 hl kq1
  rw [if_neg c11] at hl kq1 ⊢
  by_cases c22 : a.1.1 = 22
  · rw [if_pos c22] at hl kq1 ⊢
    obtain ⟨al, l1, -⟩ := K22 (.inl c22)
    exact c_oneG (by rw [if_neg c11]) kri hPC (by omega) l1 al G1 kr f2 hl kq1
  rw [if_neg c22] at hl kq1 ⊢
  have two : ∀ {u : Ins} {l : List Ins}, p + 1 + ((l ++ [u]).length : Int) ≤ 1199 → p + 1 + (l.length : Int) ≤ 1199 ∧ p + 1 + (l.length : Int) < 1200 := fun h => by rw [List.length_append, List.length_singleton] at h; omega
  have two' : ∀ {u : Ins} {l : List Ins}, p + 1 + ((l ++ [u]).length : Int) = p + 1 + (l.length : Int) + 1 := by
    intro u l
    rw [List.length_append, List.length_singleton]; omega
  by_cases c23 : a.1.1 = 23
  · rw [if_pos c23] at hl kq1 ⊢
    obtain ⟨al, l1, -⟩ := K22 (.inr c23)
    rw [f2]
    refine ⟨hb, kr, c_q3 (i := 0) hPC (by omega) (by omega) (prT_kd al (by omega)) G1 (two hl).1 (fun m2 S2 F2 C2 => ?_)⟩
    rw [S2.1.2.2.1, show m2 (b + 4) k = a.1.2.2.1 by rw [F2.lo hc (by omega)]; exact f4]
    refine ⟨hb, c_addI S2.1 (two hl).2 (fun m3 S3 F3 C3 => ?_)⟩
    exact kq1 m3 (by rw [two']; exact S3) (F2.trans F3 (by omega)) (CoA.app.2 ⟨C2.keep F3 (Int.le_refl _), C3⟩)
  rw [if_neg c23] at hl kq1 ⊢
  by_cases c24 : a.1.1 = 24
  · rw [if_pos c24] at hl kq1 ⊢
    obtain ⟨l2, kd0, -⟩ := K24 c24
    rw [f2]
    refine ⟨hb, kr, c_q2 (i := 0) hPC (by omega) (by omega) kd0 G1 xo hl (fun m2 S2 F2 C2 => kq1 m2 S2.1 F2 C2)⟩
  rw [if_neg c24] at hl kq1 ⊢
  by_cases c25 : a.1.1 = 25
  · rw [if_pos c25] at hl kq1 ⊢
    obtain ⟨l2, kd0, -⟩ := K25 c25
    rw [f2]
    refine ⟨hb, kr, c_q3 (i := 0) hPC (by omega) (by omega) kd0 G1 (two hl).1 (fun m2 S2 F2 C2 => ?_)⟩
    have f2' : m2 (b + 2) k = m (b + 2) k := by rw [F2.lo hc (by omega)]; exact f2
    rw [S2.1.2.2.1, f2']
    refine ⟨hb, S2.p0 (by omega), ?_⟩
    have r0 : m2 (b + 6) (m (b + 2) k) = encC (rgN e (prT a.2 0)) := S2.ring (i := 0) (by omega) (hlr 0 (by omega)).1
    rw [r0]
    refine c_addI S2.1 (two hl).2 (fun m3 S3 F3 C3 => ?_)
    exact kq1 m3 (by rw [two']; exact S3) (F2.trans F3 (by omega)) (CoA.app.2 ⟨C2.keep F3 (Int.le_refl _), C3⟩)
  rw [if_neg c25] at hl kq1 ⊢
  have hk2 : 12 ≤ a.1.1 ∧ a.1.1 ≤ 21 := by omega
  obtain ⟨al, l2, ht⟩ := K12 hk2
  exact c_twoG (Q := fun r6 m6 => Q 0 m6) hk2 hPC (by omega) l2 al G1 kr f2 ht f6 hl kq1
/-- all parts -/
theorem c_allG : ∀ (t : TT), wfT t → ∀ i, i < lenT t → (0 ≤ (prT t i).1.1 ∧ (prT t i).1.1 ≤ 25) → ∀ dep, 3 * htT t ≤ dep → PaN F e fl b cd T (R_X7_part dep) (prT t i) := by
  intro t
  induction t with
  | leaf => intro _ i hi; exact absurd hi (Nat.not_lt_zero _)
  | inner z d u c s ihc ihs =>
    intro hw i hi hk dep hd
    have hd : 3 * max (htT c + 1) (htT s) ≤ dep := hd
    cases i with
    | zero => exact c_nodeG (a := (d, c)) (D := 3 * htT c) hk hw.1 hw.2.1 (fun i hi hk dep hd => ihc hw.2.1 i hi hk dep hd) dep (by omega)
    | succ i => exact ihs hw.2.2 i (by have hi : i + 1 < lenT s + 1 := hi; omega) hk dep (by omega)
end CGL
