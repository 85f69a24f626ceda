set_option maxRecDepth 100000
/-! the model's parser: lines, functions that are told -/
/-- what a told function's reading writes -/
def FdM (n k : Int) (m m' : MM) : Prop := ∀ c i, ¬ (c = 582 ∧ (9 ≤ i ∧ i ≤ 12 ∨ i = 15 ∨ i = 110 ∨ i = 112 ∨ i = 113)) → ¬ (590 ≤ c ∧ c ≤ 605 ∧ k ≤ i) → ¬ ((c = 606 ∨ c = 609 ∨ c = 611) ∧ i = n) → ¬ (c = 608 ∧ 3 * n ≤ i ∧ i < 3 * n + 3) → ¬ (c = 651 ∨ c = 652) → m' c i = m c i
def DfEr (n k0 : Int) (Q : Int → MM → Prop) (m0 : MM) (e : Int × Int) : Prop := ∀ r m' q o k', PF m' e q o k' → FdM n k0 m0 m' → Q r m'
def PrM (m : MM) (n b0 k : Int) (ps : List (Int × Int × PT)) : Prop := (m 609 n = (ps.length : Int) ∧ (ps.length : Int) ≤ 3) ∧ ∀ j, 1 ≤ j → j ≤ (ps.length : Int) → m 608 (3 * n + (j - 1)) = (parD ps j).1 ∧ ((0 ≤ m 651 (j - 1) ∧ m 651 (j - 1) < 420) ∧ m 588 (m 651 (j - 1)) = (parD ps j).2.1) ∧ ∃ lo hi, b0 ≤ lo ∧ hi ≤ k ∧ TB m (chT [(parD ps j).2.2]) lo hi [m 652 (j - 1)]
abbrev uppM (m : MM) (c i v : Int) : MM := up m c i v
section DEFM3
variable {T : MM → Prop} {tk : Int → TK} {N : Int} {m0 m m' : MM} {p o k k0 n : Int} {a : PT} {Q : Int → MM → Prop} {e : Int × Int} {q : Int}
theorem FdM.refl : FdM n k m m := fun _ _ _ _ _ _ _ => rfl
theorem FdM.fw {k' : Int} (h : FdM n k m0 m) (g : FwM k' m m') (hk : k ≤ k') : FdM n k m0 m' := fun c i z z1 z2 z3 z4 => (g c i (by omega) (by omega)).trans (h c i z z1 z2 z3 z4)
theorem FdM.f12 (h : FdM n k m0 m) (g : F912 m m') : FdM n k m0 m' := fun c i z z1 z2 z3 z4 => (g c i (by omega)).trans (h c i z z1 z2 z3 z4)
theorem FdM.f11 (h : FdM n k m0 m) (g : F911 m m') : FdM n k m0 m' := fun c i z z1 z2 z3 z4 => (g c i (by omega)).trans (h c i z z1 z2 z3 z4)
theorem FdM.up {c i v : Int} (h : FdM n k m0 m) (hc : (c = 582 ∧ (i = 110 ∨ i = 112 ∨ i = 113)) ∨ ((c = 606 ∨ c = 609 ∨ c = 611) ∧ i = n) ∨ (c = 608 ∧ 3 * n ≤ i ∧ i < 3 * n + 3) ∨ (c = 651 ∨ c = 652)) : FdM n k m0 (up m c i v) := fun c' i' z z1 z2 z3 z4 => (up_ne (fun y => by omega)).trans (h c' i' z z1 z2 z3 z4)
theorem pm_up2 {c i v : Int} (h : PM m tk N p o k) (hc : (c = 582 ∧ 100 ≤ i) ∨ 606 ≤ c) : PM (up m c i v) tk N p o k := by
  refine h.fr (fun c i z => up_ne (by omega)) ⟨?_, h.2.1.2⟩ ?_ ⟨?_, h.2.2.2.1.2⟩ ⟨?_, h.2.2.2.2.2⟩
  · rw [up_ne (by omega)]; exact h.2.1.1
  · rw [up_ne (by omega)]; exact h.2.2.1
  · rw [up_ne (by omega)]; exact h.2.2.2.1.1
  · rw [up_ne (by omega)]; exact h.2.2.2.2.1
theorem pf_up2 {c i v : Int} (h : PF m e q o k) (hc : (c = 582 ∧ 100 ≤ i) ∨ 606 ≤ c) : PF (up m c i v) e q o k := by
  obtain ⟨h1, h2, h3, h4, h5⟩ := h
  exact ⟨⟨by rw [up_ne (by omega)]; exact h1.1, h1.2⟩, ⟨by rw [up_ne (by omega)]; exact h2.1, h2.2⟩, by rw [up_ne (by omega)]; exact h3, ⟨by rw [up_ne (by omega)]; exact h4.1, h4.2⟩, ⟨by rw [up_ne (by omega)]; exact h5.1, h5.2⟩⟩
theorem PM.up2 {c i v : Int} (h : PM m tk N p o k) (hc : (c = 582 ∧ 100 ≤ i) ∨ 606 ≤ c) : PM (uppM m c i v) tk N p o k := pm_up2 h hc
theorem PF.up2 {c i v : Int} (h : PF m e q o k) (hc : (c = 582 ∧ 100 ≤ i) ∨ 606 ≤ c) : PF (uppM m c i v) e q o k := pf_up2 h hc
theorem PrM.fr {b0 k' : Int} {ps : List (Int × Int × PT)} (h : PrM m n b0 k ps) (g : m' 609 n = m 609 n) (g1 : ∀ i, m' 608 i = m 608 i) (g2 : ∀ c i, c = 651 ∨ c = 652 ∨ c = 588 → m' c i = m c i) (ag : AgM b0 k m m') (hk : k ≤ k') : PrM m' n b0 k' ps := by
  obtain ⟨h1, h2⟩ := h
  refine ⟨by rw [g]; exact h1, fun j j1 j2 => ?_⟩
  obtain ⟨a1, a2, lo, hi, b1, b2, b3⟩ := h2 j j1 j2
  rw [g1, g2 651 _ (by decide), g2 588 _ (by decide), g2 652 _ (by decide)]
  exact ⟨a1, a2, lo, hi, b1, by omega, b3.fr (fun c i z z1 z2 => ag c i z (by omega) (by omega))⟩
theorem PrM.add {b0 k' : Int} {ps : List (Int × Int × PT)} {x : Int × Int × PT} (h : PrM m n b0 k ps) (hl : (ps.length : Int) < 3) (g : m' 609 n = (ps.length : Int) + 1) (g1 : ∀ i, i ≠ 3 * n + (ps.length : Int) → m' 608 i = m 608 i) (g2 : ∀ c i, c = 651 ∨ c = 652 → i ≠ (ps.length : Int) → m' c i = m c i) (g3 : ∀ i, m' 588 i = m 588 i) (ag : AgM b0 k m m') (hk : k ≤ k') (a1 : m' 608 (3 * n + (ps.length : Int)) = x.1) (a2 : (0 ≤ m' 651 (ps.length : Int) ∧ m' 651 (ps.length : Int) < 420) ∧ m' 588 (m' 651 (ps.length : Int)) = x.2.1) (a3 : ∃ lo hi, b0 ≤ lo ∧ hi ≤ k' ∧ TB m' (chT [x.2.2]) lo hi [m' 652 (ps.length : Int)]) : PrM m' n b0 k' (ps ++ [x]) := by
  obtain ⟨h1, h2⟩ := h
  have el : ((ps ++ [x]).length : Int) = (ps.length : Int) + 1 := by rw [List.length_append]; rfl
  refine ⟨by rw [g, el]; omega, fun j j1 j2 => ?_⟩
  rw [el] at j2
  by_cases y : j = (ps.length : Int) + 1
  · rw [parD_at y, y, show (ps.length : Int) + 1 - 1 = (ps.length : Int) by omega]
    exact ⟨a1, a2, a3⟩
  · rw [parD_lt j1 (by omega)]
    obtain ⟨b1, b2, lo, hi, c1, c2, c3⟩ := h2 j j1 (by omega)
    rw [g1 _ (by omega), g2 651 _ (by decide) (by omega), g3, g2 652 _ (by decide) (by omega)]
    exact ⟨b1, b2, lo, hi, c1, by omega, c3.fr (fun c i z z1 z2 => ag c i z (by omega) (by omega))⟩
/-- with a fault the reading of parameters ends -/
theorem f_83 {K48 : Int → MM → Prop} (hP : PF m e q o k) (kb : k < 12000) (fr : FdM n k0 m0 m) (hk : k0 ≤ k) (h0 : DfEr n k0 Q m0 e) : P_X10_readDefinition_83 Q K48 n m := by
  refine f_need hP (f_sign hP (f_ring (f := 19) e q o k m _ hP kb (fun m1 P1 F1 => ?_)))
  have ri := P1.ri
  refine ⟨ri.1, ?_⟩
  rw [if_neg ri.2.2]
  exact h0 (-1) m1 q o (k + 1) P1 (fr.fw F1 hk)
theorem f_48 {nn : Nat} (hP : PF m e q o k) (kb : k < 12000) (fr : FdM n k0 m0 m) (hk : k0 ≤ k) (h0 : DfEr n k0 Q m0 e) : P_X10_readDefinition_48 Q (nn + 1) n m := by
  have ri := hP.ri
  refine ⟨ri.1, ?_⟩
  rw [if_neg ri.2.1]
  exact f_83 hP kb fr hk h0
theorem c_parM (hn : 0 ≤ n ∧ n ≤ 20) (k00 : 0 ≤ k0) (hB : k0 ≤ 11600) : ∀ (f nn : Nat) (ps : List (Int × Int × PT)) (p k : Int) (m : MM), f + ps.length = 5 → f ≤ nn → PM m tk N p 1 k → PrM m n k0 k ps → k0 ≤ k → k + 2 * (150 - p) ≤ k0 + 300 → FdM n k0 m0 m → (∀ r q, pPar tk f p (ps.length : Int) = .ok (r, q) → ∀ m' k', PM m' tk N q 1 k' → PrM m' n k0 k' (ps ++ r) → k0 ≤ k' → k' + 2 * (150 - q) ≤ k0 + 300 → FdM n k0 m0 m' → m' 606 n = m 606 n → m' 611 n = m 611 n → m' 582 113 = m 582 113 → P_X10_readDefinition_171 Q n m') → (∀ e, pPar tk f p (ps.length : Int) = .error e → DfEr n k0 Q m0 e) → P_X10_readDefinition_48 Q nn n m := by
  intro f
  induction f with
  | zero =>
    intro nn ps p k m hf _ _ hI
    have := hI.1.2
    omega
  | succ f ih =>
    intro nn ps p k m hf hnn hP hI hk hb fr h1 h0
    obtain ⟨n', rfl⟩ : ∃ n', nn = n' + 1 := ⟨nn - 1, by omega⟩
    have pb := hP.2.1
    obtain ⟨⟨u1, u2, u3, u4⟩, u5, uw⟩ := hP.tok
    have kt := kT_5 uw.1
    have l3 := hI.1.2
    have E := pp_eq (tk := tk) (f := f) (p := p) (c := (ps.length : Int))
    refine ⟨by rw [hP.2.2.1]; decide, ?_⟩
    rw [if_pos hP.2.2.1, pb.1, u1]
    refine ⟨by omega, kt.2.2.2.2.2.2, ?_⟩
    have g83 : (ps.length : Int) ≠ 3 ∨ kdS tk p ≠ 2 → P_X10_readDefinition_83 Q (fun z0 z1 => P_X10_readDefinition_48 Q n' z0 z1) n m := by
      intro hc
      have E0 : pPar tk (f + 1) p (ps.length : Int) = (kgS tk 2 p >>= fun q => ndS tk 58 q >>= fun q1 => pT tk 16 q1 1 >>= fun x => if isSg tk 44 x.2 then (goS tk x.2 >>= fun q3 => pPar tk f q3 ((ps.length : Int) + 1) >>= fun y => .ok ((nmS' tk p, plS tk p, x.1) :: y.1, y.2)) else .ok ([(nmS' tk p, plS tk p, x.1)], x.2)) := by
        rw [E]
        unfold kgS kdE
        by_cases y : kdS tk p = 2
        · rw [if_pos y]
          show (if (ps.length : Int) = 3 then _ else _) = _
          rw [if_neg (by omega)]
          rfl
        · rw [if_neg y]; rfl
      clear E
      refine c_needM (kd := 2) rfl (.inr rfl) hP (fun m1 g1 P1 f1 => ?_) (fun e m1 g1 P1 f1 => ?_)
      · have k2 : kdS tk p = 2 := by
          unfold kgS at g1
          obtain ⟨u, hu, -⟩ := exb g1
          exact kd_ok hu
        have l2 : (ps.length : Int) < 3 := by omega
        rw [g1] at E0
        have E1 : pPar tk (f + 1) p (ps.length : Int) = (ndS tk 58 (p + 1) >>= fun q1 => pT tk 16 q1 1 >>= fun x => if isSg tk 44 x.2 then (goS tk x.2 >>= fun q3 => pPar tk f q3 ((ps.length : Int) + 1) >>= fun y => .ok ((nmS' tk p, plS tk p, x.1) :: y.1, y.2)) else .ok ([(nmS' tk p, plS tk p, x.1)], x.2)) := E0
        clear E0
        have fr1 := fr.f11 f1
        refine c_signM (c := 58) rfl (by decide) (by decide) P1 (fun m2 g2 P2 f2 => ?_) (fun e m2 g2 P2 f2 => ?_)
        · rw [g2] at E1
          have E2 : pPar tk (f + 1) p (ps.length : Int) = (pT tk 16 (p + 1 + 1) 1 >>= fun x => if isSg tk 44 x.2 then (goS tk x.2 >>= fun q3 => pPar tk f q3 ((ps.length : Int) + 1) >>= fun y => .ok ((nmS' tk p, plS tk p, x.1) :: y.1, y.2)) else .ok ([(nmS' tk p, plS tk p, x.1)], x.2)) := E1
          clear E1
          have fr2 := fr1.f11 f2
          have pb2 := P2.2.1
          refine c_ringP 16 20 (by decide) (p + 1 + 1) 1 k m2 _ (by decide) P2 (by omega) (fun c q hq m3 k3 P3 F3 T3 n3 => ?_) (fun e z m3 q k3 P3 F3 hq k3a k3b => ?_)
          · rw [hq] at E2
            have E3 : pPar tk (f + 1) p (ps.length : Int) = (if isSg tk 44 q then (goS tk q >>= fun q3 => pPar tk f q3 ((ps.length : Int) + 1) >>= fun y => .ok ((nmS' tk p, plS tk p, c) :: y.1, y.2)) else .ok ([(nmS' tk p, plS tk p, c)], q)) := E2
            clear E2
            have pq := P3.2.1
            have lt := pT_lt hq
            have tr := T3.rng
            have fr3 := fr2.fw F3 hk
            have ag3 : ∀ c i, ¬ (c = 582) → ¬ (590 ≤ c ∧ c ≤ 605 ∧ k ≤ i) → m3 c i = m c i := fun c i z z1 => by rw [F3 c i (by omega) z1, f2 c i (by omega), f1 c i (by omega)]
            have e609 : m3 609 n = (ps.length : Int) := by rw [ag3 _ _ (by omega) (by omega)]; exact hI.1.1
            refine ⟨by rw [P3.2.2.1]; decide, ?_⟩
            rw [if_pos (by rw [P3.2.2.1]; decide), e609]
            refine ⟨by omega, by omega, ?_⟩
            rintro m4 rfl m5 rfl
            refine ⟨by omega, by omega, ?_⟩
            have t9 : up (up m3 651 (ps.length : Int) p) 652 (ps.length : Int) k 589 p = nmS' tk p := by
              rw [up_ne (by omega), up_ne (by omega), ag3 _ _ (by omega) (by omega)]
              exact u3 (by have z : (tk p).1 = 2 := k2; omega)
            rw [t9]
            intro m6 h6
            have e609' : m6 609 n = (ps.length : Int) := by rw [h6, up_ne (by omega), up_ne (by omega), up_ne (by omega)]; exact e609
            rw [e609']
            intro m7 h7
            have P7 : PM m7 tk N q 1 k3 := by rw [h7, h6]; exact (((P3.up2 (by omega)).up2 (by omega)).up2 (by omega)).up2 (by omega)
            have fr7 : FdM n k0 m0 m7 := by rw [h7, h6]; exact (((fr3.up (by omega)).up (by omega)).up (by omega)).up (by omega)
            have a7 : ∀ c i, ¬ (c = 609 ∧ i = n) → ¬ (c = 608 ∧ i = 3 * n + (ps.length : Int)) → ¬ ((c = 651 ∨ c = 652) ∧ i = (ps.length : Int)) → m7 c i = m3 c i := fun c i z z1 z2 => by rw [h7, up_ne z, h6, up_ne z1, up_ne (by omega), up_ne (by omega)]
            have I7 : PrM m7 n k0 k3 (ps ++ [(nmS' tk p, plS tk p, c)]) := by
              refine hI.add l2 (by rw [h7, up_at]) (fun i z => ?_) (fun c i z z1 => ?_) (fun i => ?_) (fun c i z z1 z2 => ?_) (by omega) ?_ ?_ ⟨k, k3, hk, Int.le_refl _, ?_⟩
              · rw [a7 _ _ (by omega) (by omega) (by omega)]; exact ag3 _ _ (by omega) (by omega)
              · rw [a7 _ _ (by omega) (by omega) (by omega)]; exact ag3 _ _ (by omega) (by omega)
              · rw [a7 _ _ (by omega) (by omega) (by omega)]; exact ag3 _ _ (by omega) (by omega)
              · rw [a7 _ _ (by omega) (by omega) (by omega)]; exact ag3 _ _ (by omega) (by omega)
              · rw [h7, up_ne (by omega), h6, up_at]
              · have e651 : m7 651 (ps.length : Int) = p := by rw [h7, up_ne (by omega), h6, up_ne (by omega), up_ne (by omega), up_at]
                rw [e651, a7 588 _ (by omega) (by omega) (by omega), ag3 _ _ (by omega) (by omega)]
                exact ⟨by omega, u5⟩
              · have e652 : m7 652 (ps.length : Int) = k := by rw [h7, up_ne (by omega), h6, up_ne (by omega), up_at]
                rw [e652]
                exact (T3.fr (fun c i z z1 z2 => a7 c i (by omega) (by omega) (by omega)) tr.1 (Int.le_refl _) (Int.le_refl _) tr.2.2.2).one
            have b606 : m7 606 n = m 606 n := by rw [a7 _ _ (by omega) (by omega) (by omega)]; exact ag3 _ _ (by omega) (by omega)
            have b611 : m7 611 n = m 611 n := by rw [a7 _ _ (by omega) (by omega) (by omega)]; exact ag3 _ _ (by omega) (by omega)
            have b113 : m7 582 113 = m 582 113 := by rw [a7 _ _ (by omega) (by omega) (by omega), F3 _ _ (by omega) (by omega), f2 _ _ (by omega), f1 _ _ (by omega)]
            refine c_takesSignM (c := 44) rfl (by decide) (by decide) P7 (fun m8 y g P8 f8 => ⟨by decide, ?_⟩) (fun y => ⟨by decide, ?_⟩) (fun e m8 y g P8 f8 => ⟨by decide, ?_⟩)
            · rw [if_neg (by decide)]
              have el : ((ps ++ [(nmS' tk p, plS tk p, c)]).length : Int) = (ps.length : Int) + 1 := by rw [List.length_append]; rfl
              have E5 : pPar tk (f + 1) p (ps.length : Int) = (pPar tk f (q + 1) ((ps ++ [(nmS' tk p, plS tk p, c)]).length : Int) >>= fun y => .ok ((nmS' tk p, plS tk p, c) :: y.1, y.2)) := by rw [E3, if_pos y, g, el]; rfl
              refine ih n' (ps ++ [(nmS' tk p, plS tk p, c)]) (q + 1) k3 m8 (by rw [List.length_append]; show f + (ps.length + 1) = 5; omega) (by omega) P8 (I7.fr (f8 _ _ (by omega)) (fun i => f8 _ _ (by omega)) (fun c i z => f8 _ _ (by omega)) f8.agm (Int.le_refl _)) (by omega) (by omega) (fr7.f11 f8) (fun r' q' z m' k' P' I' kk' b' f' c1 c2 c3 => ?_) (fun e z => h0 e (by rw [E5, z]; rfl))
              rw [List.append_assoc] at I'
              exact h1 _ q' (by rw [E5, z]; rfl) m' k' P' I' kk' b' f' (by rw [c1, f8 _ _ (by omega)]; exact b606) (by rw [c2, f8 _ _ (by omega)]; exact b611) (by rw [c3, f8 _ _ (by omega)]; exact b113)
            · rw [if_pos rfl]
              exact h1 _ q (by rw [E3, if_neg y]) m7 k3 P7 I7 (by omega) (by omega) fr7 b606 b611 b113
            · rw [if_neg (by decide)]
              obtain ⟨n2, rfl⟩ : ∃ n2, n' = n2 + 1 := ⟨n' - 1, by omega⟩
              exact f_48 P8 (by omega) (fr7.f11 f8) (by omega) (h0 e (by rw [E3, if_pos y, g]; rfl))
          · have ri := P3.ri
            refine ⟨ri.1, ?_⟩
            rw [if_neg ri.2.2]
            exact h0 e (by rw [E2, z]; rfl) (-1) m3 q 1 k3 P3 (fr2.fw F3 hk)
        · refine f_ring (f := 19) e _ _ k m2 _ P2 (by omega) (fun m3 P3 F3 => ?_)
          have ri := P3.ri
          refine ⟨ri.1, ?_⟩
          rw [if_neg ri.2.2]
          exact h0 e (by rw [E1, g2]; rfl) (-1) m3 _ 1 (k + 1) P3 ((fr1.f11 f2).fw F3 hk)
      · refine f_sign P1 (f_ring (f := 19) e _ _ k m1 _ P1 (by omega) (fun m3 P3 F3 => ?_))
        have ri := P3.ri
        refine ⟨ri.1, ?_⟩
        rw [if_neg ri.2.2]
        exact h0 e (by rw [E0, g1]; rfl) (-1) m3 _ 1 (k + 1) P3 ((fr.f11 f1).fw F3 hk)
    by_cases y : kT (tk p).1 = 1
    · rw [if_pos y]
      have y2 : kdS tk p = 2 := kt.2.2.2.1.1 y
      rw [hI.1.1]
      refine ⟨by omega, by constructor <;> omega, ?_⟩
      by_cases y3 : (ps.length : Int) = 3
      · rw [if_pos y3]
        have K : kdE tk 2 p = .ok () := by unfold kdE; rw [if_pos y2]
        rw [K] at E
        have E1 : pPar tk (f + 1) p (ps.length : Int) = .error (2, plS tk p) := by
          rw [E]
          show (if (ps.length : Int) = 3 then _ else _) = _
          rw [if_pos y3]
        exact c_failM hP (by decide) (fun m1 P1 f1 => f_83 P1 (by omega) (fr.f11 (fun c i z => f1 c i (by omega))) hk (h0 _ E1))
      · rw [if_neg y3]; exact g83 (.inl y3)
    · rw [if_neg y]; exact g83 (.inr (fun z => y (kt.2.2.2.1.2 z)))
end DEFM3
