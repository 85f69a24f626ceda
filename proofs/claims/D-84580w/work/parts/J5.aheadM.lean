set_option maxRecDepth 100000
/-! the model's parser: what stands ahead, if -/
section AHEADM
variable {T : MM → Prop} {tk : Int → TK} {N : Int} {f dep n : Nat} {m0 m m' : MM} {p o lo p0 x k k0 w r : Int} {a : PT} {Q K : Int → MM → Prop} {e : Int × Int} {q : Int}
theorem op_1 (g : goS tk p = .ok q) (h : o ≠ 12) : opS tk p o = .ok q := by unfold opS; rw [if_neg (fun z => h z.1)]; exact g
theorem op_2 (g : goS tk p = .ok q) (h : o = 12) : opS tk p o = .error (2, plS tk p) := by unfold opS; rw [if_pos ⟨h, (go_ok g).1⟩]
theorem op_3 (g : goS tk p = .error e) : opS tk p o = .error e := by
  unfold opS
  by_cases y : o = 12 ∧ p < 150
  · exfalso
    unfold goS at g
    rw [if_neg (by omega)] at g
    cases g
  · rw [if_neg y]; exact g
/-- a node over one tree -/
theorem TNB.un {ks kd k1 : Int} (h1 : TNB m a lo k1 x) (kb : k1 < 12000) (hks : ks = 11 ∨ ks = 22) (hkd : kd = kM ks) (f : ∀ c i, ¬ (c = 582 ∧ i = 15) → ¬ (590 ≤ c ∧ c ≤ 605 ∧ i = k1) → m' c i = m c i) (e0 : m' 590 k1 = kd) (e1 : m' 591 k1 = x) (e5 : m' 595 k1 = w) : TNB m' ((ks, w, 0, 0), chT [a]) lo (k1 + 1) k1 := by
  have r1 := h1.rng
  refine ⟨lo, k1, [x], by omega, ⟨fun _ => by rw [e0]; exact hkd, e5, fun z => ?_, fun z => ?_, fun z => ?_, fun z => ?_, fun z => ?_⟩, ⟨fun z => ?_, fun z => ?_, fun z => ?_, fun z => ?_, fun _ => by rw [e1], fun z => ?_, fun z => ?_, fun z => ?_, fun z => ?_⟩, ?_⟩
  · exfalso; have z' : ks = 0 ∨ ks = 3 ∨ ks = 23 ∨ ks = 33 ∨ ks = 35 := z; omega
  · exfalso; have z' : ks = 4 ∨ ks = 5 := z; omega
  · exfalso; have z' : ks = 6 := z; omega
  · exfalso; have z' : 30 ≤ ks := z; omega
  · exfalso; have z' : ks = 33 ∨ ks = 35 := z; omega
  · exfalso; have z' : ks = 5 ∨ ks = 6 := z; omega
  · exfalso; have z' : ks = 7 := z; omega
  · exfalso; have z' : ks = 8 := z; omega
  · exfalso; have z' : ks = 9 ∨ ks = 10 ∨ 12 ≤ ks ∧ ks ≤ 21 := z; omega
  · exfalso; have z' : ks = 23 := z; omega
  · exfalso; have z' : ks = 24 ∨ ks = 25 := z; omega
  · exfalso; have z' : 30 ≤ ks ∧ ks ≤ 33 := z; omega
  · exfalso; have z' : 34 ≤ ks := z; omega
  · exact TNB.one (h1.fr (fun c i z z1 z2 => f c i (by omega) (by omega)) r1.1 (Int.le_refl _) (Int.le_refl _) r1.2.2.2)
theorem f_aheadT {id fl : Nat} {kd : Int} (hF : FE T id fl) (hd : fl ≤ dep) (hP : PF m e q (o + 1) k) (o0 : 0 ≤ o) (tb : 0 ≤ p ∧ p < 420) (kb : k < 12000) (fr : FwM k0 m0 m) (hq : p ≤ q) (hk : k0 ≤ k ∧ k ≤ k0 + 2 * (q - p) + 1) (h0 : EmEr k0 p Q m0 o e) : R_X10_readE dep id [] m (fun r3 m3 => ∀ m4 : MM, m4 = up m3 582 12 ((m3 582 12) - 1) → P_X10_node kd r3 (-1) (-1) p m4 (fun r4 m5 => Q r4 m5)) T := by
  refine hF dep e q (o + 1) k m _ hd hP ?_
  intro m4 h4
  have w := hP.cl o0 h4
  exact f_nodeM w.1 kb tb (fr.f12 w.2) hk.1 (fun m5 P5 F5 => h0 k m5 q (k + 1) P5 F5 hq (by omega) (by omega))
/-- something ahead: its sign was there -/
theorem c_ahead1 {md id fl : Nat} {l ks kd : Int} (hE : ExM tk N T f md id l) (hF : FE T id fl) (hfl : (fl : Int) ≤ 10) (hmd : md < 10) (hf : 20 * (151 - (p + 1)) + l < f) (hd : 13 * (13 - (o + 1)) + l ≤ dep + 1) (hl : 0 ≤ l) (hfd : fl ≤ dep) (p0 : 0 ≤ p) (hP : PM m tk N (p + 1) o k0) (t5 : m 588 p = plS tk p) (hb : k0 + 2 * (150 - p) ≤ 11900) (fr : FwM k0 m0 m) (hks : ks = 11 ∨ ks = 22) (hkd : kd = kM ks) (g : goS tk p = .ok (p + 1))
    (h1 : ∀ rs q, opS tk p o = .ok (p + 1) → pS tk f md acc0 (p + 1) (o + 1) = .ok (rs, q) → ∀ r m' k', PM m' tk N q o k' → FwM k0 m0 m' → TNB m' ((ks, plS tk p, 0, 0), chT [fstP rs]) k0 k' r → k' ≤ k0 + 2 * (q - p) → Q r m')
    (e1 : ∀ e, opS tk p o = .error e → EmEr k0 p Q m0 o e) (e2 : ∀ e, opS tk p o = .ok (p + 1) → pS tk f md acc0 (p + 1) (o + 1) = .error e → EmEr k0 p Q m0 o e) :
    P_X10_opens p m (fun _ m2 => R_X10_readE dep id [] m2 (fun r3 m3 => ∀ m4 : MM, m4 = up m3 582 12 ((m3 582 12) - 1) → P_X10_node kd r3 (-1) (-1) p m4 (fun r4 m5 => Q r4 m5)) T) := by
  have pb := hP.2.1
  have ob := hP.2.2.2.1.2
  have kb := hP.2.2.2.2
  refine c_opensM hP p0 (fun m2 y P2 f2 => ?_) (fun m2 y P2 f2 => ?_)
  · have F2 := fr.f12 f2
    refine hE dep (p + 1) (o + 1) k0 m2 _ hf hd P2 (by omega) (fun rs q hq r m3 k3 P3 F3 T3 n3 => ?_) (fun e z r m3 q k3 P3 F3 hq k3a k3b => ?_)
    · intro m4 h4
      have lt := (pS_lt hq).1
      have w4 := P3.cl ob.1 h4
      have r3 := T3.rng
      have F4 := (F2.trans F3 (Int.le_refl _)).f12 w4.2
      have pq := P3.2.1
      refine c_nodeM w4.1.2.2.2.2.1 ⟨by omega, by omega⟩ (by omega) (fun m5 f5 e15 e590 e591 e592 e593 e594 e595 e597 e605 => ?_)
      have t5' : m4 588 p = plS tk p := by rw [w4.2 _ _ (by omega), F3 _ _ (by omega) (by omega), f2 _ _ (by omega)]; exact t5
      rw [t5'] at e595
      exact h1 rs q (op_1 g y) hq k3 m5 (k3 + 1) (w4.1.nd f5 e15) (F4.ad (by omega) f5) (TNB.un (T3.fr w4.2.agm r3.1 (Int.le_refl _) (Int.le_refl _) r3.2.2.2) (by omega) hks hkd f5 e590 e591 e595) (by omega)
    · intro m4 h4
      have w4 := P3.cl ob.1 h4
      have pq := P3.1
      exact f_nodeM w4.1 (by omega) (by omega) ((F2.trans F3 (Int.le_refl _)).f12 w4.2) k3a (fun m5 P5 F5 => e2 e (op_1 g y) z k3 m5 q (k3 + 1) P5 F5 (by omega) (by omega) (by omega))
  · exact f_aheadT hF hfd P2 ob.1 (by omega) (by omega) (fr.f12 f2) (by omega) (by omega) (e1 _ (op_2 g y))
theorem c_notM (hE : ExM tk N T f 3 6 10) (hR : ExM tk N T f 4 3 9) : ExM tk N T (f + 1) 3 6 10 := by
  intro dep p o k0 m Q hf hd hP hb h1 h0
  have ob := hP.2.2.2.1.2
  have pb := hP.2.1
  have kb := hP.2.2.2.2
  have t5 := hP.tok.2.1
  obtain ⟨d, rfl⟩ : ∃ d, dep = d + 1 := ⟨dep - 1, by omega⟩
  have E : pS tk (f + 1) 3 acc0 p o = bAhead tk (pS tk f) (isKy tk 5 p) 11 3 4 p o := rfl
  unfold bAhead at E
  show W_X10_readNot (R_X10_readE d) m Q T
  unfold W_X10_readNot
  rw [pb.1]
  refine c_takesKeyM (c := 5) rfl (by decide) hP (fun m1 y g P1 f1 => ⟨by decide, ?_⟩) (fun y => ⟨by decide, ?_⟩) (fun e m1 y g P1 f1 => ⟨by decide, ?_⟩)
  · rw [if_neg (by decide)]
    rw [if_neg (fun z => z y)] at E
    refine c_ahead1 (ks := 11) (m0 := m) hE fe_not (by decide) (by decide) (by omega) (by omega) (by decide) (by omega) pb.2.1 P1 (by rw [f1 _ _ (by omega)]; exact t5) hb (FwM.refl.f11 f1) (by decide) (by decide) g (fun rs q ao hq r m' k' P' F' T' n' => h1 [[((11, plS tk p, 0, 0), chT [fstP rs])]] q ?_ r m' k' P' F' T' n') (fun e z => h0 e (by rw [E, z]; rfl)) (fun e ao z => h0 e (by rw [E, ao]; show (pS tk f 3 acc0 (p + 1) (o + 1) >>= _) = _; rw [z]; rfl))
    rw [E, ao]; show (pS tk f 3 acc0 (p + 1) (o + 1) >>= _) = _; rw [hq]; rfl
  · rw [if_pos rfl]
    rw [if_pos y] at E
    exact hR d p o k0 m Q (by omega) (by omega) hP hb (fun rs q z => h1 rs q (by rw [E]; exact z)) (fun e z => h0 e (by rw [E]; exact z))
  · rw [if_neg (by decide)]
    rw [if_neg (fun z => z y), op_3 g] at E
    refine f_opens P1 (by omega) (fun m2 P2 f2 => ?_)
    exact f_aheadT fe_not (by omega) P2 ob.1 (by omega) (by omega) ((FwM.refl.f11 f1).f12 f2) (Int.le_refl _) (by omega) (h0 e (by rw [E]; rfl))
theorem c_unaryM (hE : ExM tk N T f 7 10 6) (hR : ExM tk N T f 8 2 5) : ExM tk N T (f + 1) 7 10 6 := by
  intro dep p o k0 m Q hf hd hP hb h1 h0
  have ob := hP.2.2.2.1.2
  have pb := hP.2.1
  have kb := hP.2.2.2.2
  have t5 := hP.tok.2.1
  obtain ⟨d, rfl⟩ : ∃ d, dep = d + 1 := ⟨dep - 1, by omega⟩
  have E : pS tk (f + 1) 7 acc0 p o = bAhead tk (pS tk f) (isSg tk 45 p) 22 7 8 p o := rfl
  unfold bAhead at E
  show W_X10_readUnary (R_X10_readE d) m Q T
  unfold W_X10_readUnary
  rw [pb.1]
  refine c_takesSignM (c := 45) rfl (by decide) (by decide) hP (fun m1 y g P1 f1 => ⟨by decide, ?_⟩) (fun y => ⟨by decide, ?_⟩) (fun e m1 y g P1 f1 => ⟨by decide, ?_⟩)
  · rw [if_neg (by decide)]
    rw [if_neg (fun z => z y)] at E
    refine c_ahead1 (ks := 22) (m0 := m) hE fe_unary (by decide) (by decide) (by omega) (by omega) (by decide) (by omega) pb.2.1 P1 (by rw [f1 _ _ (by omega)]; exact t5) hb (FwM.refl.f11 f1) (by decide) (by decide) g (fun rs q ao hq r m' k' P' F' T' n' => h1 [[((22, plS tk p, 0, 0), chT [fstP rs])]] q ?_ r m' k' P' F' T' n') (fun e z => h0 e (by rw [E, z]; rfl)) (fun e ao z => h0 e (by rw [E, ao]; show (pS tk f 7 acc0 (p + 1) (o + 1) >>= _) = _; rw [z]; rfl))
    rw [E, ao]; show (pS tk f 7 acc0 (p + 1) (o + 1) >>= _) = _; rw [hq]; rfl
  · rw [if_pos rfl]
    rw [if_pos y] at E
    exact hR d p o k0 m Q (by omega) (by omega) hP hb (fun rs q z => h1 rs q (by rw [E]; exact z)) (fun e z => h0 e (by rw [E]; exact z))
  · rw [if_neg (by decide)]
    rw [if_neg (fun z => z y), op_3 g] at E
    refine f_opens P1 (by omega) (fun m2 P2 f2 => ?_)
    exact f_aheadT fe_unary (by omega) P2 ob.1 (by omega) (by omega) ((FwM.refl.f11 f1).f12 f2) (Int.le_refl _) (by omega) (h0 e (by rw [E]; rfl))
/-! if -/
theorem f_if3 {r3 r5 : Int} (hP : PF m e q (o + 1) k) (o0 : 0 ≤ o) (tb : 0 ≤ p ∧ p < 420) (kb : k < 12000) (fr : FwM k0 m0 m) (hq : p ≤ q) (hk : k0 ≤ k ∧ k ≤ k0 + 2 * (q - p) + 1) (h0 : EmEr k0 p Q m0 o e) : ∀ (r7 : Int) (m8 : MM), m8 = up m 582 12 ((m 582 12) - 1) → P_X10_node 8 r3 r5 r7 p m8 (fun r8 m9 => Q r8 m9) := by
  intro r7 m8 h8
  have w := hP.cl o0 h8
  exact f_nodeM w.1 kb tb (fr.f12 w.2) hk.1 (fun m5 P5 F5 => h0 k m5 q (k + 1) P5 F5 hq (by omega) (by omega))
theorem f_if2 {r3 : Int} (hd : 10 ≤ dep) (hP : PF m e q (o + 1) k) (o0 : 0 ≤ o) (tb : 0 ≤ p ∧ p < 420) (kb : k < 12000) (fr : FwM k0 m0 m) (hq : p ≤ q) (hk : k0 ≤ k ∧ k ≤ k0 + 2 * (q - p) + 1) (h0 : EmEr k0 p Q m0 o e) (r5 : Int) : P_X10_key 1701606245 m (fun r6 m6 => R_X10_readE dep 4 [] m6 (fun r7 m7 => ∀ m8 : MM, m8 = up m7 582 12 ((m7 582 12) - 1) → P_X10_node 8 r3 r5 r7 p m8 (fun r8 m9 => Q r8 m9)) T) :=
  f_key hP (fe_E dep e q (o + 1) k m _ hd hP (f_if3 hP o0 tb kb fr hq hk h0 0))
theorem f_if1 (hd : 10 ≤ dep) (hP : PF m e q (o + 1) k) (o0 : 0 ≤ o) (tb : 0 ≤ p ∧ p < 420) (kb : k < 12000) (fr : FwM k0 m0 m) (hq : p ≤ q) (hk : k0 ≤ k ∧ k ≤ k0 + 2 * (q - p) + 1) (h0 : EmEr k0 p Q m0 o e) (r3 : Int) : P_X10_key 1952998766 m (fun r4 m4 => R_X10_readE dep 4 [] m4 (fun r5 m5 => P_X10_key 1701606245 m5 (fun r6 m6 => R_X10_readE dep 4 [] m6 (fun r7 m7 => ∀ m8 : MM, m8 = up m7 582 12 ((m7 582 12) - 1) → P_X10_node 8 r3 r5 r7 p m8 (fun r8 m9 => Q r8 m9)) T)) T) :=
  f_key hP (fe_E dep e q (o + 1) k m _ hd hP (f_if2 hd hP o0 tb kb fr hq hk h0 0))
theorem c_exprM (hE : ExM tk N T f 0 4 13) (hR : ExM tk N T f 1 7 12) : ExM tk N T (f + 1) 0 4 13 := by
  intro dep p o k0 m Q hf hd hP hb h1 h0
  have ob := hP.2.2.2.1.2
  have pb := hP.2.1
  have kb := hP.2.2.2.2
  have t5 := hP.tok.2.1
  obtain ⟨d, rfl⟩ : ∃ d, dep = d + 1 := ⟨dep - 1, by omega⟩
  have dd : 10 ≤ d := by omega
  have tb : 0 ≤ p ∧ p < 420 := by omega
  have E : pS tk (f + 1) 0 acc0 p o = bExp tk (pS tk f) p o := rfl
  unfold bExp at E
  show W_X10_readE (R_X10_readE d) m Q T
  unfold W_X10_readE
  rw [pb.1]
  refine c_takesKeyM (c := 0) rfl (by decide) hP (fun m1 y g P1 f1 => ⟨by decide, ?_⟩) (fun y => ⟨by decide, ?_⟩) (fun e m1 y g P1 f1 => ⟨by decide, ?_⟩)
  · rw [if_neg (by decide)]
    rw [if_neg (fun z => z y)] at E
    have F1 : FwM k0 m m1 := FwM.refl.f11 f1
    refine c_opensM P1 pb.2.1 (fun m2 yo P2 f2 => ?_) (fun m2 yo P2 f2 => ?_)
    · rw [op_1 g yo] at E
      have E1 : pS tk (f + 1) 0 acc0 p o = (pS tk f 0 acc0 (p + 1) (o + 1) >>= fun x => nkS tk 1 x.2 >>= fun q2 => pS tk f 0 acc0 q2 (o + 1) >>= fun x2 => nkS tk 2 x2.2 >>= fun q4 => pS tk f 0 acc0 q4 (o + 1) >>= fun x3 => oneR ((8, plS tk p, 0, 0), chT [fstP x.1, fstP x2.1, fstP x3.1]) x3.2) := E
      clear E
      have F2 := F1.f12 f2
      refine hE d (p + 1) (o + 1) k0 m2 _ (by omega) (by omega) P2 (by omega) (fun ra qa ha r3 m3 k3 P3 F3 T3 n3 => ?_) (fun e z r3 m3 q k3 P3 F3 hq k3a k3b => ?_)
      · have la := (pS_lt ha).1
        rw [ha] at E1
        have E2 : pS tk (f + 1) 0 acc0 p o = (nkS tk 1 qa >>= fun q2 => pS tk f 0 acc0 q2 (o + 1) >>= fun x2 => nkS tk 2 x2.2 >>= fun q4 => pS tk f 0 acc0 q4 (o + 1) >>= fun x3 => oneR ((8, plS tk p, 0, 0), chT [fstP ra, fstP x2.1, fstP x3.1]) x3.2) := E1
        clear E1
        have F3' := F2.trans F3 (Int.le_refl _)
        have r3r := T3.rng
        have pq3 := P3.2.1
        refine c_keyM (c := 1) rfl (by decide) P3 (fun m4 g4 P4 f4 => ?_) (fun e m4 g4 P4 f4 => ?_)
        · rw [g4] at E2
          have E3 : pS tk (f + 1) 0 acc0 p o = (pS tk f 0 acc0 (qa + 1) (o + 1) >>= fun x2 => nkS tk 2 x2.2 >>= fun q4 => pS tk f 0 acc0 q4 (o + 1) >>= fun x3 => oneR ((8, plS tk p, 0, 0), chT [fstP ra, fstP x2.1, fstP x3.1]) x3.2) := E2
          clear E2
          have F4 := F3'.f11 f4
          refine hE d (qa + 1) (o + 1) k3 m4 _ (by omega) (by omega) P4 (by omega) (fun rb qb hq r5 m5 k5 P5 F5 T5 n5 => ?_) (fun e z r5 m5 q k5 P5 F5 hq k5a k5b => ?_)
          · have lb := (pS_lt hq).1
            rw [hq] at E3
            have E4 : pS tk (f + 1) 0 acc0 p o = (nkS tk 2 qb >>= fun q4 => pS tk f 0 acc0 q4 (o + 1) >>= fun x3 => oneR ((8, plS tk p, 0, 0), chT [fstP ra, fstP rb, fstP x3.1]) x3.2) := E3
            clear E3
            have F5' := F4.trans F5 (by omega)
            have r5r := T5.rng
            have pq5 := P5.2.1
            refine c_keyM (c := 2) rfl (by decide) P5 (fun m6 g6 P6 f6 => ?_) (fun e m6 g6 P6 f6 => ?_)
            · rw [g6] at E4
              have E5 : pS tk (f + 1) 0 acc0 p o = (pS tk f 0 acc0 (qb + 1) (o + 1) >>= fun x3 => oneR ((8, plS tk p, 0, 0), chT [fstP ra, fstP rb, fstP x3.1]) x3.2) := E4
              clear E4
              have F6 := F5'.f11 f6
              refine hE d (qb + 1) (o + 1) k5 m6 _ (by omega) (by omega) P6 (by omega) (fun rc qc hc r7 m7 k7 P7 F7 T7 n7 => ?_) (fun e z r7 m7 q k7 P7 F7 hq k7a k7b => ?_)
              · have lc := (pS_lt hc).1
                have F7' := F6.trans F7 (by omega)
                have r7r := T7.rng
                have pq7 := P7.2.1
                intro m8 h8
                have w8 := P7.cl ob.1 h8
                have F8 := F7'.f12 w8.2
                have t5' : m8 588 p = plS tk p := by rw [F8 _ _ (by omega) (by omega)]; exact t5
                refine c_nodeM w8.1.2.2.2.2.1 ⟨by omega, by omega⟩ tb (fun m9 f9 e15 e590 e591 e592 e593 e594 e595 e597 e605 => ?_)
                rw [t5'] at e595
                have A3 : TNB m9 (fstP ra) k0 k3 r3 := T3.fr (fun c i z z1 z2 => by
                  rw [f9 c i (by omega) (by omega), w8.2 c i (by omega), F7 c i (by omega) (by omega), f6 c i (by omega), F5 c i (by omega) (by omega), f4 c i (by omega)]) r3r.1 (Int.le_refl _) (Int.le_refl _) r3r.2.2.2
                have A5 : TNB m9 (fstP rb) k3 k5 r5 := T5.fr (fun c i z z1 z2 => by
                  rw [f9 c i (by omega) (by omega), w8.2 c i (by omega), F7 c i (by omega) (by omega), f6 c i (by omega)]) r5r.1 (Int.le_refl _) (Int.le_refl _) r5r.2.2.2
                have A7 : TNB m9 (fstP rc) k5 k7 r7 := T7.fr (fun c i z z1 z2 => by
                  rw [f9 c i (by omega) (by omega), w8.2 c i (by omega)]) r7r.1 (Int.le_refl _) (Int.le_refl _) r7r.2.2.2
                refine h1 [[((8, plS tk p, 0, 0), chT [fstP ra, fstP rb, fstP rc])]] qc (by rw [E5, hc]; rfl) k7 m9 (k7 + 1) (w8.1.nd f9 e15) (F8.ad (by omega) f9) ?_ (by omega)
                refine ⟨k0, k7, [r3, r5, r7], by omega, ⟨fun _ => by rw [e590]; rfl, e595, fun z => ?_, fun z => ?_, fun z => ?_, fun z => ?_, fun z => ?_⟩, ⟨fun z => ?_, fun z => ?_, fun _ => by rw [e591, e592, e593], fun z => ?_, fun z => ?_, fun z => ?_, fun z => ?_, fun z => ?_, fun z => ?_⟩, ⟨r3, [r5, r7], k3, rfl, by omega, A3, r5, [r7], k5, rfl, by omega, A5, A7.one⟩⟩
                all_goals (exfalso; simp [fstP] at z)
              · exact f_if3 P7 ob.1 tb (by have := P7.1; omega) (F6.trans F7 (by omega)) (by omega) (by omega) (h0 e (by rw [E5, z]; rfl)) r7
            · exact fe_E d e qb (o + 1) k5 m6 _ dd P6 (f_if3 P6 ob.1 tb (by omega) (F5'.f11 f6) (by omega) (by omega) (h0 e (by rw [E4, g6]; rfl)) 0)
          · exact f_if2 dd P5 ob.1 tb (by have := P5.1; omega) (F4.trans F5 (by omega)) (by omega) (by omega) (h0 e (by rw [E3, z]; rfl)) r5
        · exact fe_E d e qa (o + 1) k3 m4 _ dd P4 (f_if2 dd P4 ob.1 tb (by omega) (F3'.f11 f4) (by omega) (by omega) (h0 e (by rw [E2, g4]; rfl)) 0)
      · exact f_if1 dd P3 ob.1 tb (by have := P3.1; omega) (F2.trans F3 (Int.le_refl _)) (by omega) (by omega) (h0 e (by rw [E1, z]; rfl)) r3
    · rw [op_2 g yo] at E
      exact fe_E d _ _ _ _ m2 _ dd P2 (f_if1 dd P2 ob.1 tb (by omega) (F1.f12 f2) (by omega) (by omega) (h0 _ (by rw [E]; rfl)) 0)
  · rw [if_pos rfl]
    rw [if_pos y] at E
    exact hR d p o k0 m Q (by omega) (by omega) hP hb (fun rs q z => h1 rs q (by rw [E]; exact z)) (fun e z => h0 e (by rw [E]; exact z))
  · rw [if_neg (by decide)]
    rw [if_neg (fun z => z y), op_3 g] at E
    refine f_opens P1 (by omega) (fun m2 P2 f2 => ?_)
    exact fe_E d e p (o + 1) k0 m2 _ dd P2 (f_if1 dd P2 ob.1 tb (by omega) ((FwM.refl.f11 f1).f12 f2) (Int.le_refl _) (by omega) (h0 e (by rw [E]; rfl)) 0)
end AHEADM
