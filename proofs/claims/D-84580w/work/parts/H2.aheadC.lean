set_option maxRecDepth 100000
/-! the component's parser: what stands ahead, if, what stands behind -/
section AHEADC
variable {T : MM → Prop} {tk : Int → TK} {N b : Int} {f dep n : Nat} {m0 m : MM} {p o lo s x w kd : Int} {a : PT} {Q K : Int → MM → Prop}
/-- a new node at the end of a text -/
theorem c_newC {k0 : Int} (hP : PC m tk N b p o) (hn : m b 0 = k0) (hk : 0 ≤ k0 ∧ k0 < 160) (hkd : ¬ (kd = 4 ∨ kd = 5 ∨ kd = 33 ∨ kd = 35)) (h : ∀ m', (∀ c i, ¬ ((b + 1 ≤ c ∧ c ≤ b + 6) ∧ i = k0) → ¬ (c = b ∧ i = 0) → m' c i = m c i) → m' b 0 = k0 + 1 → PC m' tk N b p o → NdH m' b k0 (kd, w, 0, 0) → K k0 m') : P_X2_add b kd w m K := by
  have hb' := tx_b hP.1.1
  refine c_addC hP.1.1 hn hk (fun m1 f g0 g1 g2 g3 g4 g5 g6 => ?_)
  exact h m1 f g0 (hP.ag (fun c i z => f c i (by omega) (by omega))) ⟨⟨g1, g4, g5, fun z => absurd z hkd⟩, g2, g3⟩
/-- `open` is taken back -/
theorem PC.cl {m' : MM} (h : PC m tk N b p (o + 1)) (o0 : 0 ≤ o) (e : m' = up m 365 3 (m 365 3 - 1)) : PC m' tk N b p o := by
  have hb' := tx_b h.1.1
  subst e
  refine h.fr (fun c i _ z => up_ne (fun y => z ⟨y.1, Or.inr y.2⟩)) ⟨?_, h.2.2.1.2⟩ ⟨?_, by have := h.2.2.2.2; omega⟩
  · rw [up_ne (by omega)]; exact h.2.2.1.1
  · rw [up_at, h.2.2.2.1]; omega
theorem c_aheadC {md id : Nat} {l : Int} {k0 : Int} (hE : ExC tk N b T f md id l) (hf : 20 * (151 - (p + 1)) + l < f) (hd : 13 * (12 - (o + 1)) + l ≤ dep + 1) (hP : PC m tk N b p o) (hk : 1 ≤ (tk p).1 ∧ (tk p).1 ≤ 5) (hn : m b 0 = k0) (hs : 0 ≤ k0 ∧ 0 ≤ s ∧ k0 + s ≤ p) (hkd : ¬ (kd = 4 ∨ kd = 5 ∨ kd = 33 ∨ kd = 35))
    (h1 : ∀ rs q, opS tk p o = .ok (p + 1) → pS tk f md acc0 (p + 1) (o + 1) = .ok (rs, q) → ∀ r m', PC m' tk N b q o → Fnw b k0 m m' → TNs m' b ((kd, w, 0, 0), chT [fstP rs]) k0 (m' b 0) r → m' b 0 + s ≤ q → Q r m')
    (e1 : ∀ e, opS tk p o = .error e → PEr T b m e) (e2 : ∀ e, opS tk p o = .ok (p + 1) → pS tk f md acc0 (p + 1) (o + 1) = .error e → PEr T b m e) :
    P_X2_add b kd w m (fun r3 m3 => P_X3_opens m3 (fun _ m4 => isTx (m4 365 1) ∧ R_X3_expression dep id [] m4 (fun r5 m5 => (0 ≤ r3 ∧ r3 < 160) ∧ ∀ m6 : MM, m6 = up m5 ((m4 365 1) + 2) r3 r5 → ∀ m7 : MM, m7 = up m6 365 3 ((m6 365 3) - 1) → Q r3 m7) T) T) := by
  have hb := hP.1.1
  have hb' := tx_b hb
  have pb := hP.2.2.1
  have ob := hP.2.2.2.2
  refine c_newC hP hn (by omega) hkd (fun m3 f3 n3 P3 d3 => ?_)
  have F3 : Fnw b k0 m m3 := Fnw.refl.ad (Int.le_refl _) f3
  refine c_opensP P3 hk (fun m4 a4 g4 P4 => ⟨by rw [P4.2.1]; exact hb, ?_⟩) (fun e z => F3.per hb (e1 e z))
  rw [P4.2.1]
  have F4 := F3.s3 g4
  refine hE dep (p + 1) (o + 1) (k0 + 1) s m4 _ hf hd P4 (by rw [g4 _ _ (by omega)]; exact n3) (by omega) (fun rs q hq r m5 P5 F5 T5 n5 => ⟨by omega, ?_⟩) (fun e z => F4.per hb (e2 e a4 z))
  rintro m6 rfl m7 h7
  have d5 : NdH m5 b k0 (kd, w, 0, 0) := d3.fr (fun c z => (F5 c k0 (by omega) (by omega) (by omega)).trans (g4 c k0 (by omega)))
  have P6 := P5.tx (c := b + 2) (i := k0) (v := r) (by omega)
  have P7 := P6.cl ob.1 h7
  have w6 := d5.one hs.1 T5
  have en : m7 b 0 = m5 b 0 := by rw [h7, up_ne (by omega), up_ne (by omega)]
  refine h1 rs q a4 hq k0 m7 P7 ?_ ?_ (by omega)
  · have F6 : Fnw b k0 m (up m5 (b + 2) k0 r) := (F4.trans F5 (by omega)).tx (by omega) (Int.le_refl _)
    exact F6.s3 (fun c i z => by rw [h7]; exact up_ne (fun y => z ⟨y.1, Or.inr y.2⟩))
  · rw [en]
    exact w6.fr (fun c i z z1 z2 => by rw [h7]; exact up_ne (by omega))
theorem c_negC (hE : ExC tk N b T f 3 8 10) (hR : ExC tk N b T f 4 10 9) : ExC tk N b T (f + 1) 3 8 10 := by
  intro dep p o k0 s m Q hf hd hP hn hs h1 h0
  have hb := hP.1.1
  have ob := hP.2.2.2.2
  obtain ⟨d, rfl⟩ : ∃ d, dep = d + 1 := ⟨dep - 1, by omega⟩
  show W_X3_negated (R_X3_expression d) m Q T
  have E : pS tk (f + 1) 3 acc0 p o = bAhead tk (pS tk f) (isKy tk 5 p) 11 3 4 p o := rfl
  unfold bAhead at E
  refine c_keyP (by decide) hP (fun y => ⟨by decide, ?_⟩) (fun y => ⟨by decide, ?_⟩)
  · rw [if_neg (by decide)]
    rw [if_neg (fun z => z y)] at E
    refine c_hereP hP ⟨by rw [hP.2.1]; exact hb, ?_⟩
    rw [hP.2.1]
    refine c_aheadC hE (by omega) (by omega) hP (ky_kd y) hn hs (by decide) (fun rs q ao hq r m' P' F' T' n' => h1 [[((11, plS tk p, 0, 0), chT [fstP rs])]] q ?_ r m' P' F' T' n') (fun e z => h0 e (by rw [E, z]; rfl)) (fun e ao z => h0 e (by rw [E, ao]; show (pS tk f 3 acc0 (p + 1) (o + 1) >>= _) = _; rw [z]; rfl))
    rw [E, ao]; show (pS tk f 3 acc0 (p + 1) (o + 1) >>= _) = _; rw [hq]; rfl
  · rw [if_pos rfl]
    rw [if_pos y] at E
    exact hR d p o k0 s m Q (by omega) (by omega) hP hn hs (fun rs q z => h1 rs q (by rw [E]; exact z)) (fun e z => h0 e (by rw [E]; exact z))
theorem c_minusC (hE : ExC tk N b T f 7 7 6) (hR : ExC tk N b T f 8 2 5) : ExC tk N b T (f + 1) 7 7 6 := by
  intro dep p o k0 s m Q hf hd hP hn hs h1 h0
  have hb := hP.1.1
  have ob := hP.2.2.2.2
  obtain ⟨d, rfl⟩ : ∃ d, dep = d + 1 := ⟨dep - 1, by omega⟩
  show W_X3_minus (R_X3_expression d) m Q T
  have E : pS tk (f + 1) 7 acc0 p o = bAhead tk (pS tk f) (isSg tk 45 p) 22 7 8 p o := rfl
  unfold bAhead at E
  refine c_signP (by decide) hP (fun y => ⟨by decide, ?_⟩) (fun y => ⟨by decide, ?_⟩)
  · rw [if_neg (by decide)]
    rw [if_neg (fun z => z y)] at E
    refine c_hereP hP ⟨by rw [hP.2.1]; exact hb, ?_⟩
    rw [hP.2.1]
    refine c_aheadC hE (by omega) (by omega) hP (sg_kd y) hn hs (by decide) (fun rs q ao hq r m' P' F' T' n' => h1 [[((22, plS tk p, 0, 0), chT [fstP rs])]] q ?_ r m' P' F' T' n') (fun e z => h0 e (by rw [E, z]; rfl)) (fun e ao z => h0 e (by rw [E, ao]; show (pS tk f 7 acc0 (p + 1) (o + 1) >>= _) = _; rw [z]; rfl))
    rw [E, ao]; show (pS tk f 7 acc0 (p + 1) (o + 1) >>= _) = _; rw [hq]; rfl
  · rw [if_pos rfl]
    rw [if_pos y] at E
    exact hR d p o k0 s m Q (by omega) (by omega) hP hn hs (fun rs q z => h1 rs q (by rw [E]; exact z)) (fun e z => h0 e (by rw [E]; exact z))
/-- an expression: if, or a disjunction -/
theorem c_exprC (hE : ExC tk N b T f 0 5 13) (hR : ExC tk N b T f 1 4 12) : ExC tk N b T (f + 1) 0 5 13 := by
  intro dep p o k0 s m Q hf hd hP hn hs h1 h0
  have hb := hP.1.1
  have hb' := tx_b hb
  have ob := hP.2.2.2.2
  have pb := hP.2.2.1
  obtain ⟨d, rfl⟩ : ∃ d, dep = d + 1 := ⟨dep - 1, by omega⟩
  show W_X3_expression (R_X3_expression d) m Q T
  have E : pS tk (f + 1) 0 acc0 p o = bExp tk (pS tk f) p o := rfl
  unfold bExp at E
  refine c_keyP (by decide) hP (fun y => ⟨by decide, ?_⟩) (fun y => ⟨by decide, ?_⟩)
  · rw [if_neg (by decide)]
    rw [if_neg (fun z => z y)] at E
    refine c_hereP hP ⟨by rw [hP.2.1]; exact hb, ?_⟩
    rw [hP.2.1]
    refine c_newC hP hn (by omega) (by decide) (fun m3 f3 n3 P3 d3 => ?_)
    have F3 : Fnw b k0 m m3 := Fnw.refl.ad (Int.le_refl _) f3
    refine c_opensP P3 (ky_kd y) (fun m4 a4 g4 P4 => ?_) (fun e z => F3.per hb (h0 e (by rw [E, z]; rfl)))
    have F4 := F3.s3 g4
    have n4 : m4 b 0 = k0 + 1 := by rw [g4 _ _ (by omega)]; exact n3
    rw [a4] at E
    have E1 : pS tk (f + 1) 0 acc0 p o = (pS tk f 0 acc0 (p + 1) (o + 1) >>= fun x => nkS tk 1 x.2 >>= fun q2 => pS tk f 0 acc0 q2 (o + 1) >>= fun x2 => nkS tk 2 x2.2 >>= fun q4 => pS tk f 0 acc0 q4 (o + 1) >>= fun x3 => oneR ((8, plS tk p, 0, 0), chT [fstP x.1, fstP x2.1, fstP x3.1]) x3.2) := E
    clear E
    refine hE d (p + 1) (o + 1) (k0 + 1) s m4 _ (by omega) (by omega) P4 n4 (by omega) (fun ra qa ha r5 m5 P5 F5 T5 n5 => ?_) (fun e z => F4.per hb (h0 e (by rw [E1, z]; rfl)))
    have la := (pS_lt ha).1
    have F50 := F4.trans F5 (by omega)
    rw [ha] at E1
    have E2 : pS tk (f + 1) 0 acc0 p o = (nkS tk 1 qa >>= fun q2 => pS tk f 0 acc0 q2 (o + 1) >>= fun x2 => nkS tk 2 x2.2 >>= fun q4 => pS tk f 0 acc0 q4 (o + 1) >>= fun x3 => oneR ((8, plS tk p, 0, 0), chT [fstP ra, fstP x2.1, fstP x3.1]) x3.2) := E1
    clear E1
    refine c_needKeyP (by decide) P5 (fun m6 a6 g6 P6 => ?_) (fun e z => F50.per hb (h0 e (by rw [E2, z]; rfl)))
    rw [a6] at E2
    have E3 : pS tk (f + 1) 0 acc0 p o = (pS tk f 0 acc0 (qa + 1) (o + 1) >>= fun x2 => nkS tk 2 x2.2 >>= fun q4 => pS tk f 0 acc0 q4 (o + 1) >>= fun x3 => oneR ((8, plS tk p, 0, 0), chT [fstP ra, fstP x2.1, fstP x3.1]) x3.2) := E2
    clear E2
    have F60 := F50.s2 g6
    have r5r := T5.rng
    have n6 : m6 b 0 = m5 b 0 := g6 _ _ (by omega)
    refine hE d (qa + 1) (o + 1) (m5 b 0) s m6 _ (by omega) (by omega) P6 n6 (by omega) (fun rb qb hq r7 m7 P7 F7 T7 n7 => ?_) (fun e z => F60.per hb (h0 e (by rw [E3, z]; rfl)))
    have lb := (pS_lt hq).1
    have F70 := F60.trans F7 (by omega)
    rw [hq] at E3
    have E4 : pS tk (f + 1) 0 acc0 p o = (nkS tk 2 qb >>= fun q4 => pS tk f 0 acc0 q4 (o + 1) >>= fun x3 => oneR ((8, plS tk p, 0, 0), chT [fstP ra, fstP rb, fstP x3.1]) x3.2) := E3
    clear E3
    refine c_needKeyP (by decide) P7 (fun m8 a8 g8 P8 => ?_) (fun e z => F70.per hb (h0 e (by rw [E4, z]; rfl)))
    rw [a8] at E4
    have E5 : pS tk (f + 1) 0 acc0 p o = (pS tk f 0 acc0 (qb + 1) (o + 1) >>= fun x3 => oneR ((8, plS tk p, 0, 0), chT [fstP ra, fstP rb, fstP x3.1]) x3.2) := E4
    clear E4
    have F80 := F70.s2 g8
    have r7r := T7.rng
    have n8 : m8 b 0 = m7 b 0 := g8 _ _ (by omega)
    refine hE d (qb + 1) (o + 1) (m7 b 0) s m8 _ (by omega) (by omega) P8 n8 (by omega) (fun rc qc hc r9 m9 P9 F9 T9 n9 => ?_) (fun e z => F80.per hb (h0 e (by rw [E5, z]; rfl)))
    have F90 := F80.trans F9 (by omega)
    have r9r := T9.rng
    intro m10 h10
    have P10 := P9.cl ob.1 h10
    have g10 : ∀ c i, ¬ (c = 365 ∧ (i = 2 ∨ i = 3)) → m10 c i = m9 c i := fun c i z => by rw [h10]; exact up_ne (fun y => z ⟨y.1, Or.inr y.2⟩)
    have F10 := F90.s3 g10
    rw [P10.2.1]
    refine ⟨hb, by omega, ?_⟩
    rintro m11 rfl
    have P11 := P10.tx (c := b + 2) (i := k0) (v := r5) (by omega)
    rw [P11.2.1]
    refine ⟨hb, by omega, ?_⟩
    rintro m12 rfl
    have P12 := P11.tx (c := b + 3) (i := r5) (v := r7) (by omega)
    rw [P12.2.1]
    refine ⟨hb, by omega, ?_⟩
    rintro m13 rfl
    have P13 := P12.tx (c := b + 3) (i := r7) (v := r9) (by omega)
    have c3 : Chn m3 b (8, plS tk p, 0, 0) [] k0 (k0 + 1) (-1) := d3.chn (by omega)
    have A1 : Agr b k0 (k0 + 1) m3 m10 := fun c i z z1 z2 => by
      rw [g10 c i (by omega), F9 c i (by omega) (by omega) (by omega), g8 c i (by omega), F7 c i (by omega) (by omega) (by omega), g6 c i (by omega), F5 c i (by omega) (by omega) (by omega), g4 c i (by omega)]
    have t5 : TNs m10 b (fstP ra) (k0 + 1) (m5 b 0) r5 := T5.fr (fun c i z z1 z2 => by
      rw [g10 c i (by omega), F9 c i (by omega) (by omega) (by omega), g8 c i (by omega), F7 c i (by omega) (by omega) (by omega), g6 c i (by omega)])
    have t7 : TNs m10 b (fstP rb) (m5 b 0) (m7 b 0) r7 := T7.fr (fun c i z z1 z2 => by
      rw [g10 c i (by omega), F9 c i (by omega) (by omega) (by omega), g8 c i (by omega)])
    have t9 : TNs m10 b (fstP rc) (m7 b 0) (m9 b 0) r9 := T9.fr (fun c i z z1 z2 => g10 c i (by omega))
    have c5 := (c3.add A1 t5).1 rfl
    have t7' : TNs (up m10 (b + 2) k0 r5) b (fstP rb) (m5 b 0) (m7 b 0) r7 := t7.fr (fun c i z z1 z2 => up_ne (by omega))
    have c7 := ((c5.add (fun _ _ _ _ _ => rfl) t7').2 (by omega)).2
    have t9' : TNs (up (up m10 (b + 2) k0 r5) (b + 3) r5 r7) b (fstP rc) (m7 b 0) (m9 b 0) r9 := t9.fr (fun c i z z1 z2 => by rw [up_ne (by omega), up_ne (by omega)])
    have c9 := ((c7.add (fun _ _ _ _ _ => rfl) t9').2 (by omega)).2
    have en : up (up (up m10 (b + 2) k0 r5) (b + 3) r5 r7) (b + 3) r7 r9 b 0 = m9 b 0 := by
      rw [up_ne (by omega), up_ne (by omega), up_ne (by omega)]; exact g10 _ _ (by omega)
    refine h1 [[((8, plS tk p, 0, 0), chT [fstP ra, fstP rb, fstP rc])]] qc (by rw [E5, hc]; rfl) k0 _ P13 (((F10.tx (by omega) (by omega)).tx (by omega) (by omega)).tx (by omega) (by omega)) ?_ (by rw [en]; exact n9)
    rw [en]
    exact c9.fin
  · rw [if_pos rfl]
    rw [if_pos y] at E
    exact hR d p o k0 s m Q (by omega) (by omega) hP hn hs (fun rs q z => h1 rs q (by rw [E]; exact z)) (fun e z => h0 e (by rw [E]; exact z))
end AHEADC
