set_option maxRecDepth 100000
/-! the value of a polynomial at a place -/
def atG (mu d s ch dp : Int) (u : Int → PP) (W : VV) : Nat → VV → EX VV
  | 0, A => .ok A
  | n + 1, A => match mulV mu d s A W with
    | .error e => .error e
    | .ok B => match addV mu 0 d s B (goV ch mu 0 s (rvv (coS dp (n : Int) u))) with
      | .error e => .error e
      | .ok C => atG mu d s ch dp u W n C
def atS (mu d s ch dp : Int) (u : Int → PP) (W : VV) : EX VV := atG mu d s ch dp u W 7 zV
theorem atG_err {mu d s ch dp e : Int} {u : Int → PP} {W : VV} : ∀ (n : Nat) (A : VV), atG mu d s ch dp u W n A = .error e → e = 1 ∨ e = 4 := by
  intro n
  induction n with
  | zero => intro A h; cases h
  | succ n ih =>
    intro A h
    unfold atG at h
    split at h
    case h_1 he => cases h; exact mulV_err he
    case h_2 B hB =>
      split at h
      case h_1 he => cases h; exact Or.inl (addV_err he)
      case h_2 C hC => exact ih C h
/-- a coefficient goes to the ring -/
theorem coG_NN {mu mub d s ch dp i : Int} {u : Int → PP} (hM : MU mu) (hMb : MU mub) (hd : 0 ≤ d ∧ d ≤ 2) (hdp : 1 ≤ dp ∧ dp ≤ 2) (hde : dp - 1 ≤ d) (nu : NR mub (cof dp) u) (hch : (ch = 0 → mub = mu) ∧ (ch ≠ 0 → mub = 0)) : NN mu d s (goV ch mu 0 s (rvv (coS dp i u))) := by
  have nn : NN mub (dp - 1) 0 (rvv (coS dp i u)) := rvv_NN hMb (coS_NR hMb nu)
  exact goV_NN hM (by omega) hd hde (fun z => by rw [← hch.1 z]; exact nn) (fun z => by have q := nn; rw [hch.2 z] at q; exact q)
theorem atG_NN {mu mub d s ch dp : Int} {u : Int → PP} {W : VV} (hM : MU mu) (hMb : MU mub) (hd : 0 ≤ d ∧ d ≤ 2) (hdp : 1 ≤ dp ∧ dp ≤ 2) (hde : dp - 1 ≤ d) (nu : NR mub (cof dp) u) (nW : NN mu d s W) (hch : (ch = 0 → mub = mu) ∧ (ch ≠ 0 → mub = 0)) : ∀ (n : Nat) (A U : VV), NN mu d s A → atG mu d s ch dp u W n A = .ok U → NN mu d s U := by
  intro n
  induction n with
  | zero => intro A U nA h; cases h; exact nA
  | succ n ih =>
    intro A U nA h
    unfold atG at h
    split at h
    case h_1 => cases h
    case h_2 B hB =>
      split at h
      case h_1 => cases h
      case h_2 C hC => exact ih C U (addV_NN hM hd (mulV_NN hM hd nA.nv nW.nv hB).nv (coG_NN hM hMb hd hdp hde nu hch).nv hC) h
section ATV
variable {Q : Int → MM → Prop} {r rp b bp base basep mu mub d dp s ch x y pl : Int} {u : Int → PP} {W : VV}
def SPl (pl : Int) (q : Int) : Prop := pl ≤ q ∧ q < pl + 882 ∨ 1155420 ≤ q
theorem coS_Rw {g : Int → Int} {i : Int} (hdp : 1 ≤ dp ∧ dp ≤ 2) (rx : Rw g x u (cof dp)) (hi : 0 ≤ i ∧ i < 7) : Rw g (x + 2 * cof (dp - 1) * i) (coS dp i u) (cof (dp - 1)) := by
  obtain ⟨l1, l2, l3⟩ := cof_less hdp
  have e : 2 * cof (dp - 1) * i = 2 * (cof (dp - 1) * i) := Int.mul_assoc ..
  have bd : 0 ≤ cof (dp - 1) * i ∧ cof (dp - 1) * i + cof (dp - 1) ≤ cof dp := by
    rcases l3 with ⟨z, -⟩ | ⟨z, -⟩ <;> rw [z] at l2 ⊢ <;> omega
  intro k k0 k1
  have o := rx (cof (dp - 1) * i + k) (by omega) (by omega)
  have ev : coS dp i u k = u (cof (dp - 1) * i + k) := by
    unfold coS
    rw [if_pos ⟨hi.1, hi.2, k0, k1⟩]
  rw [ev, show x + 2 * cof (dp - 1) * i + 2 * k = x + 2 * (cof (dp - 1) * i + k) by omega]
  exact o
theorem c_X6_atValue {m : MM} (hR : RG r b d s) (hP : RG rp bp dp 0) (hdp : 1 ≤ dp) (hde : dp - 1 ≤ d) (hch : ch = if bp = b then 0 else 1) (hmu : muC m b = mu) (hM : MU mu) (hMb : MU mub) (hcm : (ch = 0 → mub = mu) ∧ (ch ≠ 0 → mub = 0)) (he : m 378 2 = 0) (bx : 0 ≤ x ∧ x + 2 * cof dp ≤ pl) (by_ : 0 ≤ y ∧ y + VS d s ≤ pl) (ht : 0 ≤ m 376 8 ∧ m 376 8 ≤ 1700) (hpl : m 381 (m 376 8) = pl) (bp_ : 0 ≤ pl ∧ pl + 882 ≤ 1155420) (rx : Rw (m 379) x u (cof dp)) (nu : NR mub (cof dp) u) (vy : VC (m 379) y d s W) (nW : NN mu d s W) (h : OutV (SPl pl) m (atS mu d s ch dp u W) 1155420 d s Q) : P_X6_atValue rp r x y m Q := by
  obtain ⟨-, hb, hd, hs⟩ := id hR
  obtain ⟨hrp, hbp, hdp', hsp⟩ := id hP
  have vb := VS_bd hd hs
  have v2 : VS d s = 2 * (enn s * cof d) := VS_eq2
  have hL : RG (rp - 4) bp (dp - 1) 0 := ⟨by omega, hbp, by omega, hsp⟩
  have hN : (((enn s * cof d).toNat : Nat) : Int) = enn s * cof d := by omega
  obtain ⟨l1, l2, l3⟩ := cof_less ⟨hdp, hdp'.2⟩
  have hc1 : cof (dp - 1) = 1 ∨ cof (dp - 1) = 7 := by omega
  refine c_coef hL (c_number hR ?_)
  rw [← hN]
  refine c_X8_clear (by decide) (by omega) (fun m1 f1 e1 r1 => ?_)
  rw [hN] at f1 r1 ⊢
  have f1' : Fc (SPl pl) m m1 := f1.mono (fun q z => by unfold SPl; omega)
  have vz : VC (m1 379) 1156302 d s zV := by
    rw [Int.mul_comm] at r1
    exact r1.vc hd hs (fun i j c hi hj hc => rfl)
  generalize hG : atS mu d s ch dp u W = G at h
  have L : ∀ (n : Nat) (A : VV) (m' : MM), n ≤ 7 → Fc (SPl pl) m m' → m' 378 2 = 0 → VC (m' 379) 1156302 d s A → NN mu d s A → atG mu d s ch dp u W n A = G → P_X6_atValue_34 Q (n + 1) r x y (rp - 4) (cof (dp - 1)) (enn s * cof d) ((n : Int) - 1) m' := by
    intro n
    induction n with
    | zero =>
      intro A m' n7 f e v nA hs'
      refine ⟨by decide, ?_⟩
      rw [if_pos (by decide)]
      refine c_X8_copy (by omega) (by omega) (by omega) (fun m2 f2 e2 cp => ?_)
      exact h.1 A m2 hs'.symm (f.trans (f2.mono (fun q z => by unfold SPl; omega))) (by rw [e2, e]) (v.cpy hd hs cp)
    | succ n ih =>
      intro A m' n7 f e v nA hs'
      rw [show ((n + 1 : Nat) : Int) - 1 = (n : Int) by omega]
      refine ⟨by constructor <;> omega, ?_⟩
      rw [if_neg (by omega)]
      refine ⟨by rw [e]; decide, ?_⟩
      rw [if_pos e]
      unfold atG at hs'
      have vy' : VC (m' 379) y d s W := vy.fr hd hs f (fun q q0 q1 z => by unfold SPl at z; omega)
      refine c_X8_multiply hR (by rw [f.mu, hmu]) hM e (by omega) (by omega) (by omega) (by omega) (by omega) (by omega) (by omega) (by omega) v vy' nA.nv nW.nv ⟨fun B m2 h2 f2 e2 vB => ?_, fun z m2 h2 f2 e2 => ?_⟩
      · rw [h2] at hs'
        simp only at hs'
        have nB := mulV_NN hM hd nA.nv nW.nv h2
        have f2' : Fc (SPl pl) m m2 := f.trans (f2.mono (fun q z => Or.inr (SM_K hd hs z (by decide))))
        refine ⟨by rw [e2]; decide, ?_⟩
        rw [if_pos e2]
        have t1 : m2 376 8 = m 376 8 := f2'.oth (by decide) (by decide)
        have t2 : m2 381 (m2 376 8) = pl := by rw [f2'.oth (by decide) (by decide), t1]; exact hpl
        rw [t2, t1]
        have cb : 0 ≤ 2 * cof (dp - 1) * (n : Int) ∧ 2 * cof (dp - 1) * (n : Int) + 2 * cof (dp - 1) ≤ 2 * cof dp := by
          rcases hc1 with z | z <;> rw [z] at l2 ⊢ <;> omega
        refine ⟨by omega, c_X8_copy (by omega) (by omega) (by omega) (fun m3 f3 e3 cp => ?_)⟩
        have src : Rw (m2 379) (x + 2 * cof (dp - 1) * (n : Int)) (coS dp (n : Int) u) (cof (dp - 1)) := coS_Rw ⟨hdp, hdp'.2⟩ (rx.fr f2' (fun q q0 q1 z => by unfold SPl at z; omega)) (by omega)
        have vc3 : VC (m3 379) pl (dp - 1) 0 (rvv (coS dp (n : Int) u)) := VC_row (src.cp cp)
        have f3' : Fc (SPl pl) m m3 := f2'.trans (f3.mono (fun q z => by unfold SPl; omega))
        have nn : NN mub (dp - 1) 0 (rvv (coS dp (n : Int) u)) := rvv_NN hMb (coS_NR hMb nu)
        refine c_X8_turn (ch := ch) hL hR hde (Or.inr rfl) hch (by rw [f3'.mu, hmu]) hM bp_ vc3 (fun z => by rw [← hcm.1 z]; exact nn) (fun z => by have q := nn; rw [hcm.2 z] at q; exact q) (fun m4 f4 e4 v4 => ?_)
        have f4' : Fc (SPl pl) m m4 := f3'.trans (f4.mono (fun q z => by unfold SPl; omega))
        have vB4 : VC (m4 379) 1157776 d s B := (vB.fr hd hs f3 (fun q q0 q1 z => by omega)).fr hd hs f4 (fun q q0 q1 z => by omega)
        have nc := coG_NN (i := (n : Int)) (s := s) hM hMb hd ⟨hdp, hdp'.2⟩ hde nu hcm
        refine c_base hR (c_X8_addVals hd hs (by constructor <;> omega) (by rw [f4'.mu, hmu]) hM (by decide) (by rw [e4, e3, e2]) (by omega) (by omega) (by omega) (Or.inr (by omega)) (Or.inr (by omega)) vB4 v4 nB.nv nc.nv ⟨fun C m5 h5 f5 e5 v5 => ?_, fun z m5 h5 f5 e5 => ?_⟩)
        · rw [h5] at hs'
          simp only at hs'
          have := ih C m5 (by omega) (f4'.trans (f5.mono (fun q z => by unfold SPl; omega))) e5 v5 (addV_NN hM hd nB.nv nc.nv h5) hs'
          rw [show (n : Int) - 1 = (n : Int) + -1 by omega] at this
          exact this
        · rw [h5] at hs'
          have z1 := addV_err h5
          rw [← hs'] at h
          have f5' : Fc (SPl pl) m m5 := f4'.trans (f5.mono (fun q z => by unfold SPl; omega))
          have q145 : P_X6_atValue_145 Q (enn s * cof d) m5 := by
            refine c_X8_copy (by omega) (by omega) (by omega) (fun m6 f6 e6 cp6 => ?_)
            exact h.2 z m6 rfl (f5'.trans (f6.mono (fun q z => by unfold SPl; omega))) (by rw [e6, e5])
          refine ⟨by constructor <;> omega, ?_⟩
          by_cases cn : (n : Int) + -1 < 0
          · rw [if_pos cn]; exact q145
          · rw [if_neg cn]
            refine ⟨by rw [e5, z1]; decide, ?_⟩
            rw [if_neg (by rw [e5, z1]; decide)]
            exact q145
      · rw [h2] at hs'
        have := mulV_err h2
        rw [← hs'] at h
        refine ⟨by rw [e2]; constructor <;> omega, ?_⟩
        rw [if_neg (by rw [e2]; omega)]
        exact h.2 z m2 rfl (f.trans (f2.mono (fun q z => Or.inr (SM_K hd hs z (by decide))))) e2
  exact ⟨_, L 7 zV m1 (by decide) f1' (by rw [e1, he]) vz (NN_z hM) hG⟩
theorem c_X10_evalAt {m : MM} {nd na : Int} (hnd : 0 ≤ nd ∧ nd < 12000) (hna : 0 ≤ na ∧ na < 12000) (hd : 0 ≤ d ∧ d ≤ 2) (hs : 0 ≤ s ∧ s ≤ 3) (hdp : 1 ≤ dp ∧ dp ≤ 2) (hde : dp - 1 ≤ d) (n1 : m 598 nd = base) (n2 : m 599 nd = d) (n3 : m 600 nd = s) (a1 : m 598 na = basep) (a2 : m 599 na = dp) (hbp : RI basep) (hch : ch = if basep = base then 0 else 1) (hB : BM m base mu) (hMb : MU mub) (hcm : (ch = 0 → mub = mu) ∧ (ch ≠ 0 → mub = 0)) (he : m 582 84 = 0) (bx : 0 ≤ x ∧ x + 882 ≤ 1590000) (by_ : 0 ≤ y ∧ y + 882 ≤ 1590000) (dxy : Dj x 882 y 882) (vx : VM (m 635) x (rvv u)) (nu : NR mub (cof dp) u) (vy : VM (m 635) y W) (nW : NN mu d s W) (h : OutW (SQ x) m (atS mu d s ch dp u W) x Q) : P_X10_evalAt nd na x y m Q := by
  have hM : MU mu := hB.2.2.2.1
  obtain ⟨l1, l2, l3⟩ := cof_less hdp
  refine c_copy (n := 98) (by omega) (by decide) (Or.inr (by omega)) (fun m1 f1 e1 cp => ?_)
  have f1' : Fm (SQ x) m m1 := f1.mono (fun q z => by have z1 : 1595000 ≤ q ∧ q < 1595000 + 98 := z; unfold SQ; omega)
  have rt : Rw (m1 635) 1595000 u 49 := vx.row.cp (n := 49) cp
  refine c_clear (n := 441) (by omega) (by omega) (fun m2 f2 e2 r2 => ?_)
  have f2' : Fm (SQ x) m m2 := f1'.trans (f2.mono (fun q z => by have z1 : x ≤ q ∧ q < x + 2 * 441 := z; unfold SQ; omega))
  have rt2 : Rw (m2 635) 1595000 u 49 := rt.fm f2 (fun q q0 q1 z => by have z1 : x ≤ q ∧ q < x + 2 * 441 := z; omega)
  have vz : VM (m2 635) x zV := VM_clear r2
  have vy2 : VM (m2 635) y W := (vy.fm f1 (fun q q0 q1 z => by have z1 : 1595000 ≤ q ∧ q < 1595000 + 98 := z; omega)).fm f2 (fun q q0 q1 z => by have z1 : x ≤ q ∧ q < x + 2 * 441 := z; omega)
  generalize hG : atS mu d s ch dp u W = G at h
  have L : ∀ (n : Nat) (A : VV) (m' : MM), n ≤ 7 → Fm (SQ x) m m' → m' 582 84 = 0 → VM (m' 635) x A → NN mu d s A → Rw (m' 635) 1595000 u 49 → VM (m' 635) y W → atG mu d s ch dp u W n A = G → P_X10_evalAt_22 Q (n + 1) nd na x y ((n : Int) - 1) m' := by
    intro n
    induction n with
    | zero =>
      intro A m' n7 f e v nA rt' vy' hs'
      refine ⟨by decide, ?_⟩
      rw [if_pos (by decide)]
      exact h.1 A m' hs'.symm f e v
    | succ n ih =>
      intro A m' n7 f e v nA rt' vy' hs'
      rw [show ((n + 1 : Nat) : Int) - 1 = (n : Int) by omega]
      refine ⟨by constructor <;> omega, ?_⟩
      rw [if_neg (by omega)]
      refine ⟨by rw [e]; decide, ?_⟩
      rw [if_pos e, f.oth (c := 598) (i := nd) (by decide) (by decide), n1, f.oth (c := 599) (i := nd) (by decide) (by decide), n2, f.oth (c := 600) (i := nd) (by decide) (by decide), n3]
      unfold atG at hs'
      refine ⟨hnd, c_X10_multiplyValues hd hs (f.bm hB) e (by omega) (by omega) (by omega) (by omega) (by omega) (by omega) v vy' nA nW ⟨fun B m3 h3 f3 e3 vB => ?_, fun z m3 h3 f3 e3 => ?_⟩⟩
      · rw [h3] at hs'
        simp only at hs'
        have nB := mulV_NN hM hd nA.nv nW.nv h3
        have f3' : Fm (SQ x) m m3 := f.trans (f3.mono (fun q z => SW_Q z))
        have rt3 : Rw (m3 635) 1595000 u 49 := rt'.fm f3 (fun q q0 q1 z => by unfold SW SX at z; omega)
        have vy3 : VM (m3 635) y W := vy'.fm f3 (fun q q0 q1 z => by unfold SW SX at z; omega)
        refine ⟨by rw [e3]; decide, ?_⟩
        rw [if_pos (by rw [e3]; decide)]
        refine c_clear (n := 441) (by decide) (by decide) (fun m4 f4 e4 r4 => ?_)
        have c4 : ∀ q, (1593000 ≤ q ∧ q < 1593000 + 2 * ((441 : Nat) : Int)) → 1593000 ≤ q ∧ q < 1593882 := fun q z => by omega
        have f4' : Fm (SQ x) m m4 := f3'.trans (f4.mono (fun q z => by have := c4 q z; unfold SQ; omega))
        have v4 : VM (m4 635) 1593000 (rvv zr) := by rw [rvv_zr]; exact VM_clear r4
        have rt4 : Rw (m4 635) 1595000 u 49 := rt3.fm f4 (fun q q0 q1 z => by have := c4 q z; omega)
        have vy4 : VM (m4 635) y W := vy3.fm f4 (fun q q0 q1 z => by have := c4 q z; omega)
        have vB4 : VM (m4 635) x B := vB.fm f4 (fun q q0 q1 z => by have := c4 q z; omega)
        have nn : NN mub (dp - 1) 0 (rvv (coS dp (n : Int) u)) := rvv_NN hMb (coS_NR hMb nu)
        have nc := coG_NN (i := (n : Int)) (s := s) hM hMb hd hdp hde nu hcm
        -- behind the coefficient
        have fin : ∀ m5 : MM, Fm (fun q => 1593000 ≤ q ∧ q < 1593014) m4 m5 → m5 582 84 = 0 → VM (m5 635) 1593000 (rvv (coS dp (n : Int) u)) → P_X10_evalAt_125 Q (fun z0 z1 z2 z3 z4 z5 => P_X10_evalAt_22 Q (n + 1) z0 z1 z2 z3 z4 z5) nd na x y (n : Int) m5 := by
          intro m5 f5 e5 v5
          have f5' : Fm (SQ x) m m5 := f4'.trans (f5.mono (fun q z => by unfold SQ; omega))
          have rt5 : Rw (m5 635) 1595000 u 49 := rt4.fm f5 (fun q q0 q1 z => by omega)
          have vy5 : VM (m5 635) y W := vy4.fm f5 (fun q q0 q1 z => by omega)
          have vB5 : VM (m5 635) x B := vB4.fm f5 (fun q q0 q1 z => by omega)
          refine ⟨hna, hnd, ?_⟩
          rw [f5'.oth (c := 598) (i := na) (by decide) (by decide), a1, f5'.oth (c := 599) (i := na) (by decide) (by decide), a2, f5'.oth (c := 598) (i := nd) (by decide) (by decide), n1, f5'.oth (c := 599) (i := nd) (by decide) (by decide), n2, f5'.oth (c := 600) (i := nd) (by decide) (by decide), n3]
          refine c_X10_go (ch := ch) (by omega) (by decide) hs (Or.inr rfl) hbp hch (f5'.bm hB) (by decide) v5 (fun z => by rw [← hcm.1 z]; exact nn) (fun z => by have q := nn; rw [hcm.2 z] at q; exact q) (fun m6 f6 e6 v6 => ?_)
          have f6' : Fm (SQ x) m m6 := f5'.trans (f6.mono (fun q z => by unfold SX at z; unfold SQ; omega))
          have rt6 : Rw (m6 635) 1595000 u 49 := rt5.fm f6 (fun q q0 q1 z => by unfold SX at z; omega)
          have vy6 : VM (m6 635) y W := vy5.fm f6 (fun q q0 q1 z => by unfold SX at z; omega)
          have vB6 : VM (m6 635) x B := vB5.fm f6 (fun q q0 q1 z => by unfold SX at z; omega)
          rw [f6'.oth (c := 598) (i := nd) (by decide) (by decide), n1, f6'.oth (c := 599) (i := nd) (by decide) (by decide), n2, f6'.oth (c := 600) (i := nd) (by decide) (by decide), n3]
          refine c_X10_addValues (Or.inl rfl) hd hs (f6'.bm hB) (by rw [e6, e5]) (by omega) (by decide) (by omega) vB6 v6 nB nc ⟨fun C m7 h7 f7 e7 v7 => ?_, fun z m7 h7 f7 e7 => ?_⟩
          · rw [h7] at hs'
            simp only at hs'
            have := ih C m7 (by omega) (f6'.trans (f7.mono (fun q z => by unfold SX at z; unfold SQ; omega))) e7 v7 (addV_NN hM hd nB.nv nc.nv h7) (rt6.fm f7 (fun q q0 q1 z => by unfold SX at z; omega)) (vy6.fm f7 (fun q q0 q1 z => by unfold SX at z; omega)) hs'
            rw [show (n : Int) - 1 = (n : Int) + -1 by omega] at this
            exact this
          · rw [h7] at hs'
            have z1 := addV_err h7
            rw [← hs'] at h
            have q0 := h.2 z m7 rfl (f6'.trans (f7.mono (fun q z => by unfold SX at z; unfold SQ; omega))) e7
            refine ⟨by constructor <;> omega, ?_⟩
            by_cases cn : (n : Int) + -1 < 0
            · rw [if_pos cn]; exact q0
            · rw [if_neg cn]
              refine ⟨by rw [e7, z1]; decide, ?_⟩
              rw [if_neg (by rw [e7, z1]; decide)]
              exact q0
        have src := coS_Rw (i := (n : Int)) hdp (rt4.le (show cof dp ≤ 49 by omega)) (by omega)
        refine ⟨hna, ?_⟩
        rw [f4'.oth (c := 599) (i := na) (by decide) (by decide), a2]
        refine ⟨by constructor <;> omega, ?_⟩
        rcases l3 with ⟨z, d1⟩ | ⟨z, d1⟩
        · rw [if_pos d1]
          rw [z] at src
          refine c_copy (n := 2) (by omega) (by decide) (Or.inr (by omega)) (fun m5 f5 e5 cp5 => ?_)
          have c5 : ∀ q, (1593000 ≤ q ∧ q < 1593000 + ((2 : Nat) : Int)) → 1593000 ≤ q ∧ q < 1593002 := fun q z => by omega
          refine fin m5 (f5.mono (fun q z => by have := c5 q z; omega)) (by rw [e5, e4, e3]) (v4.chg (c := 1) f5 (fun q q0 q1 z => by have := c5 q z; omega) ?_ (by decide) (fun _ _ => rfl) (fun k hk => ?_) (by decide))
          · rw [show (1595000 : Int) + 2 * 1 * (n : Int) = 1595000 + 2 * (n : Int) by omega] at src
            exact src.cp (n := 1) cp5
          · unfold coS
            rw [z, if_neg (by omega)]
        · rw [if_neg (by omega)]
          rw [z] at src
          refine c_copy (n := 14) (by omega) (by decide) (Or.inr (by omega)) (fun m5 f5 e5 cp5 => ?_)
          have c5 : ∀ q, (1593000 ≤ q ∧ q < 1593000 + ((14 : Nat) : Int)) → 1593000 ≤ q ∧ q < 1593014 := fun q z => by omega
          refine fin m5 (f5.mono (fun q z => by have := c5 q z; omega)) (by rw [e5, e4, e3]) (v4.chg (c := 7) f5 (fun q q0 q1 z => by have := c5 q z; omega) ?_ (by decide) (fun _ _ => rfl) (fun k hk => ?_) (by decide))
          · rw [show (1595000 : Int) + 2 * 7 * (n : Int) = 1595000 + 14 * (n : Int) by omega] at src
            exact src.cp (n := 7) cp5
          · unfold coS
            rw [z, if_neg (by omega)]
      · rw [h3] at hs'
        have := mulV_err h3
        rw [← hs'] at h
        refine ⟨by rw [e3]; constructor <;> omega, ?_⟩
        rw [if_neg (by rw [e3]; omega)]
        exact h.2 z m3 rfl (f.trans (f3.mono (fun q z => SW_Q z))) e3
  exact ⟨_, L 7 zV m2 (by decide) f2' (by rw [e2, e1, he]) vz (NN_z hM) rt2 vy2 hG⟩
end ATV
