set_option maxRecDepth 100000
/-! characteristic polynomials: the component; inverses and characteristic polynomials: the model -/
section INV2
variable {Q : Int → MM → Prop} {r b base mu s x : Int} {V : VV}
theorem c_X6_characteristic {m : MM} (hR : RG r b 0 s) (hs1 : 1 ≤ s) (hmu : muC m b = mu) (hM : MU mu) (he : m 378 2 = 0) (bx : 0 ≤ x ∧ x + 882 ≤ 1155420) (vx : VC (m 379) x 0 s V) (nV : NN mu 0 s V) (h : OutV (fun z => 1155420 ≤ z) m (charS mu s V) 1155420 1 0 Q) : P_X6_characteristic r x m Q := by
  obtain ⟨hr, hb, hd, hs⟩ := id hR
  have hP : RG (r + 4) b 1 s := ⟨by omega, hb, by decide, hs⟩
  have rs : rws s = s := by unfold rws; omega
  have es : enn s = s * s := by unfold enn; rw [if_neg (by omega)]
  have sb : 1 ≤ s * s ∧ s * s ≤ 9 := by
    rcases (show s = 1 ∨ s = 2 ∨ s = 3 by omega) with z | z | z <;> rw [z] <;> decide
  have vb : VS 1 s = 14 * (s * s) := by
    unfold VS
    rw [cof1, es]
    omega
  have e7 : 7 * s * s = 7 * (s * s) := Int.mul_assoc ..
  have hN : (((7 * s * s).toNat : Nat) : Int) = 7 * s * s := by omega
  refine c_size hR ?_
  rw [← hN]
  refine c_X8_clear (by decide) (by omega) (fun m1 f1 e1 r1 => ?_)
  rw [hN, e7] at f1 r1
  have f1' : Fc (fun z => 1155420 ≤ z) m m1 := f1.mono (fun q z => by omega)
  -- entries by their number
  have ec := enn_cs hs
  have ix : ∀ l, 0 ≤ l → l < s * s → (0 ≤ l / s ∧ l / s < s) ∧ (0 ≤ l % s ∧ l % s < s) ∧ (Int.tmod l (s + 1) = 0 ↔ l / s = l % s) := by
    intro l l0 l1
    rw [tmod_pos l0]
    rcases (show s = 1 ∨ s = 2 ∨ s = 3 by omega) with z | z | z <;> subst z <;> omega
  have L : ∀ (n : Nat) (k : Int) (m' : MM), 0 ≤ k → k + n = s * s → Fc (fun z => 1155420 ≤ z) m m' → m' 378 2 = 0 → (∀ l, 0 ≤ l → l < s * s → Rw (m' 379) (1157776 + 14 * l) (if l < k then chM mu s V (l / s) (l % s) else zr) 7) → P_X6_characteristic_29 Q (n + 1) r x s (r + 4) k m' := by
    intro n
    induction n with
    | zero =>
      intro k m' k0 k1 f e rows
      refine ⟨by constructor <;> omega, by constructor <;> omega, ?_⟩
      rw [if_pos (by omega)]
      have vc : VC (m' 379) 1157776 1 s (chM mu s V) := by
        refine VC.ofb hs (fun l hl => ?_)
        rw [es] at hl
        have := rows l hl.1 hl.2
        rw [if_pos (by omega)] at this
        rw [rs, cof1]
        exact this
      unfold charS at h
      have nn := chM_NN hM ⟨hs1, hs.2⟩ nV
      refine c_X8_determinant hP hs1 (by rw [f.mu, hmu]) hM e (by omega) (by rw [cof1]; omega) (by omega) (by rw [cof1]; omega) (by rw [cof1]; omega) vc nn.nv ⟨fun w m2 h2 f2 e2 r2 => ?_, fun z m2 h2 f2 e2 => ?_⟩
      · rw [h2] at h
        exact h.1 _ m2 rfl (f.trans (f2.mono (fun q z => by unfold S3 at z; rw [cof1] at z; omega))) e2 (VC_row r2)
      · rw [h2] at h
        exact h.2 z m2 rfl (f.trans (f2.mono (fun q z => by unfold S3 at z; rw [cof1] at z; omega))) e2
    | succ n ih =>
      intro k m' k0 k1 f e rows
      refine ⟨by constructor <;> omega, by constructor <;> omega, ?_⟩
      rw [if_neg (by omega)]
      obtain ⟨i1, i2, i3⟩ := ix k k0 (by omega)
      refine c_X8_copy (by decide) (by omega) (by omega) (fun m2 f2 e2 cp => ?_)
      have src : Rw (m' 379) (x + 2 * k) (V (k / s) (k % s)) 1 := by
        have := vx.blk hs k (by rw [es]; omega)
        rw [cof0, rs] at this
        rw [show x + 2 * 1 * k = x + 2 * k by omega] at this
        exact this.fr f (fun q q0 q1 z => by omega)
      have r2 : Rw (m2 379) (1157776 + 14 * k) (V (k / s) (k % s)) 1 := src.cp cp
      have f2' : Fc (fun z => 1155420 ≤ z) m m2 := f.trans (f2.mono (fun q z => by omega))
      refine c_base hR (c_X8_less (n := 1) (u := V (k / s) (k % s)) (by constructor <;> omega) (by rw [f2'.mu, hmu]) hM (by omega) r2 (fun q _ _ => nV.1 _ _ q) (fun m3 f3 e3 r3 => ?_))
      have c3 : ∀ q, (1157776 + 14 * k ≤ q ∧ q < 1157776 + 14 * k + 2 * ((1 : Nat) : Int)) → 1157776 + 14 * k ≤ q ∧ q < 1157776 + 14 * k + 2 := fun q z => by omega
      have f3' : Fc (fun z => 1155420 ≤ z) m m3 := f2'.trans (f3.mono (fun q z => by have := c3 q z; omega))
      have z3 : ∀ q, 1 ≤ q → q < 7 → m3 379 (1157776 + 14 * k + 2 * q) = 0 ∧ m3 379 (1157776 + 14 * k + 2 * q + 1) = 1 := by
        intro q q0 q1
        have o := rows k k0 (by omega) q (by omega) q1
        rw [if_neg (by omega)] at o
        rw [f3.2 _ (fun z => by have := c3 _ z; omega), f3.2 _ (fun z => by have := c3 _ z; omega), f2.2 _ (by omega), f2.2 _ (by omega)]
        exact o
      have oth : ∀ l, 0 ≤ l → l < s * s → l ≠ k → Rw (m3 379) (1157776 + 14 * l) (if l < k + 1 then chM mu s V (l / s) (l % s) else zr) 7 := by
        intro l l0 l1 ne
        have o := rows l l0 l1
        have ev : (if l < k + 1 then chM mu s V (l / s) (l % s) else zr) = (if l < k then chM mu s V (l / s) (l % s) else zr) := by
          by_cases c : l < k
          · rw [if_pos c, if_pos (by omega)]
          · rw [if_neg c, if_neg (by omega)]
        rw [ev]
        exact (o.fr f2 (fun q q0 q1 z => by omega)).fr f3 (fun q q0 q1 z => by have := c3 _ z; omega)
      have ch0 : ∀ q, 0 ≤ q → chM mu s V (k / s) (k % s) q = (if q = 0 then negN mu (V (k / s) (k % s) 0) else if q = 1 ∧ k / s = k % s then (1, 1) else (0, 1)) := by
        intro q q0
        unfold chM
        rw [if_pos ⟨i1, i2⟩]
      refine ⟨by constructor <;> omega, by omega, ?_, ?_⟩
      · rw [tmod_pos k0]
        have a := Int.emod_nonneg k (show s + 1 ≠ 0 by omega)
        have b := Int.emod_lt_of_pos k (show 0 < s + 1 by omega)
        constructor <;> omega
      · by_cases cd : k / s = k % s
        · rw [if_pos (i3.2 cd)]
          refine ⟨by omega, ?_⟩
          rintro _ rfl
          refine ih (k + 1) _ (by omega) (by omega) (f3'.trans (Fc.ofUp (by omega))) (by rw [up_ne (fun z => absurd z.1 (by decide)), e3, e2, e]) (fun l l0 l1 => ?_)
          by_cases cl : l = k
          · subst cl
            rw [if_pos (by omega)]
            intro q q0 q1
            rw [ch0 q q0]
            by_cases cq : q = 0
            · subst cq
              rw [if_pos rfl, up_neI (by omega), up_neI (by omega)]
              exact r3 0 (by decide) (by decide)
            · rw [if_neg cq]
              have z := z3 q (by omega) q1
              by_cases cq1 : q = 1
              · subst cq1
                rw [if_pos ⟨rfl, cd⟩, show 1157776 + 14 * l + 2 * 1 = 1157776 + 14 * l + 2 by omega, up_at, up_neI (by omega)]
                exact ⟨rfl, z.2⟩
              · rw [if_neg (by omega), up_neI (by omega), up_neI (by omega)]
                exact z
          · have o := oth l l0 l1 cl
            intro q q0 q1
            rw [up_neI (by omega), up_neI (by omega)]
            exact o q q0 q1
        · rw [if_neg (fun z => cd (i3.1 z))]
          refine ih (k + 1) m3 (by omega) (by omega) f3' (by rw [e3, e2, e]) (fun l l0 l1 => ?_)
          by_cases cl : l = k
          · subst cl
            rw [if_pos (by omega)]
            intro q q0 q1
            rw [ch0 q q0]
            by_cases cq : q = 0
            · subst cq
              rw [if_pos rfl]
              exact r3 0 (by decide) (by decide)
            · rw [if_neg cq, if_neg (fun z => cd z.2)]
              exact z3 q (by omega) q1
          · exact oth l l0 l1 cl
  refine ⟨_, L (s * s).toNat 0 m1 (by decide) (by omega) f1' (by rw [e1, he]) (fun l l0 l1 => ?_)⟩
  rw [if_neg (by omega)]
  have := r1.sub (k := 7 * l) (l := 7) (by omega) (by omega)
  rw [show 1157776 + 2 * (7 * l) = 1157776 + 14 * l by omega] at this
  exact this
/-! the model -/
theorem c_X10_invert {m : MM} (hs : 0 ≤ s ∧ s ≤ 3) (hB : BM m base mu) (hf : FD mu) (he : m 582 84 = 0) (bx : 0 ≤ x ∧ x + 882 ≤ 1590000) (vx : VM (m 635) x V) (nV : NN mu 0 s V) (h : OutW (SQ x) m (invV mu s V) x Q) : P_X10_invert x base s m Q := by
  have hM : MU mu := hB.2.2.2.1
  have hd : (0 : Int) ≤ 0 ∧ (0 : Int) ≤ 2 := by decide
  refine ⟨by constructor <;> omega, ?_⟩
  unfold invV at h
  have px : pr m 635 x = V 0 0 0 := by
    have := (vx 0 0 (by decide) (by decide)).at (k := 0) (by decide) (by decide)
    rw [show x + 98 * (3 * 0 + 0) + 2 * 0 = x by omega] at this
    exact this
  by_cases c : s = 0
  · rw [if_pos c]
    rw [if_pos c] at h
    subst c
    refine c_copy (n := 2) (by omega) (by decide) (Or.inr (by omega)) (fun m1 f1 e1 cp => ?_)
    have c1 : ∀ q, (1593000 ≤ q ∧ q < 1593000 + ((2 : Nat) : Int)) → 1593000 ≤ q ∧ q < 1593002 := fun q z => by omega
    have f1' : Fm (SQ x) m m1 := f1.mono (fun q z => by have := c1 q z; unfold SQ; omega)
    have p1 : pr m1 635 1593000 = V 0 0 0 := by
      rw [← px]
      have a := cp 0 (by decide) (by decide)
      have b := cp 1 (by decide) (by decide)
      rw [Int.add_zero, Int.add_zero] at a
      unfold pr
      rw [a, b]
    refine c_set (by omega) ?_
    have fp : Fm (fun q => x ≤ q ∧ q < x + 2) m1 (pt m1 635 x (1, 1)) := Fm.ofPt (by omega) (by omega)
    have f2 : Fm (SQ x) m (pt m1 635 x (1, 1)) := f1'.trans (fp.mono (fun q z => by unfold SQ; omega))
    have e2 : pt m1 635 x (1, 1) 582 84 = 0 := by rw [pt_oth (by decide), e1, he]
    have p2 : pr (pt m1 635 x (1, 1)) 635 1593000 = V 0 0 0 := by rw [pt_ne (by omega)]; exact p1
    have n1 : NB mu (1, 1) := NB_11 hM
    have one0 : oneV 0 0 0 0 = (1, 1) := rfl
    have v1 : VM (m1 635) x (rvv (V 0 0)) := by
      have := vx.fm f1 (fun q q0 q1 z => by have := c1 q z; omega)
      rw [rvv_eq nV] at this
      exact this
    unfold divV at h
    by_cases c0 : (V 0 0 0).1 = 0
    · rw [if_pos c0] at h
      refine c_X10_divideNumbers0 e2 (by decide) (by rw [p2]; exact c0) ⟨by rw [up_at]; decide, ?_⟩
      rw [if_neg (by rw [up_at]; decide)]
      exact h.2 2 _ rfl (f2.trans Fm.err) (up_at ..)
    · rw [if_neg c0] at h
      refine c_X10_divideNumbers e2 (f2.bm hB) hf (by omega) (by decide) (by rw [pt_at]; exact n1) (by rw [p2]; exact nV.1 0 0 0) (by rw [p2]; exact c0) (fun m3 mn => ?_)
      rw [pt_at, p2] at mn
      have f3 : Fm (SQ x) m m3 := f2.trans (Fm.ofMN mn)
      rcases hz : divS mu (1, 1) (V 0 0 0) with z | p
      · have := divS_err hz
        have e3 := mn.2.2 z hz
        refine ⟨by rw [e3, this]; decide, ?_⟩
        rw [if_neg (by rw [e3, this]; decide)]
        exact h.2 1 m3 (mapE_er (f := fun i j k => divS mu (oneV 0 i j k) (V 0 0 0)) (inD0.2 ⟨rfl, rfl, Int.le_refl 0, by decide⟩) hz) f3 (by rw [e3, this])
      · obtain ⟨e3, p3⟩ := mn.pair hz
        refine ⟨by rw [e3]; decide, ?_⟩
        rw [if_pos e3]
        refine c_put (by omega) ?_
        rw [p3]
        have fq : Fm (fun q => x ≤ q ∧ q < x + 2) m3 (pt m3 635 x p) := Fm.ofPt (by omega) (by omega)
        have fall : Fm (fun q => x ≤ q ∧ q < x + 2) m1 (pt m3 635 x p) := (fp.trans (Fm.ofMN mn)).trans fq
        refine h.1 _ _ (mapE_ok (fun i j k hk => ?_)) (f3.trans (fq.mono (fun q z => by unfold SQ; omega))) (by rw [pt_oth (by decide), e3]) ?_
        · have hk' := inD0.1 hk
          rw [cof0] at hk'
          rw [hk'.1, hk'.2.1, show k = 0 by omega]
          exact ⟨p, hz⟩
        · have vr := v1.chg (w := fun k => if k = 0 then p else (0, 1)) (c := 1) fall (fun q q0 q1 z => by omega) (fun j j0 j1 => ?_) (by decide) (nV.nr.2) (fun k hk => if_neg (by omega)) (by decide)
          · intro i j hi hj k k0 k1
            have o := vr i j hi hj k k0 k1
            have ev : rvv (fun k => if k = 0 then p else (0, 1)) i j k = (if inV 0 0 i j k then okv (divS mu (oneV 0 i j k) (V 0 0 0)) else (0, 1)) := by
              by_cases ci : i = 0 ∧ j = 0
              · rw [ci.1, ci.2, rvv_at]
                by_cases ck : k = 0
                · rw [ck]
                  simp only
                  rw [if_pos trivial, if_pos (inD0.2 ⟨rfl, rfl, Int.le_refl 0, by decide⟩), one0, hz]
                  rfl
                · show (if k = 0 then p else (0, 1)) = _
                  rw [if_neg ck, if_neg (fun z => by have := inD0.1 z; rw [cof0] at this; omega)]
              · rw [rvv_ne ci, if_neg (fun z => by have := inD0.1 z; omega)]
                rfl
            rw [ev] at o
            exact o
          · have : j = 0 := by omega
            subst this
            have t := pt_at (m := m3) (a := 635) (x := x) (p := p)
            rw [show x + 2 * 0 = x by omega]
            simp only
            rw [if_pos trivial]
            exact ⟨congrArg Prod.fst t, congrArg Prod.snd t⟩
  · rw [if_neg c]
    rw [if_neg c] at h
    have hs1 : 1 ≤ s := by omega
    refine c_X10_det hd ⟨hs1, hs.2⟩ hB he bx (by decide) (by decide) vx nV ⟨fun w m1 h1 f1 e1 r1 => ?_, fun z m1 h1 f1 e1 => ?_⟩
    · rw [h1] at h
      simp only at h
      have nw := detS_NR hM hd ⟨hs1, hs.2⟩ nV h1
      have f1' : Fm (SQ x) m m1 := f1.mono (fun q z => by unfold SF at z; unfold SQ; omega)
      refine ⟨by rw [e1]; decide, ?_⟩
      rw [if_pos (by rw [e1]; decide)]
      refine c_copy (n := 2) (by decide) (by decide) (Or.inr (by decide)) (fun m2 f2 e2 cp => ?_)
      have c2 : ∀ q, (1594004 ≤ q ∧ q < 1594004 + ((2 : Nat) : Int)) → 1594004 ≤ q ∧ q < 1594006 := fun q z => by omega
      have f2' : Fm (SQ x) m m2 := f1'.trans (f2.mono (fun q z => by have := c2 q z; unfold SQ; omega))
      have pw : pr m2 635 1594004 = w 0 := by
        have := r1.at (k := 0) (by decide) (by decide)
        rw [show (1590300 : Int) + 2 * 0 = 1590300 by decide] at this
        rw [← this]
        have a := cp 0 (by decide) (by decide)
        have b := cp 1 (by decide) (by decide)
        rw [Int.add_zero, Int.add_zero] at a
        unfold pr
        rw [a, b]
      have w1 : m2 635 1594004 = (w 0).1 := congrArg Prod.fst pw
      have nb := (nw.1 0).p1
      rw [w1]
      refine ⟨by constructor <;> omega, ?_⟩
      by_cases c0 : (w 0).1 = 0
      · rw [if_pos c0] at h ⊢
        rintro _ rfl
        exact h.2 5 _ rfl (f2'.trans Fm.err) (up_at ..)
      · rw [if_neg c0] at h ⊢
        have vx2 : VM (m2 635) x V := (vx.fm f1 (fun q q0 q1 z => by unfold SF at z; omega)).fm f2 (fun q q0 q1 z => by have := c2 q z; omega)
        refine c_X10_adjoin hd ⟨hs1, hs.2⟩ (f2'.bm hB) (by rw [e2, e1]) bx (by omega) (by omega) vx2 nV ⟨fun U m3 h3 f3 e3 v3 => ?_, fun z m3 h3 f3 e3 => ?_⟩
        · rw [h3] at h
          simp only at h
          have f3' : Fm (SQ x) m m3 := f2'.trans (f3.mono (fun q z => by rcases z with z | z; have := SJ_n z; unfold SQ; omega; unfold SX at z; unfold SQ; omega))
          have pw3 : pr m3 635 1594004 = w 0 := by
            unfold pr
            rw [f3.2 _ (fun z => by rcases z with z | z; have := SJ_n z; omega; unfold SX at z; omega), f3.2 _ (fun z => by rcases z with z | z; have := SJ_n z; omega; unfold SX at z; omega)]
            exact pw
          refine ⟨by rw [e3]; decide, ?_⟩
          rw [if_pos e3]
          exact c_X10_divideBy hd hs (f3'.bm hB) hf e3 bx (by decide) (by omega) v3 (adjS_NN hM hd ⟨hs1, hs.2⟩ nV h3) pw3 (nw.1 0) ⟨fun U' m4 a1 a2 a3 a4 => h.1 U' m4 a1 (f3'.trans (a2.mono (fun q z => by unfold SX at z; unfold SQ; omega))) a3 a4, fun z m4 a1 a2 a3 => h.2 z m4 a1 (f3'.trans (a2.mono (fun q z => by unfold SX at z; unfold SQ; omega))) a3⟩
        · rw [h3] at h
          have := adjS_err h3
          refine ⟨by rw [e3]; constructor <;> omega, ?_⟩
          rw [if_neg (by rw [e3]; omega)]
          exact h.2 z m3 rfl (f2'.trans (f3.mono (fun q z => by rcases z with z | z; have := SJ_n z; unfold SQ; omega; unfold SX at z; unfold SQ; omega))) e3
    · rw [h1] at h
      have := detS_err h1
      refine ⟨by rw [e1]; constructor <;> omega, ?_⟩
      rw [if_neg (by rw [e1]; omega)]
      exact h.2 z m1 rfl (f1.mono (fun q z => by unfold SF at z; unfold SQ; omega)) e1
theorem c_X10_characterize {m : MM} (hs : 1 ≤ s ∧ s ≤ 3) (hB : BM m base mu) (he : m 582 84 = 0) (bx : 0 ≤ x ∧ x + 882 ≤ 1590000) (vx : VM (m 635) x V) (nV : NN mu 0 s V) (h : OutW (SQ x) m (charS mu s V) x Q) : P_X10_characterize x base s m Q := by
  have hM : MU mu := hB.2.2.2.1
  have rs : rws s = s := by unfold rws; omega
  refine c_copy (n := 882) (by omega) (by decide) (Or.inr (by omega)) (fun m1 f1 e1 cp => ?_)
  have c1 : ∀ q, (1595000 ≤ q ∧ q < 1595000 + ((882 : Nat) : Int)) → 1595000 ≤ q ∧ q < 1595882 := fun q z => by omega
  have f1' : Fm (SQ x) m m1 := f1.mono (fun q z => by have := c1 q z; unfold SQ; omega)
  have vt : VM (m1 635) 1595000 V := vx.cpy cp
  refine c_clear (n := 441) (by omega) (by omega) (fun m2 f2 e2 r2 => ?_)
  have c2 : ∀ q, (x ≤ q ∧ q < x + 2 * ((441 : Nat) : Int)) → x ≤ q ∧ q < x + 882 := fun q z => by omega
  have f2' : Fm (SQ x) m m2 := f1'.trans (f2.mono (fun q z => by have := c2 q z; unfold SQ; omega))
  have vt2 : VM (m2 635) 1595000 V := vt.fm f2 (fun q q0 q1 z => by have := c2 q z; omega)
  have vz : VM (m2 635) x zV := VM_clear r2
  -- what the walk may change
  have L2 : ∀ {K22 : Int → Int → Int → Int → MM → Prop} {i : Int}, (0 ≤ i ∧ i < s) → (∀ m', Fm (SQ x) m m' → m' 582 84 = 0 → VM (m' 635) 1595000 V → DM (m' 635) x s (i + 1) 0 (chM mu s V) zV → K22 x base s (i + 1) m') → ∀ (n : Nat) (j : Int) (m' : MM), 0 ≤ j → j + n = s → Fm (SQ x) m m' → m' 582 84 = 0 → VM (m' 635) 1595000 V → DM (m' 635) x s i j (chM mu s V) zV → P_X10_characterize_31 Q K22 (n + 1) x base s i j m' := by
    intro K22 i hi fin n
    induction n with
    | zero =>
      intro j m' j0 j1 f e vt' de
      refine ⟨by constructor <;> omega, by constructor <;> omega, ?_⟩
      rw [if_pos (by omega)]
      exact fin m' f e vt' (fun k l hk hl => ⟨fun z => (de k l hk hl).1 (by omega), fun z => (de k l hk hl).2 (by omega)⟩)
    | succ n ih =>
      intro j m' j0 j1 f e vt' de
      refine ⟨by constructor <;> omega, by constructor <;> omega, ?_⟩
      rw [if_neg (by omega)]
      refine c_entryAt (c_clear (n := 1) (by decide) (by decide) (fun m3 f3 e3 r3 => c_entryAt ?_))
      have c3 : ∀ q, (1590500 ≤ q ∧ q < 1590500 + 2 * ((1 : Nat) : Int)) → 1590500 ≤ q ∧ q < 1590502 := fun q z => by omega
      have f3' : Fm (SQ x) m m3 := f.trans (f3.mono (fun q z => by have := c3 q z; unfold SQ; omega))
      have vt3 : VM (m3 635) 1595000 V := vt'.fm f3 (fun q q0 q1 z => by have := c3 q z; omega)
      have p0 : pr m3 635 1590500 = (0, 1) := by
        have := r3.at (k := 0) (by decide) (by decide)
        rw [show (1590500 : Int) + 2 * 0 = 1590500 by decide] at this
        exact this
      have pv : pr m3 635 (1595000 + 98 * (3 * i + j)) = V i j 0 := by
        have := (vt3 i j (by omega) (by omega)).at (k := 0) (by decide) (by decide)
        rw [show 1595000 + 98 * (3 * i + j) + 2 * 0 = 1595000 + 98 * (3 * i + j) by omega] at this
        exact this
      refine c_X10_takeNumbers (by rw [e3, e]) (f3'.bm hB) (by decide) (by omega) (by rw [p0]; exact NB_zr hM) (by rw [pv]; exact nV.1 i j 0) (fun m4 mn => ?_)
      rw [p0, pv] at mn
      obtain ⟨e4, p4⟩ := mn.pair (addS_neg hM (nV.1 i j 0))
      have f4 : Fm (SQ x) m m4 := f3'.trans (Fm.ofMN mn)
      refine c_put (by omega) ?_
      rw [p4]
      have fz : Fm (fun q => 1590500 ≤ q ∧ q < 1590502) m' m4 := (f3.mono c3).trans (Fm.ofMN mn)
      have row : Rw (m4 635) (x + 98 * (3 * i + j)) zr 49 := ((de i j (by omega) (by omega)).2 (by omega)).fm fz (fun q q0 q1 z => by omega)
      have fp : ∀ p : PP, Fm (fun q => x + 98 * (3 * i + j) ≤ q ∧ q < x + 98 * (3 * i + j) + 98) m4 (pt m4 635 (x + 98 * (3 * i + j)) p) := fun p => Fm.ofPt (by omega) (by omega)
      have row5 : Rw (pt m4 635 (x + 98 * (3 * i + j)) (negN mu (V i j 0)) 635) (x + 98 * (3 * i + j)) (setP zr 0 (negN mu (V i j 0))) 49 := by
        have := row.set (k := 0) (z := negN mu (V i j 0))
        rw [show x + 98 * (3 * i + j) + 2 * 0 = x + 98 * (3 * i + j) by omega] at this
        exact this
      have step : ∀ (m6 : MM), Fm (fun q => 1590500 ≤ q ∧ q < 1590502 ∨ x + 98 * (3 * i + j) ≤ q ∧ q < x + 98 * (3 * i + j) + 98) m' m6 → m6 582 84 = 0 → Rw (m6 635) (x + 98 * (3 * i + j)) (chM mu s V i j) 49 → P_X10_characterize_31 Q K22 (n + 1) x base s i (j + 1) m6 := by
        intro m6 f6 e6 r6
        have dg := DM_gen (U := chM mu s V) (V0 := zV) (w := chM mu s V i j) (by omega) (by omega) (by omega) de f6 (fun k l hk hl c q q0 q1 z => by omega) r6
        have same : setE (chM mu s V) i j (chM mu s V i j) = chM mu s V := by
          funext k l
          unfold setE
          split
          case isTrue c => rw [c.1, c.2]
          case isFalse => rfl
        rw [same] at dg
        exact ih (j + 1) m6 (by omega) (by omega) (f.trans (f6.mono (fun q z => by unfold SQ; omega))) e6 (vt'.fm f6 (fun q q0 q1 z => by omega)) dg
      have f5 : Fm (fun q => 1590500 ≤ q ∧ q < 1590502 ∨ x + 98 * (3 * i + j) ≤ q ∧ q < x + 98 * (3 * i + j) + 98) m' (pt m4 635 (x + 98 * (3 * i + j)) (negN mu (V i j 0))) := (fz.mono (fun q z => Or.inl z)).trans ((fp _).mono (fun q z => Or.inr z))
      have cv : ∀ k, 0 ≤ k → chM mu s V i j k = (if k = 0 then negN mu (V i j 0) else if k = 1 ∧ i = j then (1, 1) else (0, 1)) := by
        intro k k0
        unfold chM
        rw [if_pos ⟨hi, by omega⟩]
      refine ⟨by constructor <;> omega, ?_⟩
      by_cases cij : i = j
      · rw [if_pos cij]
        refine c_set (by omega) ?_
        refine step _ (f5.trans (Fm.ofPt (Or.inr (by omega)) (Or.inr (by omega)))) (by rw [pt_oth (by decide), pt_oth (by decide), e4]) ?_
        have r6 := row5.set (k := 1) (z := (1, 1))
        rw [show x + 98 * (3 * i + j) + 2 * 1 = x + 98 * (3 * i + j) + 2 by omega] at r6
        refine r6.eqv (fun k k0 => ?_)
        rw [cv k k0]
        by_cases k1 : k = 1
        · rw [k1, setP_at, if_neg (by decide), if_pos ⟨rfl, cij⟩]
        · rw [setP_ne k1]
          by_cases k00 : k = 0
          · rw [k00, setP_at, if_pos rfl]
          · rw [setP_ne k00, if_neg k00, if_neg (fun z => k1 z.1)]
            rfl
      · rw [if_neg cij]
        refine step _ f5 (by rw [pt_oth (by decide), e4]) (row5.eqv (fun k k0 => ?_))
        rw [cv k k0]
        by_cases k00 : k = 0
        · rw [k00, setP_at, if_pos rfl]
        · rw [setP_ne k00, if_neg k00, if_neg (fun z => cij z.2)]
          rfl
  have L1 : ∀ (n : Nat) (i : Int) (m' : MM), 0 ≤ i → i + n = s → Fm (SQ x) m m' → m' 582 84 = 0 → VM (m' 635) 1595000 V → DM (m' 635) x s i 0 (chM mu s V) zV → P_X10_characterize_22 Q (n + 1) x base s i m' := by
    intro n
    induction n with
    | zero =>
      intro i m' i0 i1 f e vt' de
      refine ⟨by constructor <;> omega, by constructor <;> omega, ?_⟩
      rw [if_pos (by omega)]
      have vc : VM (m' 635) x (chM mu s V) := by
        intro k l hk hl
        by_cases c : Dn s i 0 k l
        · exact (de k l hk hl).1 c
        · have o := (de k l hk hl).2 c
          have ev : chM mu s V k l = zr := by
            funext q
            unfold chM
            rw [if_neg (by omega)]
            rfl
          rw [ev]
          exact o
      have nn := chM_NN hM hs nV
      unfold charS at h
      refine c_X10_det (by decide) hs (f.bm hB) e bx (by decide) (by decide) vc nn ⟨fun w m2 h2 f2 e2 r2 => ?_, fun z m2 h2 f2 e2 => ?_⟩
      · rw [h2] at h
        simp only at h
        have nw := detS_NR hM (by decide) hs nn h2
        have f2' : Fm (SQ x) m m2 := f.trans (f2.mono (fun q z => by unfold SF at z; unfold SQ; omega))
        refine c_clear (n := 441) (by omega) (by omega) (fun m3 f3 e3 r3 => ?_)
        have e3' : m3 582 84 = 0 := by rw [e3, e2]
        refine ⟨by rw [e3']; decide, ?_⟩
        rw [if_pos e3']
        refine c_copy (n := 98) (by decide) (by omega) (Or.inr (by omega)) (fun m4 f4 e4 cp4 => ?_)
        have c4 : ∀ q, (x ≤ q ∧ q < x + ((98 : Nat) : Int)) → x ≤ q ∧ q < x + 98 := fun q z => by omega
        have r3' : Rw (m3 635) 1590300 w 49 := r2.fm f3 (fun q q0 q1 z => by have := c2 q z; omega)
        have v3 : VM (m3 635) x (rvv zr) := by rw [rvv_zr]; exact VM_clear r3
        refine h.1 _ m4 rfl ((f2'.trans (f3.mono (fun q z => by have := c2 q z; unfold SQ; omega))).trans (f4.mono (fun q z => by have := c4 q z; unfold SQ; omega))) (by rw [e4, e3']) ?_
        exact v3.chg (c := 49) f4 (fun q q0 q1 z => by have := c4 q z; omega) (r3'.cp (n := 49) cp4) (by decide) (fun _ _ => rfl) (nw.hi (by decide)) (by decide)
      · rw [h2] at h
        have := detS_err h2
        have f2' : Fm (SQ x) m m2 := f.trans (f2.mono (fun q z => by unfold SF at z; unfold SQ; omega))
        refine c_clear (n := 441) (by omega) (by omega) (fun m3 f3 e3 r3 => ?_)
        have e3' : m3 582 84 = z := by rw [e3, e2]
        refine ⟨by rw [e3']; constructor <;> omega, ?_⟩
        rw [if_neg (by rw [e3']; omega)]
        exact h.2 z m3 rfl (f2'.trans (f3.mono (fun q z => by have := c2 q z; unfold SQ; omega))) e3'
    | succ n ih =>
      intro i m' i0 i1 f e vt' de
      refine ⟨by constructor <;> omega, by constructor <;> omega, ?_⟩
      rw [if_neg (by omega)]
      exact ⟨_, L2 (by omega) (fun m3 f3 e3 vt3 de3 => ih (i + 1) m3 (by omega) (by omega) f3 e3 vt3 de3) s.toNat 0 m' (by decide) (by omega) f e vt' de⟩
  exact ⟨_, L1 s.toNat 0 m2 (by decide) (by omega) f2' (by rw [e2, e1, he]) vt2 (fun k l hk hl => ⟨fun z => by omega, fun _ => vz k l hk hl⟩)⟩
end INV2
