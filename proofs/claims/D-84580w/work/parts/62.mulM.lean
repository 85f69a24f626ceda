set_option maxRecDepth 100000
/-! products of values: the model -/
section MULM
variable {Q : Int → MM → Prop} {base mu d s x y to : Int} {V W : VV}
def SW (i : Int) : Prop := 1590000 ≤ i ∧ i < 1590398 ∨ 1591000 ≤ i ∧ i < 1591882 ∨ 1594000 ≤ i ∧ i < 1594004
def SL (d : Int) (a : Int) (i : Int) : Prop := 1590000 ≤ i ∧ i < 1590398 ∨ a ≤ i ∧ i < a + 2 * cof d ∨ 1594000 ≤ i ∧ i < 1594004
theorem mulM_177 {m : MM} (he : RI (m 582 84)) (h0 : m 582 84 ≠ 0) (q : Q 0 m) : P_X10_multiplyValues_177 Q to m := by
  refine ⟨he, ?_⟩
  rw [if_neg h0]
  exact q
theorem mulM_err13 {m : MM} {i : Int} {r : Nat} (hs : 0 ≤ s ∧ s ≤ 3) (he : RI (m 582 84)) (h0 : m 582 84 ≠ 0) (q : Q 0 m) : ∀ (r : Nat) (i : Int), 0 ≤ i → rws s - i ≤ r → i ≤ rws s → P_X10_multiplyValues_13 Q (r + 1) to x y base d s i m := by
  have hr := rws_bd hs
  intro r
  induction r with
  | zero =>
    intro i i0 i1 i2
    refine c_rows hs ⟨by constructor <;> omega, by constructor <;> omega, ?_⟩
    rw [if_pos (by omega)]
    exact mulM_177 he h0 q
  | succ r ih =>
    intro i i0 i1 i2
    refine c_rows hs ⟨by constructor <;> omega, by constructor <;> omega, ?_⟩
    by_cases c : rws s ≤ i
    · rw [if_pos c]; exact mulM_177 he h0 q
    · rw [if_neg c]
      refine ⟨1, c_rows hs ⟨by decide, by constructor <;> omega, ?_⟩⟩
      rw [if_neg (by omega)]
      refine ⟨he, ?_⟩
      rw [if_neg h0]
      exact ih (i + 1) (by omega) (by omega) (by omega)
theorem mulM_in (hd : 0 ≤ d ∧ d ≤ 2) (hs : 0 ≤ s ∧ s ≤ 3) (hx : Pl x 882) (hy : Pl y 882) (dx : x + 882 ≤ 1590000 ∨ 1592000 ≤ x ∧ x + 882 ≤ 1594000 ∨ 1594004 ≤ x) (dy : y + 882 ≤ 1590000 ∨ 1592000 ≤ y ∧ y + 882 ≤ 1594000 ∨ 1594004 ≤ y) (nV : NN mu d s V) (nW : NN mu d s W) {K13 : Int → Int → Int → Int → Int → Int → Int → MM → Prop} {K26 : Int → Int → Int → Int → Int → Int → Int → Int → MM → Prop} {i j : Int} (hi : 0 ≤ i ∧ i < rws s) (hj : 0 ≤ j ∧ j < rws s) : ∀ (r : Nat) (l : Int) (a : Int → PP) (m : MM), 1 ≤ l → l + r = rws s → BM m base mu → m 582 84 = 0 → VM (m 635) x V → VM (m 635) y W → Rw (m 635) (1591000 + 98 * (3 * i + j)) a (cof d) → (∀ k, NB mu (a k)) → (∀ w m', entG mu d V W i j r l a = .ok w → Fm (SL d (1591000 + 98 * (3 * i + j))) m m' → m' 582 84 = 0 → Rw (m' 635) (1591000 + 98 * (3 * i + j)) w (cof d) → K26 to x y base d s i (j + 1) m') → (∀ e m', entG mu d V W i j r l a = .error e → Fm (SL d (1591000 + 98 * (3 * i + j))) m m' → m' 582 84 = e → Q 0 m' ∧ K26 to x y base d s i (j + 1) m') → P_X10_multiplyValues_46 Q K13 K26 (r + 1) to x y base d s i j l m := by
  have hr := rws_bd hs
  have hc := cof_bd hd
  intro r
  induction r with
  | zero =>
    intro l a m l1 hl hB he vx wy ra na ok er
    refine c_rows hs ⟨by constructor <;> omega, by constructor <;> omega, ?_⟩
    rw [if_pos (by omega)]
    exact ok a m rfl (Fm.refl m) he ra
  | succ r ih =>
    intro l a m l1 hl hB he vx wy ra na ok er
    have hM : MU mu := hB.2.2.2.1
    refine c_rows hs ⟨by constructor <;> omega, by constructor <;> omega, ?_⟩
    rw [if_neg (by omega)]
    refine ⟨by rw [he]; decide, ?_⟩
    rw [if_pos he]
    unfold entG at ok er
    refine c_X10_multiplyBlocks (u := V i l) (v := W l j) hd hB he (by omega) (by omega) (by omega) (by omega) (by omega) (by omega) (by omega) (by omega) ((vx i l (by omega) (by omega)).le (by omega)) ((wy l j (by omega) (by omega)).le (by omega)) (nV.nv i l hi (by omega)) (nW.nv l j (by omega) hj) ⟨fun t m1 h1 f1 e1 r1 => ?_, fun e m1 h1 f1 e1 => ?_⟩
    · rw [h1] at ok er
      simp only at ok er
      have nt := prodS_NB hM hd (nV.nv i l hi (by omega)) (nW.nv l j (by omega) hj) h1
      have f1' : Fm (SL d (1591000 + 98 * (3 * i + j))) m m1 := f1.mono (fun q z => by unfold SL; unfold SB at z; omega)
      refine ⟨by rw [e1]; decide, ?_⟩
      rw [if_pos (by omega), if_neg (by omega)]
      have ra1 : Rw (m1 635) (1591000 + 98 * (3 * i + j)) a (cof d) := ra.fm f1 (fun q q0 q1 z => by unfold SB at z; omega)
      refine c_X10_addBlocks (u := a) (v := t) hd (f1.bm hB) e1 (by omega) (by omega) (by omega) (Or.inl rfl) (Or.inr (by omega)) ra1 r1 (fun q _ _ => na q) (fun q _ _ => nt.1 q) ⟨fun b m2 h2 f2 e2 r2 => ?_, fun e m2 h2 f2 e2 => ?_⟩
      · rw [h2] at ok er
        simp only at ok er
        have f2' : Fm (SL d (1591000 + 98 * (3 * i + j))) m m2 := f1'.trans (f2.mono (fun q z => by unfold SL; omega))
        refine ih (l + 1) b m2 (by omega) (by omega) (f2'.bm hB) e2 (vx.fm f2' (fun q q0 q1 z => by unfold SL at z; omega)) (wy.fm f2' (fun q q0 q1 z => by unfold SL at z; omega)) r2 (addR_NB hM (fun q _ _ => na q) (fun q _ _ => nt.1 q) h2) (fun w m' a1 a2 a3 a4 => ok w m' a1 (f2'.trans a2) a3 a4) (fun e m' a1 a2 a3 => er e m' a1 (f2'.trans a2) a3)
      · rw [h2] at er
        have := addR_err h2
        have q := (er e m2 rfl (f1'.trans (f2.mono (fun q z => by unfold SL; omega))) e2).2
        refine c_rows hs ⟨by constructor <;> omega, by constructor <;> omega, ?_⟩
        by_cases c : rws s ≤ l + 1
        · rw [if_pos c]; exact q
        · rw [if_neg c, e2, this]; exact ⟨by decide, q⟩
    · rw [h1] at er
      have := prodS_err h1
      refine ⟨by rw [e1]; constructor <;> omega, ?_⟩
      rw [if_neg (by rw [e1]; omega)]
      exact (er e m1 rfl (f1.mono (fun q z => by unfold SL; unfold SB at z; omega)) e1).1
theorem mulM_ent (hd : 0 ≤ d ∧ d ≤ 2) (hs : 0 ≤ s ∧ s ≤ 3) (hx : Pl x 882) (hy : Pl y 882) (dx : x + 882 ≤ 1590000 ∨ 1592000 ≤ x ∧ x + 882 ≤ 1594000 ∨ 1594004 ≤ x) (dy : y + 882 ≤ 1590000 ∨ 1592000 ≤ y ∧ y + 882 ≤ 1594000 ∨ 1594004 ≤ y) (nV : NN mu d s V) (nW : NN mu d s W) {K13 : Int → Int → Int → Int → Int → Int → Int → MM → Prop} {K26 : Int → Int → Int → Int → Int → Int → Int → Int → MM → Prop} {i j : Int} (hi : 0 ≤ i ∧ i < rws s) (hj : 0 ≤ j ∧ j < rws s) {m : MM} (hB : BM m base mu) (he : m 582 84 = 0) (vx : VM (m 635) x V) (wy : VM (m 635) y W) (ok : ∀ w m', entS mu d (rws s).toNat V W i j = .ok w → Fm (SL d (1591000 + 98 * (3 * i + j))) m m' → m' 582 84 = 0 → Rw (m' 635) (1591000 + 98 * (3 * i + j)) w (cof d) → K26 to x y base d s i (j + 1) m') (er : ∀ e m', entS mu d (rws s).toNat V W i j = .error e → Fm (SL d (1591000 + 98 * (3 * i + j))) m m' → m' 582 84 = e → Q 0 m' ∧ K26 to x y base d s i (j + 1) m') : ∃ nn, P_X10_multiplyValues_46 Q K13 K26 nn to x y base d s i j 0 m := by
  have hr := rws_bd hs
  have hc := cof_bd hd
  have hM : MU mu := hB.2.2.2.1
  refine ⟨(rws s - 1).toNat + 1 + 1, ?_⟩
  refine c_rows hs ⟨by decide, by constructor <;> omega, ?_⟩
  rw [if_neg (by omega)]
  refine ⟨by rw [he]; decide, ?_⟩
  rw [if_pos he]
  unfold entS at ok er
  refine c_X10_multiplyBlocks (u := V i 0) (v := W 0 j) hd hB he (by omega) (by omega) (by omega) (by omega) (by omega) (by omega) (by omega) (by omega) ((vx i 0 (by omega) (by omega)).le (by omega)) ((wy 0 j (by omega) (by omega)).le (by omega)) (nV.nv i 0 hi (by omega)) (nW.nv 0 j (by omega) hj) ⟨fun t m1 h1 f1 e1 r1 => ?_, fun e m1 h1 f1 e1 => ?_⟩
  · rw [h1] at ok er
    simp only at ok er
    have nt := prodS_NB hM hd (nV.nv i 0 hi (by omega)) (nW.nv 0 j (by omega) hj) h1
    have f1' : Fm (SL d (1591000 + 98 * (3 * i + j))) m m1 := f1.mono (fun q z => by unfold SL; unfold SB at z; omega)
    refine ⟨by rw [e1]; decide, ?_⟩
    rw [if_pos (by omega), if_pos rfl]
    unfold P_X10_entryAt
    refine c_width hd ?_
    have key := c_copy (Q := fun _ m10 => P_X10_multiplyValues_46 Q K13 K26 ((rws s - 1).toNat + 1) to x y base d s i j (0 + 1) m10) (m := m1) (to := 1591000 + 98 * (3 * i + j)) (x := 1590300) (n := (2 * cof d).toNat) (by omega) (by omega) (Or.inr (by omega)) (fun m2 f2 e2 cp => ?_)
    · rw [show (((2 * cof d).toNat : Nat) : Int) = 2 * cof d by omega] at key
      exact key
    · rw [show (((2 * cof d).toNat : Nat) : Int) = 2 * cof d by omega] at f2 cp
      have f2' : Fm (SL d (1591000 + 98 * (3 * i + j))) m m2 := f1'.trans (f2.mono (fun q z => by unfold SL; omega))
      exact mulM_in hd hs hx hy dx dy nV nW hi hj _ 1 t m2 (by decide) (by omega) (f2'.bm hB) (by rw [e2, e1]) (vx.fm f2' (fun q q0 q1 z => by unfold SL at z; omega)) (wy.fm f2' (fun q q0 q1 z => by unfold SL at z; omega)) (r1.cp cp) nt.1 (fun w m' a1 a2 a3 a4 => ok w m' (by rw [show (rws s).toNat - 1 = (rws s - 1).toNat by omega]; exact a1) (f2'.trans a2) a3 a4) (fun e m' a1 a2 a3 => er e m' (by rw [show (rws s).toNat - 1 = (rws s - 1).toNat by omega]; exact a1) (f2'.trans a2) a3)
  · rw [h1] at er
    have := prodS_err h1
    refine ⟨by rw [e1]; constructor <;> omega, ?_⟩
    rw [if_neg (by rw [e1]; omega)]
    exact (er e m1 rfl (f1.mono (fun q z => by unfold SL; unfold SB at z; omega)) e1).1
theorem NN_z {mu d s : Int} (hM : MU mu) : NN mu d s zV := ⟨fun _ _ _ => NB_zr hM, fun _ _ _ _ => rfl⟩
theorem DM_stepL {m m1 : MM} {U : VV} {i j : Int} {w : Int → PP} (hs : 0 ≤ s ∧ s ≤ 3) (hd : 0 ≤ d ∧ d ≤ 2) (hi : 0 ≤ i ∧ i < rws s) (hj : 0 ≤ j ∧ j < rws s) (de : DM (m 635) 1591000 s i j U zV) (f : Fm (SL d (1591000 + 98 * (3 * i + j))) m m1) (r1 : Rw (m1 635) (1591000 + 98 * (3 * i + j)) w (cof d)) (hw : ∀ k, cof d ≤ k → w k = (0, 1)) : DM (m1 635) 1591000 s i (j + 1) (setE U i j w) zV := by
  have hr := rws_bd hs
  have hc := cof_bd hd
  intro k l hk hl
  by_cases cc : k = i ∧ l = j
  · obtain ⟨rfl, rfl⟩ := cc
    refine ⟨fun _ => ?_, fun z => absurd (show Dn s k (l + 1) k l by omega) z⟩
    unfold setE
    rw [if_pos ⟨rfl, rfl⟩]
    have old := (de k l hk hl).2 (by omega)
    intro q q0 q1
    by_cases c2 : q < cof d
    · exact r1 q q0 c2
    · rw [hw q (by omega), f.2 _ (fun z => by unfold SL at z; omega), f.2 _ (fun z => by unfold SL at z; omega)]
      exact old q q0 q1
  · have hdj : ∀ q, 1591000 + 98 * (3 * k + l) ≤ q → q < 1591000 + 98 * (3 * k + l) + 2 * 49 → ¬ SL d (1591000 + 98 * (3 * i + j)) q := fun q q0 q1 z => by unfold SL at z; omega
    unfold setE
    rw [if_neg cc]
    exact ⟨fun z => ((de k l hk hl).1 (by omega)).fm f hdj, fun z => ((de k l hk hl).2 (by omega)).fm f hdj⟩
theorem c_X10_multiplyValues {m : MM} (hd : 0 ≤ d ∧ d ≤ 2) (hs : 0 ≤ s ∧ s ≤ 3) (hB : BM m base mu) (he : m 582 84 = 0) (hx : Pl x 882) (hy : Pl y 882) (ht : Pl to 882) (dx : x + 882 ≤ 1590000 ∨ 1592000 ≤ x ∧ x + 882 ≤ 1594000 ∨ 1594004 ≤ x) (dy : y + 882 ≤ 1590000 ∨ 1592000 ≤ y ∧ y + 882 ≤ 1594000 ∨ 1594004 ≤ y) (dt : Dj to 882 1591000 882) (vx : VM (m 635) x V) (wy : VM (m 635) y W) (nV : NN mu d s V) (nW : NN mu d s W) (h : OutW (fun i => SW i ∨ SX to i) m (mulV mu d s V W) to Q) : P_X10_multiplyValues to x y base d s m Q := by
  have hM : MU mu := hB.2.2.2.1
  have hr := rws_bd hs
  have hc := cof_bd hd
  refine c_clear (n := 441) (by decide) (by decide) (fun m0 f0 e0 r0 => ?_)
  have f0' : Fm SW m m0 := f0.mono (fun i z => by have z1 : 1591000 ≤ i ∧ i < 1591000 + 2 * 441 := z; unfold SW; omega)
  have d0 : DM (m0 635) 1591000 s 0 0 zV zV := by
    intro k l hk hl
    have : Rw (m0 635) (1591000 + 98 * (3 * k + l)) zr 49 := by
      have q := r0.sub (k := 49 * (3 * k + l)) (l := 49) (by omega) (show _ ≤ ((441 : Nat) : Int) by omega)
      rw [show 1591000 + 2 * (49 * (3 * k + l)) = 1591000 + 98 * (3 * k + l) by omega] at q
      exact q
    exact ⟨fun _ => this, fun _ => this⟩
  have L2 : ∀ {K13 : Int → Int → Int → Int → Int → Int → Int → MM → Prop} {i : Int}, (0 ≤ i ∧ i < rws s) → ∀ (r : Nat) (j : Int) (U : VV) (m1 : MM), 0 ≤ j → j + r = rws s → BM m1 base mu → m1 582 84 = 0 → VM (m1 635) x V → VM (m1 635) y W → DM (m1 635) 1591000 s i j U zV → (∀ U' m', colG (entS mu d (rws s).toNat V W) i r j U = .ok U' → Fm SW m1 m' → m' 582 84 = 0 → DM (m' 635) 1591000 s (i + 1) 0 U' zV → K13 to x y base d s (i + 1) m') → (∀ e m', colG (entS mu d (rws s).toNat V W) i r j U = .error e → Fm SW m1 m' → m' 582 84 = e → Q 0 m' ∧ K13 to x y base d s (i + 1) m') → P_X10_multiplyValues_26 Q K13 (r + 1) to x y base d s i j m1 := by
    intro K13 i hi r
    induction r with
    | zero =>
      intro j U m1 j0 j1 hB1 he1 vx1 wy1 de ok er
      refine c_rows hs ⟨by constructor <;> omega, by constructor <;> omega, ?_⟩
      rw [if_pos (by omega)]
      exact ok U m1 rfl (Fm.refl m1) he1 (fun k l hk hl => ⟨fun z => (de k l hk hl).1 (by omega), fun z => (de k l hk hl).2 (by omega)⟩)
    | succ r ih =>
      intro j U m1 j0 j1 hB1 he1 vx1 wy1 de ok er
      refine c_rows hs ⟨by constructor <;> omega, by constructor <;> omega, ?_⟩
      rw [if_neg (by omega)]
      refine ⟨by rw [he1]; decide, ?_⟩
      rw [if_pos he1]
      unfold colG at ok er
      have sub : ∀ q, SL d (1591000 + 98 * (3 * i + j)) q → SW q := fun q z => by unfold SL at z; unfold SW; omega
      refine mulM_ent hd hs hx hy dx dy nV nW hi (by omega) hB1 he1 vx1 wy1 (fun w m2 hw f2 e2 r2 => ?_) (fun e m2 hw f2 e2 => ?_)
      · rw [hw] at ok er
        simp only at ok er
        have f2' : Fm SW m1 m2 := f2.mono sub
        refine ih (j + 1) (setE U i j w) m2 (by omega) (by omega) (f2.bm hB1) e2 (vx1.fm f2' (fun q q0 q1 z => by unfold SW at z; omega)) (wy1.fm f2' (fun q q0 q1 z => by unfold SW at z; omega)) (DM_stepL hs hd hi (by omega) de f2 r2 (entS_NB hM hd nV.nv nW.nv hi (by omega) hw).2) (fun U' m' a1 a2 a3 a4 => ok U' m' a1 (f2'.trans a2) a3 a4) (fun e m' a1 a2 a3 => er e m' a1 (f2'.trans a2) a3)
      · rw [hw] at er
        have := entS_err _ _ _ hw
        obtain ⟨q1, q2⟩ := er e m2 rfl (f2.mono sub) e2
        refine ⟨q1, c_rows hs ⟨by constructor <;> omega, by constructor <;> omega, ?_⟩⟩
        by_cases c : rws s ≤ j + 1
        · rw [if_pos c]; exact q2
        · rw [if_neg c, e2]
          refine ⟨by constructor <;> omega, ?_⟩
          rw [if_neg (by omega)]
          exact q2
  have L1 : ∀ (r : Nat) (i : Int) (U : VV) (m1 : MM), 0 ≤ i → i + r = rws s → Fm SW m m1 → m1 582 84 = 0 → DM (m1 635) 1591000 s i 0 U zV → (∀ k l, ¬ Dn s i 0 k l → U k l = zr) → rowG (entS mu d (rws s).toNat V W) (rws s).toNat r i U = mulV mu d s V W → P_X10_multiplyValues_13 Q (r + 1) to x y base d s i m1 := by
    intro r
    induction r with
    | zero =>
      intro i U m1 i0 i1 f e de hz hs'
      refine c_rows hs ⟨by constructor <;> omega, by constructor <;> omega, ?_⟩
      rw [if_pos (by omega)]
      refine ⟨by rw [e]; decide, ?_⟩
      rw [if_pos e]
      refine c_copy (n := 882) (by decide) ht (Or.inr dt) (fun m2 f2 e2 cp => ?_)
      refine h.1 U m2 hs'.symm ((f.mono (fun q z => Or.inl z)).trans (f2.mono (fun q z => Or.inr z))) (by rw [e2, e]) (fun k l hk hl => ?_)
      have src : Rw (m1 635) (1591000 + 98 * (3 * k + l)) (U k l) 49 := by
        by_cases c : Dn s i 0 k l
        · exact (de k l hk hl).1 c
        · rw [hz k l c]; exact (de k l hk hl).2 c
      refine src.cp (fun q q0 q1 => ?_)
      have := cp (98 * (3 * k + l) + q) (by omega) (show _ < ((882 : Nat) : Int) by omega)
      rw [show to + (98 * (3 * k + l) + q) = to + 98 * (3 * k + l) + q by omega, show 1591000 + (98 * (3 * k + l) + q) = 1591000 + 98 * (3 * k + l) + q by omega] at this
      exact this
    | succ r ih =>
      intro i U m1 i0 i1 f e de hz hs'
      refine c_rows hs ⟨by constructor <;> omega, by constructor <;> omega, ?_⟩
      rw [if_neg (by omega)]
      unfold rowG at hs'
      refine ⟨(rws s).toNat + 1, L2 (by omega) _ 0 U m1 (by decide) (by omega) (f.bm hB) e (vx.fm f (fun q q0 q1 z => by unfold SW at z; omega)) (wy.fm f (fun q q0 q1 z => by unfold SW at z; omega)) de (fun U' m' a1 a2 a3 a4 => ?_) (fun e1 m' a1 a2 a3 => ?_)⟩
      · rw [a1] at hs'
        refine ih (i + 1) U' m' (by omega) (by omega) (f.trans a2) a3 a4 (fun k l c => ?_) hs'
        rw [(colG_ok _ _ _ _ a1).2 k l (by omega)]
        exact hz k l (by omega)
      · rw [a1] at hs'
        have := colG_err (P := fun e => e = 1 ∨ e = 4) (fun i j e => entS_err i j e) _ _ _ _ a1
        have q := h.2 e1 m' hs'.symm ((f.trans a2).mono (fun q z => Or.inl z)) a3
        exact ⟨q, mulM_err13 (i := 0) (r := 0) hs (by rw [a3]; constructor <;> omega) (by rw [a3]; omega) q _ _ (by omega) (by omega) (by omega)⟩
  exact ⟨(rws s).toNat + 1, L1 (rws s).toNat 0 zV m0 (by decide) (by omega) f0' (by rw [e0, he]) d0 (fun k l _ => rfl) (by unfold mulV matS; rfl)⟩
end MULM
