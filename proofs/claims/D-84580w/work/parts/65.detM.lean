set_option maxRecDepth 100000
/-! determinants: the model -/
section DETM
variable {Q : Int → MM → Prop} {base mu d s x to : Int} {V : VV}
def ST (q : Int) : Prop := 1590000 ≤ q ∧ q < 1590298 ∨ 1590400 ≤ q ∧ q < 1590498 ∨ 1594000 ≤ q ∧ q < 1594004
theorem c_lessOrMore {m : MM} {y ls : Int} {u v : Int → PP} (hls : ls = 0 ∨ ls = 1) (hd : 0 ≤ d ∧ d ≤ 2) (hB : BM m base mu) (he : m 582 84 = 0) (hy : Pl y (2 * cof d)) (ht : Pl to (2 * cof d)) (ay : Dj to (2 * cof d) y (2 * cof d)) (ux : Rw (m 635) to u (cof d)) (vy : Rw (m 635) y v (cof d)) (nu : NBs mu u (cof d)) (nv : NBs mu v (cof d)) (h : OutM (fun i => to ≤ i ∧ i < to + 2 * cof d) m (addR mu ls (cof d).toNat u v) to (cof d) Q) : P_X10_lessOrMore to y base d ls m Q := by
  refine ⟨by constructor <;> omega, ?_⟩
  rcases hls with c | c
  · subst c
    rw [if_pos rfl]
    exact c_X10_addBlocks hd hB he ht hy ht (Or.inl rfl) (Or.inr ay) ux vy nu nv h
  · subst c
    rw [if_neg (by decide)]
    exact c_X10_takeBlocks hd hB he ht hy ht (Or.inl rfl) (Or.inr ay) ux vy nu nv h
theorem Rw.up49 {m m' : MM} {S : Int → Prop} {x c : Int} {w : Int → PP} (h1 : Rw (m' 635) x w c) (h2 : Rw (m 635) x zr 49) (f : Fm S m m') (d : ∀ q, x + 2 * c ≤ q → q < x + 98 → ¬ S q) (hw : ∀ k, c ≤ k → w k = (0, 1)) (hc : 0 ≤ c) : Rw (m' 635) x w 49 := by
  intro k k0 k1
  by_cases cc : k < c
  · exact h1 k k0 cc
  · rw [hw k (by omega), f.2 _ (d _ (by omega) (by omega)), f.2 _ (d _ (by omega) (by omega))]
    exact h2 k k0 k1
theorem c_smallDet {m : MM} {pa pb pc pe : Int} {a b c e : Int → PP} (hd : 0 ≤ d ∧ d ≤ 2) (hB : BM m base mu) (he : m 582 84 = 0) (ha : Pl pa 98) (hb : Pl pb 98) (hc : Pl pc 98) (hee : Pl pe 98) (ht : Pl to 98) (da : pa + 98 ≤ 1590000 ∨ 1594004 ≤ pa) (db : pb + 98 ≤ 1590000 ∨ 1594004 ≤ pb) (dc : pc + 98 ≤ 1590000 ∨ 1594004 ≤ pc) (de : pe + 98 ≤ 1590000 ∨ 1594004 ≤ pe) (dt : 1590500 ≤ to ∧ to + 98 ≤ 1594000) (ra : Rw (m 635) pa a 49) (rb : Rw (m 635) pb b 49) (rc : Rw (m 635) pc c 49) (re : Rw (m 635) pe e 49) (na : NBs mu a (cof d)) (nb : NBs mu b (cof d)) (nc : NBs mu c (cof d)) (ne : NBs mu e (cof d)) (h : OutM (fun q => ST q ∨ to ≤ q ∧ q < to + 98) m (det2S mu d a b c e) to 49 Q) : P_X10_smallDet to pa pb pc pe base d m Q := by
  have hM : MU mu := hB.2.2.2.1
  have hcb := cof_bd hd
  have hcN : ((cof d).toNat : Int) = cof d := by omega
  have end41 : ∀ m1 : MM, RI (m1 582 84) → m1 582 84 ≠ 0 → Q 0 m1 → P_X10_smallDet_41 Q to pb pc base d m1 := by
    intro m1 h1 h2 q
    refine ⟨h1, ?_⟩
    rw [if_neg h2]
    refine ⟨h1, ?_⟩
    rw [if_neg h2]
    exact q
  unfold det2S at h
  refine c_clear (n := 49) (by omega) (show to + 2 * ((49 : Nat) : Int) ≤ _ by omega) (fun m1 f1 e1 r1 => ?_)
  have f1' : Fm (fun q => ST q ∨ to ≤ q ∧ q < to + 98) m m1 := f1.mono (fun q z => Or.inr z)
  have e1' : m1 582 84 = 0 := by rw [e1, he]
  have keep : ∀ {m2 : MM} {p : Int} {u : Int → PP}, Fm (fun q => ST q ∨ to ≤ q ∧ q < to + 98) m m2 → (p + 98 ≤ 1590000 ∨ 1594004 ≤ p) → Rw (m 635) p u 49 → Rw (m2 635) p u (cof d) := by
    intro m2 p u f hp r
    exact (r.fm f (fun q q0 q1 z => by unfold ST at z; omega)).le (by omega)
  refine c_X10_multiplyBlocks (u := a) (v := e) hd (f1'.bm hB) e1' (by omega) (by omega) (by omega) (by omega) (by omega) (by omega) (by omega) (by omega) (keep f1' da ra) (keep f1' de re) na ne ⟨fun t m2 h2 f2 e2 r2 => ?_, fun x m2 h2 f2 e2 => ?_⟩
  · rw [h2] at h
    simp only at h
    have nt := prodS_NB hM hd na ne h2
    have f2' : Fm (fun q => ST q ∨ to ≤ q ∧ q < to + 98) m m2 := f1'.trans (f2.mono (fun q z => by left; unfold SB at z; unfold ST; omega))
    refine ⟨by rw [e2]; decide, ?_⟩
    rw [if_pos e2]
    have rz : Rw (m2 635) to zr 49 := r1.fm f2 (fun q q0 q1 z => by unfold SB at z; omega)
    refine c_lessOrMore (u := zr) (v := t) (Or.inl rfl) hd (f2'.bm hB) e2 (by omega) (by omega) (by omega) (rz.le (by omega)) r2 (fun _ _ _ => NB_zr hM) (fun k _ _ => nt.1 k) ⟨fun w m3 h3 f3 e3 r3 => ?_, fun x m3 h3 f3 e3 => ?_⟩
    · rw [h3] at h
      simp only at h
      have nw : NR mu (cof d) w := ⟨addR_NB hM (fun _ _ _ => NB_zr hM) (fun k _ _ => nt.1 k) h3, fun k hk => (addR_ok h3).2 k (by omega)⟩
      have f3' : Fm (fun q => ST q ∨ to ≤ q ∧ q < to + 98) m m3 := f2'.trans (f3.mono (fun q z => by right; omega))
      have r3' : Rw (m3 635) to w 49 := r3.up49 rz f3 (fun q q0 q1 z => by omega) nw.2 (by omega)
      refine ⟨by rw [e3]; decide, ?_⟩
      rw [if_pos e3]
      refine c_X10_multiplyBlocks (u := b) (v := c) hd (f3'.bm hB) e3 (by omega) (by omega) (by omega) (by omega) (by omega) (by omega) (by omega) (by omega) (keep f3' db rb) (keep f3' dc rc) nb nc ⟨fun t2 m4 h4 f4 e4 r4 => ?_, fun x m4 h4 f4 e4 => ?_⟩
      · rw [h4] at h
        simp only at h
        have nt2 := prodS_NB hM hd nb nc h4
        have f4' : Fm (fun q => ST q ∨ to ≤ q ∧ q < to + 98) m m4 := f3'.trans (f4.mono (fun q z => by left; unfold SB at z; unfold ST; omega))
        have r4' : Rw (m4 635) to w 49 := r3'.fm f4 (fun q q0 q1 z => by unfold SB at z; omega)
        refine ⟨by rw [e4]; decide, ?_⟩
        rw [if_pos e4]
        refine c_lessOrMore (u := w) (v := t2) (Or.inr rfl) hd (f4'.bm hB) e4 (by omega) (by omega) (by omega) (r4'.le (by omega)) r4 nw.bs (fun k _ _ => nt2.1 k) ⟨fun w2 m5 h5 f5 e5 r5 => ?_, fun x m5 h5 f5 e5 => ?_⟩
        · have f5' : Fm (fun q => ST q ∨ to ≤ q ∧ q < to + 98) m m5 := f4'.trans (f5.mono (fun q z => by right; omega))
          refine h.1 w2 m5 h5 f5' e5 ?_
          intro k k0 k1
          by_cases cc : k < cof d
          · exact r5 k k0 cc
          · rw [(addR_ok h5).2 k (by omega), f5.2 _ (by omega), f5.2 _ (by omega), ← nw.2 k (by omega)]
            exact r4' k k0 k1
        · exact h.2 x m5 h5 (f4'.trans (f5.mono (fun q z => by right; omega))) e5
      · rw [h4] at h
        have := prodS_err h4
        refine ⟨by rw [e4]; constructor <;> omega, ?_⟩
        rw [if_neg (by rw [e4]; omega)]
        exact h.2 x m4 rfl (f3'.trans (f4.mono (fun q z => by left; unfold SB at z; unfold ST; omega))) e4
    · rw [h3] at h
      have := addR_err h3
      exact end41 m3 (by rw [e3, this]; decide) (by rw [e3, this]; decide) (h.2 x m3 rfl (f2'.trans (f3.mono (fun q z => by right; omega))) e3)
  · rw [h2] at h
    have := prodS_err h2
    refine ⟨by rw [e2]; constructor <;> omega, ?_⟩
    rw [if_neg (by rw [e2]; omega)]
    exact end41 m2 (by rw [e2]; constructor <;> omega) (by rw [e2]; omega) (h.2 x m2 rfl (f1'.trans (f2.mono (fun q z => by left; unfold SB at z; unfold ST; omega))) e2)
def SF (q : Int) : Prop := 1590000 ≤ q ∧ q < 1590298 ∨ 1590400 ≤ q ∧ q < 1590698 ∨ 1594000 ≤ q ∧ q < 1594004
theorem c_X10_det {m : MM} (hd : 0 ≤ d ∧ d ≤ 2) (hs : 1 ≤ s ∧ s ≤ 3) (hB : BM m base mu) (he : m 582 84 = 0) (hx : 0 ≤ x ∧ x + 882 ≤ 1590000) (ht : Pl to 98) (dt : Dj to 98 1590600 98) (vx : VM (m 635) x V) (nV : NN mu d s V) (h : OutM (fun q => SF q ∨ to ≤ q ∧ q < to + 98) m (detS mu d s V) to 49 Q) : P_X10_det to x base d s m Q := by
  have hM : MU mu := hB.2.2.2.1
  have hcb := cof_bd hd
  have hcN : ((cof d).toNat : Int) = cof d := by omega
  have h209 : ∀ (m1 : MM) (w : Int → PP), detS mu d s V = .ok w → Fm SF m m1 → m1 582 84 = 0 → Rw (m1 635) 1590600 w 49 → P_X10_det_209 Q to m1 := by
    intro m1 w hw f e r
    refine ⟨by rw [e]; decide, ?_⟩
    rw [if_pos e]
    refine c_copy (n := 98) (by decide) ht (Or.inr dt) (fun m2 f2 e2 cp => ?_)
    exact h.1 w m2 hw ((f.mono (fun q z => Or.inl z)).trans (f2.mono (fun q z => Or.inr z))) (by rw [e2, e]) (r.cp (n := 49) cp)
  have h209e : ∀ (m1 : MM) (e : Int), detS mu d s V = .error e → Fm SF m m1 → m1 582 84 = e → (e = 1 ∨ e = 4) → P_X10_det_209 Q to m1 := by
    intro m1 e hw f e1 he1
    refine ⟨by rw [e1]; constructor <;> omega, ?_⟩
    rw [if_neg (by rw [e1]; omega)]
    exact h.2 e m1 hw (f.mono (fun q z => Or.inl z)) e1
  have h63 : s ≠ 3 → ∀ m1 : MM, P_X10_det_209 Q to m1 → ∃ nn, P_X10_det_63 Q nn to x base d s 0 m1 := by
    intro c m1 q
    refine ⟨1, by constructor <;> omega, ?_⟩
    rw [if_neg c]
    exact q
  refine c_clear (n := 49) (by decide) (by decide) (fun m1 f1 e1 r1 => ?_)
  have f1' : Fm SF m m1 := f1.mono (fun q z => by have z1 : 1590600 ≤ q ∧ q < 1590600 + 2 * 49 := z; unfold SF; omega)
  have e1' : m1 582 84 = 0 := by rw [e1, he]
  have v1 : VM (m1 635) x V := vx.fm f1' (fun q q0 q1 z => by unfold SF at z; omega)
  refine ⟨by constructor <;> omega, ?_⟩
  have : s = 1 ∨ s = 2 ∨ s = 3 := by omega
  rcases this with c | c | c
  · subst c
    rw [if_pos rfl]
    have src : Rw (m1 635) x (V 0 0) 49 := by
      have := v1 0 0 (by decide) (by decide)
      rw [show x + 98 * (3 * 0 + 0) = x by omega] at this
      exact this
    refine c_copy (n := 98) (by omega) (by decide) (Or.inr (by omega)) (fun m2 f2 e2 cp => ?_)
    refine ⟨by decide, ?_⟩
    rw [if_neg (by decide)]
    refine h63 (by decide) m2 (h209 m2 (V 0 0) (by unfold detS; rw [if_pos rfl]) (f1'.trans (f2.mono (fun q z => by have z1 : 1590600 ≤ q ∧ q < 1590600 + 98 := z; unfold SF; omega))) (by rw [e2, e1']) (src.cp (n := 49) cp))
  · subst c
    rw [if_neg (by decide)]
    refine ⟨by decide, ?_⟩
    rw [if_pos rfl]
    have hdet : detS mu d 2 V = det2S mu d (V 0 0) (V 0 1) (V 1 0) (V 1 1) := by unfold detS; rw [if_neg (by decide), if_pos rfl]
    have g : ∀ i j, in3 i → in3 j → Rw (m1 635) (x + 98 * (3 * i + j)) (V i j) 49 := v1
    have g00 := g 0 0 (by decide) (by decide)
    rw [show x + 98 * (3 * 0 + 0) = x by omega] at g00
    refine c_smallDet (a := V 0 0) (b := V 0 1) (c := V 1 0) (e := V 1 1) hd (f1'.bm hB) e1' (by omega) (by omega) (by omega) (by omega) (by decide) (by omega) (by omega) (by omega) (by omega) (by decide) g00 (g 0 1 (by decide) (by decide)) (g 1 0 (by decide) (by decide)) (g 1 1 (by decide) (by decide)) (nV.nv 0 0 (by decide) (by decide)) (nV.nv 0 1 (by decide) (by decide)) (nV.nv 1 0 (by decide) (by decide)) (nV.nv 1 1 (by decide) (by decide)) ⟨fun w m2 h2 f2 e2 r2 => ?_, fun e m2 h2 f2 e2 => ?_⟩
    · exact h63 (by decide) m2 (h209 m2 w (by rw [hdet, h2]) (f1'.trans (f2.mono (fun q z => by unfold ST at z; unfold SF; omega))) e2 r2)
    · exact h63 (by decide) m2 (h209e m2 e (by rw [hdet, h2]) (f1'.trans (f2.mono (fun q z => by unfold ST at z; unfold SF; omega))) e2 (det2S_err h2))
  · subst c
    rw [if_neg (by decide)]
    refine ⟨by decide, ?_⟩
    rw [if_neg (by decide)]
    have hdet : detS mu d 3 V = det3S mu d V := by unfold detS; rw [if_neg (by decide), if_neg (by decide)]
    have n0 : ∀ i j, in3 i → in3 j → NBs mu (V i j) (cof d) := fun i j hi hj => nV.nv i j hi hj
    -- one summand
    have D : ∀ (nn : Nat) (ma : MM) (j l0 l1 : Int) (a : Int → PP), Fm SF m ma → ma 582 84 = 0 → in3 j → (if j = 0 then (1 : Int) else 0) = l0 → (if j = 2 then (1 : Int) else 2) = l1 → in3 l0 → in3 l1 → Rw (ma 635) 1590600 a 49 → NR mu (cof d) a → (∀ w m', stepS mu d (if j = 1 then 1 else 0) (det2S mu d (V 1 l0) (V 1 l1) (V 2 l0) (V 2 l1)) (V 0 j) a = .ok w → Fm SF m m' → m' 582 84 = 0 → Rw (m' 635) 1590600 w 49 → NR mu (cof d) w → P_X10_det_63 Q (nn + 1) to x base d 3 (j + 1) m') → (∀ e m', stepS mu d (if j = 1 then 1 else 0) (det2S mu d (V 1 l0) (V 1 l1) (V 2 l0) (V 2 l1)) (V 0 j) a = .error e → Fm SF m m' → m' 582 84 = e → P_X10_det_209 Q to m') → P_X10_det_63 Q (nn + 2) to x base d 3 j ma := by
      intro nn ma j l0 l1 a fa ea hj hl0 hl1 i0 i1 ra na ok er
      have va : VM (ma 635) x V := vx.fm fa (fun q q0 q1 z => by unfold SF at z; omega)
      have err63 : ∀ (m2 : MM), RI (m2 582 84) → m2 582 84 ≠ 0 → P_X10_det_209 Q to m2 → P_X10_det_63 Q (nn + 1) to x base d 3 (j + 1) m2 := by
        intro m2 h1 h2 q
        refine ⟨by decide, ?_⟩
        rw [if_pos rfl]
        refine ⟨by constructor <;> omega, ?_⟩
        by_cases c : 3 ≤ j + 1
        · rw [if_pos c]; exact q
        · rw [if_neg c]
          refine ⟨h1, ?_⟩
          rw [if_neg h2]
          exact q
      refine ⟨by decide, ?_⟩
      rw [if_pos rfl]
      refine ⟨by constructor <;> omega, ?_⟩
      rw [if_neg (by omega)]
      refine ⟨by rw [ea]; decide, ?_⟩
      rw [if_pos ea, hl0, hl1]
      unfold stepS at ok er
      refine c_smallDet (a := V 1 l0) (b := V 1 l1) (c := V 2 l0) (e := V 2 l1) hd (fa.bm hB) ea (by omega) (by omega) (by omega) (by omega) (by decide) (by omega) (by omega) (by omega) (by omega) (by decide) (va 1 l0 (by decide) i0) (va 1 l1 (by decide) i1) (va 2 l0 (by decide) i0) (va 2 l1 (by decide) i1) (n0 1 l0 (by decide) i0) (n0 1 l1 (by decide) i1) (n0 2 l0 (by decide) i0) (n0 2 l1 (by decide) i1) ⟨fun sm m2 h2 f2 e2 r2 => ?_, fun e m2 h2 f2 e2 => ?_⟩
      · rw [h2] at ok er
        simp only at ok er
        have nsm := det2S_NR hM hd (n0 1 l0 (by decide) i0) (n0 1 l1 (by decide) i1) (n0 2 l0 (by decide) i0) (n0 2 l1 (by decide) i1) h2
        have f2' : Fm SF m m2 := fa.trans (f2.mono (fun q z => by unfold ST at z; unfold SF; omega))
        have v2 : VM (m2 635) x V := vx.fm f2' (fun q q0 q1 z => by unfold SF at z; omega)
        have ra2 : Rw (m2 635) 1590600 a 49 := ra.fm f2 (fun q q0 q1 z => by unfold ST at z; omega)
        refine ⟨by rw [e2]; decide, ?_⟩
        rw [if_pos e2]
        refine c_X10_multiplyBlocks (u := V 0 j) (v := sm) hd (f2'.bm hB) e2 (by omega) (by omega) (by omega) (by omega) (by omega) (by omega) (by omega) (by omega) ((v2 0 j (by decide) hj).le (by omega)) (r2.le (by omega)) (n0 0 j (by decide) hj) nsm.bs ⟨fun t m3 h3 f3 e3 r3 => ?_, fun e m3 h3 f3 e3 => ?_⟩
        · rw [h3] at ok er
          simp only at ok er
          have nt := prodS_NB hM hd (n0 0 j (by decide) hj) nsm.bs h3
          have f3' : Fm SF m m3 := f2'.trans (f3.mono (fun q z => by unfold SB at z; unfold SF; omega))
          have ra3 : Rw (m3 635) 1590600 a 49 := ra2.fm f3 (fun q q0 q1 z => by unfold SB at z; omega)
          refine ⟨by rw [e3]; decide, ?_⟩
          rw [if_pos e3]
          refine ⟨by constructor <;> omega, ?_⟩
          refine c_lessOrMore (u := a) (v := t) (by split <;> decide) hd (f3'.bm hB) e3 (by omega) (by omega) (by omega) (ra3.le (by omega)) r3 na.bs (fun k _ _ => nt.1 k) ⟨fun w m4 h4 f4 e4 r4 => ?_, fun e m4 h4 f4 e4 => ?_⟩
          · have nw : NR mu (cof d) w := ⟨addR_NB hM na.bs (fun k _ _ => nt.1 k) h4, fun k hk => (addR_ok h4).2 k (by omega)⟩
            refine ok w m4 h4 (f3'.trans (f4.mono (fun q z => by unfold SF; omega))) e4 ?_ nw
            intro k k0 k1
            by_cases cc : k < cof d
            · exact r4 k k0 cc
            · rw [nw.2 k (by omega), f4.2 _ (by omega), f4.2 _ (by omega), ← na.2 k (by omega)]
              exact ra3 k k0 k1
          · have := addR_err h4
            exact err63 m4 (by rw [e4, this]; decide) (by rw [e4, this]; decide) (er e m4 h4 (f3'.trans (f4.mono (fun q z => by unfold SF; omega))) e4)
        · rw [h3] at er
          have := prodS_err h3
          have q := er e m3 rfl (f2'.trans (f3.mono (fun q z => by unfold SB at z; unfold SF; omega))) e3
          refine ⟨by rw [e3]; constructor <;> omega, ?_⟩
          rw [if_neg (by rw [e3]; omega)]
          exact err63 m3 (by rw [e3]; constructor <;> omega) (by rw [e3]; omega) q
      · rw [h2] at er
        have := det2S_err h2
        have q := er e m2 rfl (fa.trans (f2.mono (fun q z => by unfold ST at z; unfold SF; omega))) e2
        refine ⟨by rw [e2]; constructor <;> omega, ?_⟩
        rw [if_neg (by rw [e2]; omega)]
        refine ⟨by rw [e2]; constructor <;> omega, ?_⟩
        rw [if_neg (by rw [e2]; omega)]
        exact err63 m2 (by rw [e2]; constructor <;> omega) (by rw [e2]; omega) q
    have dets : ∀ {z : EX (Int → PP)}, det3S mu d V = z → detS mu d 3 V = z := fun q => by rw [hdet, q]
    have perr : ∀ {e : Int}, det3S mu d V = .error e → e = 1 ∨ e = 4 := fun q => det3S_err q
    refine ⟨10, D 8 m1 0 1 2 zr f1' e1' (by decide) (by decide) (by decide) (by decide) (by decide) r1 ⟨fun _ => NB_zr hM, fun _ _ => rfl⟩ (fun w1 m2 q1 q2 q3 q4 q5 => ?_) (fun e m' q1 q2 q3 => ?_)⟩
    · rw [if_neg (by decide)] at q1
      refine D 7 m2 1 0 2 w1 q2 q3 (by decide) (by decide) (by decide) (by decide) (by decide) q4 q5 (fun w2 m3 p1 p2 p3 p4 p5 => ?_) (fun e m' p1 p2 p3 => ?_)
      · rw [if_pos (by decide)] at p1
        refine D 6 m3 2 0 1 w2 p2 p3 (by decide) (by decide) (by decide) (by decide) (by decide) p4 p5 (fun w3 m4 t1 t2 t3 t4 t5 => ?_) (fun e m' t1 t2 t3 => ?_)
        · rw [if_neg (by decide)] at t1
          refine ⟨by decide, ?_⟩
          rw [if_pos rfl]
          refine ⟨by decide, ?_⟩
          rw [if_pos (by decide)]
          exact h209 m4 w3 (dets (by unfold det3S; rw [q1]; simp only; rw [p1]; exact t1)) t2 t3 t4
        · rw [if_neg (by decide)] at t1
          have z : det3S mu d V = .error e := by unfold det3S; rw [q1]; simp only; rw [p1]; exact t1
          exact h209e m' e (dets z) t2 t3 (perr z)
      · rw [if_pos (by decide)] at p1
        have z : det3S mu d V = .error e := by unfold det3S; rw [q1]; simp only; rw [p1]
        exact h209e m' e (dets z) p2 p3 (perr z)
    · rw [if_neg (by decide)] at q1
      have z : det3S mu d V = .error e := by unfold det3S; rw [q1]
      exact h209e m' e (dets z) q2 q3 (perr z)
end DETM
