set_option maxRecDepth 100000
/-! the model's tasks: what is built in -/
section VMB
variable {Q : Int → MM → Prop} {m m' m0 m1 ms : MM} {k c0 p q f mo : Int} {x r0 r1 : R3} {V U W : VV} {res : EX VV}
theorem OutB.w {X : Int → Prop} (K : OutB m res p Q) (hX : ∀ q, X q → p ≤ q) : OutW X m res p Q := OutB.of okFr.refl (fun _ _ _ => rfl) rfl K hX
theorem OutB.tell {v : Int} (K : OutB m (.ok (numV v)) p Q) (er : m 582 84 = 0) : ∀ m', Fm (SX p) m m' → m' 582 84 = m 582 84 → VM (m' 635) p (numV v) → Q 0 m' := fun m' f e84 vm => K.1 (numV v) m' rfl f.okf (fun q q0 q1 => f.2 q (by unfold SX; omega)) (by rw [e84]; exact er) (f.1 _ _ (by decide) (by decide)) vm
theorem row_0 (vp : VM (m 635) p V) : Rw (m 635) p (V 0 0) 49 := by
  have := vp 0 0 (by decide) (by decide)
  rw [show p + 98 * (3 * 0 + 0) = p by omega] at this
  exact this
theorem cell_0 (vp : VM (m 635) p V) : m 635 p = (V 0 0 0).1 ∧ m 635 (p + 1) = (V 0 0 0).2 := by
  have := row_0 vp 0 (by decide) (by decide)
  rw [show p + 2 * 0 = p by omega] at this
  exact this
theorem VR_frac {a : R3} (ha : ok3 a) (hb : a.1 ≠ -2) (hm : okMo a.1 mo) (v : VR mo a V) : VR mo (frac a) V := by
  have := conv_VR ha (frac_ok ha) (fr_mo hm) (gs_frac ha ha jn_self) v
  rw [conv_frac hb] at this
  exact this
theorem okR_eq {r : EX (Int → PP)} : okR r = (match r with | .error e => .error e | .ok w => .ok (rvv w)) := by cases r <;> rfl
/-- of one value -/
theorem c_built1 (hf : 0 ≤ f ∧ f ≤ 13) (hn : ¬ (f = 0 ∨ f = 2 ∨ f = 3)) (hr : fn1S f r0 = some x) (o0 : ok3 r0) (m0 : okMo r0.1 mo) (bm : ∀ b, okb b → okMo b mo → BM m (bM b) (muR b mo)) (er : m 582 84 = 0) (hp : 0 ≤ p ∧ p + 882 ≤ 1590000) (hc0 : 0 ≤ c0 ∧ c0 < 12000) (rc : rgM m c0 (some r0)) (vp : VM (m 635) p V) (nV : VR mo r0 V) (K : OutB m (fnV f mo (fnA f r0) x V V) p Q) : P_X10_built k f c0 p q m Q := by
  obtain ⟨b, cs⟩ := fn1_cs hf hn hr
  obtain ⟨g1, g2, g3⟩ := rc
  have ds := ok3_ds o0
  have ob : okb r0.1 := by
    rcases o0 with w | w
    · exact absurd w.1 b
    · exact w.1
  have bM0 := bm _ ob m0
  have hM := bM0.2.2.2.1
  have nv := nV.1
  have ri0 := ok3_ri o0
  have rl : ∀ k, RL (V 0 0 k).1 := fun k => by have := (nv.1 0 0 k).p1; constructor <;> omega
  unfold P_X10_built
  refine ⟨hc0, by constructor <;> omega, ?_⟩
  rw [if_neg (show ¬ f = 0 by omega)]
  rcases cs with ⟨c, q1, q2, q3⟩ | ⟨c, q1, q2, q3⟩ | ⟨c, q1, q2⟩ | ⟨c, q1, q2⟩ | ⟨c, q1, q2, q3⟩ | ⟨c, q1, q2, q3⟩ | ⟨c, q1, q2, q3, q4⟩ | ⟨c, q1, q2⟩
  · subst c
    have ea : fnA 1 r0 = r0 := rfl
    rw [ea] at K
    have K : OutB m (.ok (numV (odG (cof (r0.2.1 - 1)) (V 0 0) 7))) p Q := K
    rw [if_pos rfl, g2]
    refine ⟨ri0.2.1, ?_⟩
    by_cases d1 : r0.2.1 = 1
    · rw [if_pos d1]
      refine c_X10_degreeOf (u := V 0 0) (by omega) (fun j j0 j1 => row_0 vp j j0 (by omega)) (fun j _ _ => rl j) ⟨?_, ?_⟩
      · have := degS_bd (u := V 0 0); constructor <;> omega
      · unfold P_X10_built_137
        rw [d1, show cof (1 - 1) = 1 from rfl, odG_1] at K
        exact c_tellNumber (by omega) (K.tell er)
    · rw [if_neg d1]
      have d2 : r0.2.1 = 2 := by omega
      refine c_X10_outerDegree (u := V 0 0) hp (row_0 vp) rl ⟨?_, ?_⟩
      · have := odG_bd (c := 7) (u := V 0 0) 7; constructor <;> omega
      · unfold P_X10_built_137
        rw [d2, show cof (2 - 1) = 7 from rfl] at K
        exact c_tellNumber (by omega) (K.tell er)
  · subst c
    have ea : fnA 4 r0 = r0 := rfl
    rw [ea] at K
    have K : OutB m (derS (muR r0.1 mo) r0.2.1 (V 0 0)) p Q := K
    rw [if_neg (by decide), if_neg (by decide), if_neg (by decide), if_pos rfl, g1, g2]
    rw [q1] at nv
    exact c_X10_derive (by omega) bM0 er hp (by rw [← rvv_eq nv]; exact vp) nv.nr (K.w (fun q hq => by unfold SX at hq; omega))
  · rcases c with c | c
    · subst c
      have ea : fnA 5 r0 = r0 := rfl
      rw [ea] at K
      have K : OutB m (okR (detS (muR r0.1 mo) r0.2.1 r0.2.2 V)) p Q := K
      rw [if_neg (by decide), if_neg (by decide), if_neg (by decide), if_neg (by decide), if_pos rfl, g1, g2, g3]
      refine c_X10_det ds.1 (by omega) bM0 er hp (by decide) (by decide) vp nv ⟨fun w m7 h7 f7 e7 r7 => ?_, fun e m7 h7 f7 e7 => ?_⟩
      · rw [h7] at K
        refine c_clear (n := 441) (by omega) (by omega) (fun m8 f8 e8 r8 => ⟨by rw [e8, e7]; decide, ?_⟩)
        rw [if_pos (by rw [e8, e7])]
        have nw := detS_NR hM ds.1 (by omega) nv h7
        have r8' : Rw (m8 635) 1590300 w 49 := r7.fm f8 (fun i i0 i1 => by omega)
        refine c_copy (n := 98) (by decide) (by omega) (.inr (by left; omega)) (fun m9 f9 e9 g9 => ?_)
        refine K.1 (rvv w) m9 rfl ((f7.okf.trans f8.okf).trans f9.okf) (fun i i0 i1 => ?_) (by rw [e9, e8, e7]) ?_ ?_
        · rw [f9.2 i (by omega), f8.2 i (by omega), f7.2 i (by unfold SF; omega)]
        · rw [f9.1 _ _ (by decide) (by decide), f8.1 _ _ (by decide) (by decide), f7.1 _ _ (by decide) (by decide)]
        · have v8 : VM (m8 635) p (rvv zr) := by rw [rvv_zr]; exact VM_clear r8
          refine v8.chg (c := 49) f9 (fun i i0 i1 => by omega) (fun j j0 j1 => ?_) (by decide) (fun _ _ => rfl) (fun j hj => nw.2 j (by have := cof_bd ds.1; omega)) (by decide)
          have a1 := g9 (2 * j) (by omega) (by omega)
          have a2 := g9 (2 * j + 1) (by omega) (by omega)
          have a3 := r8' j j0 j1
          rw [show p + 2 * j + 1 = p + (2 * j + 1) by omega, a1, a2, show 1590300 + (2 * j + 1) = 1590300 + 2 * j + 1 by omega]
          exact a3
      · rw [h7] at K
        have eb := detS_err h7
        refine c_clear (n := 441) (by omega) (by omega) (fun m8 f8 e8 r8 => ⟨by rw [e8, e7]; constructor <;> omega, ?_⟩)
        rw [if_neg (by rw [e8, e7]; omega)]
        exact K.2 e m8 rfl (f7.okf.trans f8.okf) (by rw [e8, e7])
    · subst c
      have ea : fnA 6 r0 = r0 := rfl
      rw [ea] at K
      have K : OutB m (okR (trS (muR r0.1 mo) r0.2.1 r0.2.2 V)) p Q := K
      rw [if_neg (by decide), if_neg (by decide), if_neg (by decide), if_neg (by decide), if_neg (by decide), if_pos rfl, g1, g2, g3]
      rw [okR_eq] at K
      exact trM ds.1 (by omega) bM0 er hp vp nv (K.w (fun q hq => by unfold SX at hq; omega))
  · rcases c with c | c
    · subst c
      have ea : fnA 7 r0 = r0 := rfl
      rw [ea] at K
      have K : OutB m (.ok (tpV V)) p Q := K
      rw [if_neg (by decide), if_neg (by decide), if_neg (by decide), if_neg (by decide), if_neg (by decide), if_neg (by decide), if_pos rfl, g3]
      refine tpM (by omega) hp vp nv (fun m' f' e84 vm => K.1 _ m' rfl f'.okf (fun q q0 q1 => f'.2 q (by unfold SX; omega)) (by rw [e84]; exact er) (f'.1 _ _ (by decide) (by decide)) vm)
    · subst c
      have ea : fnA 8 r0 = r0 := rfl
      rw [ea] at K
      have K : OutB m (adjS (muR r0.1 mo) r0.2.1 r0.2.2 V) p Q := K
      rw [if_neg (by decide), if_neg (by decide), if_neg (by decide), if_neg (by decide), if_neg (by decide), if_neg (by decide), if_neg (by decide), if_pos rfl, g1, g2, g3]
      refine c_X10_adjoin ds.1 (by omega) bM0 er hp (by omega) (by left; omega) vp nv (K.w (fun q hq => ?_))
      rcases hq with hq | hq
      · unfold SJ ST at hq; omega
      · unfold SX at hq; omega
  · subst c
    have ff := frac_f o0 b q2
    have fm := fr_mo (mo := mo) m0
    have vf := VR_frac o0 b m0 nV
    have nf := vf.1
    have ea : fnA 9 r0 = frac r0 := rfl
    rw [ea] at K
    have K : OutB m (invV (muR (frac r0).1 mo) (frac r0).2.2 V) p Q := K
    rw [if_neg (by decide), if_neg (by decide), if_neg (by decide), if_neg (by decide), if_neg (by decide), if_neg (by decide), if_neg (by decide), if_neg (by decide), if_pos rfl, g1, g3]
    have jb := bM_bd (.inr ob)
    have eb : (if bM r0.1 = 0 then 1 else bM r0.1 : Int) = bM (frac r0).1 := by
      have e1 : (frac r0).1 = (if r0.1 = 0 then 1 else r0.1) := rfl
      rw [e1]
      by_cases c2 : r0.1 = 0
      · rw [if_pos (jb.2.2.2.1.2 c2), if_pos c2]; rfl
      · rw [if_neg (fun z => c2 (jb.2.2.2.1.1 z)), if_neg c2]
    rw [eb]
    have e1 : (frac r0).2.1 = 0 := q1
    rw [e1] at nf
    refine ⟨ri0.1, c_X10_invert ds.2 (bm _ ff.1 fm) (muR_FD ff.1 fm ff.2) er hp vp nf (K.w (fun q hq => by unfold SQ at hq; omega))⟩
  · subst c
    have ea : fnA 10 r0 = r0 := rfl
    rw [ea] at K
    have K : OutB m (charS (muR r0.1 mo) r0.2.2 V) p Q := K
    rw [if_neg (by decide), if_neg (by decide), if_neg (by decide), if_neg (by decide), if_neg (by decide), if_neg (by decide), if_neg (by decide), if_neg (by decide), if_neg (by decide), if_pos rfl, g1, g3]
    rw [q2] at nv
    exact c_X10_characterize (by omega) bM0 er hp vp nv (K.w (fun q hq => by unfold SQ at hq; omega))
  · subst c
    have ea : fnA 11 r0 = r0 := rfl
    rw [ea] at K
    have K : OutB m (.ok (numV (rtS (muR r0.1 mo) (V 0 0)))) p Q := K
    rw [if_neg (by decide), if_neg (by decide), if_neg (by decide), if_neg (by decide), if_neg (by decide), if_neg (by decide), if_neg (by decide), if_neg (by decide), if_neg (by decide), if_neg (by decide), if_pos rfl, g1]
    have pp := pri_of m0 q3
    rw [q1, q2] at nv
    refine c_X10_modulo ri0.1 bM0.2.2.1 (by have := pp.1.1; constructor <;> omega) ?_
    refine c_rootsOf pp.1 pp.2 hp (fun j j0 j1 => row_0 vp j j0 (by omega)) nv.nr (fun m2 f2 => ?_)
    have nu : ∀ k, 0 ≤ (V 0 0 k).1 ∧ (V 0 0 k).1 < muR r0.1 mo := fun k => (nv.1 0 0 k).2.2.2.2 (by have := pp.1.1; omega)
    have rb := rtS_bd (p := muR r0.1 mo) (u := V 0 0) ⟨by have := pp.1.1; omega, pp.2⟩ nu
    refine ⟨by constructor <;> omega, c_tellNumber (by omega) (fun m3 f3 e3 v3 => ?_)⟩
    refine K.1 _ m3 rfl (fun c i z1 z2 z3 => ?_) (fun i i0 i1 => ?_) ?_ ?_ v3
    · rw [f3.okf c i z1 z2 z3]; exact f2 c i (by omega) (by omega) (by omega)
    · rw [f3.2 i (by unfold SX; omega)]; exact f2 _ _ (by decide) (by decide) (by decide)
    · rw [e3, f2 _ _ (by decide) (by decide) (by decide)]; exact er
    · rw [f3.1 _ _ (by decide) (by decide)]; exact f2 _ _ (by decide) (by decide) (by decide)
  · have ef : frac r0 = (1, 0, 0) := by rcases q1 with e | e <;> rw [e] <;> rfl
    have ea : fnA f r0 = frac r0 := by unfold fnA; rw [if_pos (by omega)]
    rw [ea, ef, q2] at K
    have e : fnV f mo (1, 0, 0) (0, 0, 0) V V = .ok (numV (if f = 12 then (V 0 0 0).1 else (V 0 0 0).2)) := by
      unfold fnV
      rw [if_neg (by omega), if_neg (by omega), if_neg (by omega), if_neg (by omega), if_neg (by omega), if_neg (by omega), if_neg (by omega), if_neg (by omega), if_neg (by omega), if_neg (by omega), if_neg (by omega), if_neg (by omega)]
    rw [e] at K
    rw [if_neg (by omega), if_neg (by omega), if_neg (by omega), if_neg (by omega), if_neg (by omega), if_neg (by omega), if_neg (by omega), if_neg (by omega), if_neg (by omega), if_neg (by omega), if_neg (by omega)]
    have c00 := cell_0 vp
    rw [c00.1, c00.2]
    exact ⟨by split <;> omega, c_tellNumber (by omega) (K.tell er)⟩
/-- of two values -/
theorem c_built2 (hn : f = 0 ∨ f = 2 ∨ f = 3) (hr : fn2S f r0 r1 = some x) (o0 : ok3 r0) (o1 : ok3 r1) (m0 : okMo r0.1 mo) (mm1 : okMo r1.1 mo) (bm : ∀ b, okb b → okMo b mo → BM m (bM b) (muR b mo)) (er : m 582 84 = 0) (hp : 0 ≤ p ∧ p + 882 ≤ 1590000) (hq : q + 882 ≤ 1590000) (hpq : p + 882 ≤ q) (hk : 0 ≤ k ∧ k < 12000) (rk : rgM m k (some x)) (hc0 : 0 ≤ c0 ∧ c0 < 12000) (rc : rgM m c0 (some r0)) (vp : VM (m 635) p V) (vq : VM (m 635) q W) (nV : VR mo (if f = 0 then x else r0) V) (nW : VR mo (if f = 2 then r1 else x) W) (K : OutB m (fnV f mo r0 x V W) p Q) : P_X10_built k f c0 p q m Q := by
  obtain ⟨g1, g2, g3⟩ := rc
  obtain ⟨h1, h2, h3⟩ := rk
  have ds := ok3_ds o0
  have ri0 := ok3_ri o0
  unfold P_X10_built
  refine ⟨hc0, by constructor <;> omega, ?_⟩
  rcases fn2_cs hn hr with ⟨c, q1, q2⟩ | ⟨c, q1, q2, q3⟩ | ⟨c, q1, q2, q3⟩
  · subst c
    have K : OutB m (gcdV (muR x.1 mo) x.2.1 V W) p Q := K
    rw [if_pos rfl] at nV
    rw [if_neg (by decide)] at nW
    rw [if_pos rfl, h1, h2]
    refine ⟨hk, ?_⟩
    have ro := jn_ok o0 o1 q1
    have xm : okMo x.1 mo := by
      rcases jn_base q1 with e | e
      · rw [e]; exact m0
      · rw [e]; exact mm1
    rcases q2 with e | e
    · rw [e] at K nV nW ⊢
      have K : OutB m (.ok (numV (Int.gcd (V 0 0 0).1 (W 0 0 0).1))) p Q := K
      have n1 := nV.1
      have n2 := nW.1
      have em : muR ((0, 0, 0) : R3).1 mo = 0 := muR_0
      rw [em] at n1 n2
      exact c_X10_greatestZ hp ⟨by omega, hq⟩ vp vq n1 n2 (K.tell er)
    · have ob : okb x.1 := by
        rcases ro with w | w
        · exact absurd w.1 e.1
        · exact w.1
      have n1 := nV.1
      have n2 := nW.1
      rw [e.2.1, e.2.2.1] at n1 n2
      rw [e.2.2.1] at K ⊢
      have K : OutB m (gcdS (muR x.1 mo) (V 0 0) (W 0 0)) p Q := K
      exact c_X10_greatestP (bm _ ob xm) (muR_FD ob xm e.2.2.2) er hp ⟨by omega, hq⟩ (by left; omega) (by rw [← rvv_eq n1]; exact vp) (by rw [← rvv_eq n2]; exact vq) n1.nr n2.nr (K.w (fun i hi => by unfold S2M at hi; omega))
  · subst c q2
    rw [if_neg (by decide)] at nV
    rw [if_pos rfl] at nW
    have K : OutB m (.ok (rvv (coS r0.2.1 (W 0 0 0).1 (V 0 0)))) p Q := K
    rw [if_neg (by decide), if_neg (by decide), if_pos rfl, g2]
    have n1 := nV.1
    rw [q1.2.1] at n1
    have c00 := cell_0 vq
    have wb := (nW.1.1 0 0 0).p1
    refine ⟨by omega, ?_⟩
    rw [c00.1]
    exact c_X10_coefficient (by omega) (by constructor <;> omega) hp (by rw [← rvv_eq n1]; exact vp) (fun m' f' e84 vm => K.1 _ m' rfl f'.okf (fun i i0 i1 => f'.2 i (by unfold SX; omega)) (by rw [e84]; exact er) (f'.1 _ _ (by decide) (by decide)) vm)
  · subst c
    rw [if_neg (by decide)] at nV nW
    have K : OutB m (atS (muR x.1 mo) x.2.1 x.2.2 (if r0.1 = x.1 then 0 else 1) r0.2.1 (V 0 0) W) p Q := K
    obtain ⟨ro, rb, rd, rr⟩ := at_cs o0 o1 q1 q3
    have dx := ok3_ds ro
    have xm : okMo x.1 mo := by
      rcases jn_base q3 with e | e
      · rw [e]; exact m0
      · rw [e]; exact mm1
    have ob : okb x.1 := by
      rcases ro with w | w
      · exact absurd w.1 rb
      · exact w.1
    have ob0 : okb r0.1 := by
      rcases o0 with w | w
      · exact absurd w.1 q1.1
      · exact w.1
    have inj := bM_inj (.inr ob0) (.inr ob)
    have n1 := nV.1
    rw [q1.2.1] at n1
    rw [if_neg (by decide), if_neg (by decide), if_neg (by decide), if_pos rfl]
    refine c_X10_evalAt (ch := if r0.1 = x.1 then 0 else 1) hk hc0 dx.1 dx.2 (by omega) rd h1 h2 h3 g1 g2 ri0.1 ?_ (bm _ ob xm) (bm _ ob0 m0).2.2.2.1 ⟨fun z => ?_, fun z => ?_⟩ er hp ⟨by omega, hq⟩ (by left; omega) (by rw [← rvv_eq n1]; exact vp) n1.nr vq nW.1 (K.w (fun i hi => by unfold SQ at hi; omega))
    · by_cases e : r0.1 = x.1
      · rw [if_pos e, if_pos (inj.2 e)]
      · rw [if_neg e, if_neg (fun z => e (inj.1 z))]
    · by_cases e : r0.1 = x.1
      · rw [e]
      · rw [if_neg e] at z; omega
    · by_cases e : r0.1 = x.1
      · rw [if_pos e] at z; omega
      · have : r0.1 = 0 := by omega
        rw [this]; exact muR_0
end VMB
