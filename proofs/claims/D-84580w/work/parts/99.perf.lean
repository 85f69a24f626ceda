set_option maxRecDepth 100000
/-! the machine: gcd, at, roots; other steps -/
noncomputable def gcdV (mu d : Int) (V W : VV) : EX VV := if d = 0 then .ok (numV (Int.gcd (V 0 0 0).1 (W 0 0 0).1)) else gcdS mu (V 0 0) (W 0 0)
section PERF
variable {Q : Int → MM → Prop} {a r b bp da sa d s dp mu mub ch : Int} {V W : VV} {l : List SV}
/-- gcd -/
theorem c_fn_0 {m : MM} (hA : RG a bp da sa) (hR : RG r b d 0) (hst : stG m ((d, 0, W) :: (d, 0, V) :: l)) (hl : l.length ≤ 1298) (ht : m 376 8 = (l.length : Int) + 2) (ar : AR (m 376 19) (m 376 20)) (he : m 378 2 = 0) (hmu : muC m b = mu) (hM : MU mu) (hd : d = 0 ∧ mu = 0 ∨ d = 1 ∧ FD mu) (nV : NN mu d 0 V) (nW : NN mu d 0 W) (h : OutS m (gcdV mu d V W) d 0 l Q) : P_X6_function 0 a r m Q := by
  obtain ⟨s0, vx, vy, e1, bx, hd2, hs, -, -⟩ := st2 hst hl
  have vb := VS_bd hd2 hs
  unfold P_X6_function
  simp only [reduceIte]
  rw [ht, show (l.length : Int) + 2 - 1 = (l.length : Int) + 1 by omega]
  refine ⟨by omega, by decide, c_base hA ⟨by decide, ?_⟩⟩
  rw [ht, show (l.length : Int) + 2 - 2 = (l.length : Int) by omega]
  refine ⟨by omega, ?_⟩
  unfold gcdV at h
  rcases hd with ⟨rfl, rfl⟩ | ⟨rfl, hf⟩
  · have v00 : VS 0 0 = 2 := by decide
    rw [if_pos rfl] at h
    refine c_X6_commonZ hR (by omega) (by omega) vx vy nV nW (fun m1 f1 er1 v1 => ?_)
    exact fun_395 (Or.inl ⟨b, hR⟩) s0 hl (by decide) ht ar f1 (fun q z => by omega) (by rw [er1, he]) v1 rfl h
  · have v10 : VS 1 0 = 14 := by decide
    rw [if_neg (by decide)] at h
    refine c_X6_commonP hR hmu hM hf he (by omega) (by omega) (by omega) vx.row0 vy.row0 nV.nr nW.nr ⟨fun U m1 h1 f1 er1 v1 => ?_, fun z m1 h1 f1 er1 => ?_⟩
    · exact fun_395 (Or.inl ⟨b, hR⟩) s0 hl (by decide) ht ar f1 (fun q z => by unfold S2K at z; omega) er1 v1 h1 h
    · have := gcdS_err h1
      exact fun_395e ar f1 er1 (by omega) h1 h
/-- at -/
theorem c_fn_3 {m : MM} (hA : RG a bp dp 0) (hdp : 1 ≤ dp) (hR : RG r b d s) (hde : dp - 1 ≤ d) (hch : ch = if bp = b then 0 else 1) (hst : stG m ((d, s, W) :: (dp, 0, V) :: l)) (hl : l.length ≤ 1298) (ht : m 376 8 = (l.length : Int) + 2) (ar : AR (m 376 19) (m 376 20)) (he : m 378 2 = 0) (hmu : muC m b = mu) (hM : MU mu) (hMb : MU mub) (hcm : (ch = 0 → mub = mu) ∧ (ch ≠ 0 → mub = 0)) (nV : NN mub dp 0 V) (nW : NN mu d s W) (h : OutS m (atS mu d s ch dp (V 0 0) W) d s l Q) : P_X6_function 3 a r m Q := by
  obtain ⟨s0, vx, vy, e1, bx, hd2, hs2, hdw, hsw⟩ := st2 hst hl
  have e2 : m 381 ((l.length : Int) + 2) = m 381 ((l.length : Int) + 1) + VS d s := by
    obtain ⟨-, -, -, -, h9⟩ := hst
    rw [show (((dp, 0, V) :: l : List SV).length : Int) = (l.length : Int) + 1 from rfl] at h9
    rw [show (l.length : Int) + 2 = (l.length : Int) + 1 + 1 by omega]
    exact h9
  have at_ := stG_at s0
  have vb := VS_bd hd2 hs2
  have vb' := VS_bd hdw hsw
  have v0 : VS dp 0 = 2 * cof dp := by unfold VS enn; rw [if_pos rfl]; omega
  unfold P_X6_function
  simp only [Int.reduceEq, reduceIte]
  rw [ht, show (l.length : Int) + 2 - 1 = (l.length : Int) + 1 by omega]
  refine ⟨by omega, by decide, c_base hA ⟨by decide, ?_⟩⟩
  rw [ht, show (l.length : Int) + 2 - 2 = (l.length : Int) by omega]
  refine ⟨by omega, c_X6_atValue (pl := m 381 ((l.length : Int) + 2)) hR hA hdp hde hch hmu hM hMb hcm he (by omega) (by omega) (by omega) (by rw [ht]) (by omega) vx.row0 nV.nr vy nW ⟨fun U m1 h1 f1 er1 v1 => ?_, fun z m1 h1 f1 er1 => ?_⟩⟩
  · exact fun_395 (Or.inl ⟨b, hR⟩) s0 hl (by decide) ht ar f1 (fun q z => by unfold SPl at z; omega) er1 v1 h1 h
  · have := atG_err _ _ h1
    exact fun_395e ar f1 er1 (by omega) h1 h
/-- roots -/
theorem c_fn_11 {m : MM} (hA : RG a b 1 0) (hst : stG m ((1, 0, V) :: l)) (hl : l.length ≤ 1298) (ht : m 376 8 = (l.length : Int) + 1) (ar : AR (m 376 19) (m 376 20)) (he : m 378 2 = 0) (hmu : muC m b = mu) (hp : PRI mu) (hp9 : mu ≤ 9973) (nV : NN mu 1 0 V) (h : OutS m (.ok (numV (rtS mu (V 0 0)))) 0 0 l Q) : P_X6_function 11 a 0 m Q := by
  obtain ⟨s0, vx, e1, bx, hd, hs⟩ := st1 hst hl
  have hb := hA.2.1
  unfold P_X6_function
  simp only [Int.reduceEq, reduceIte]
  rw [ht, show (l.length : Int) + 1 - 1 = (l.length : Int) by omega]
  refine ⟨by omega, by decide, c_base hA ⟨by decide, c_X8_modulus (by constructor <;> omega) ?_⟩⟩
  rw [hmu]
  refine c_X6_roots hp hp9 ar (by omega) vx.row0 nV.nr (fun m1 f1 => c_integer (fun m2 f2 er2 v2 => ?_))
  have o : ∀ c i, c ≠ 386 → c ≠ 387 → c ≠ 388 → c ≠ 376 → m1 c i = m c i := fun c i c1 c2 c3 c4 => f1.1 c i c1 c2 c3 (fun z => c4 z.1)
  have er : m2 378 2 = 0 := by rw [er2, o 378 2 (by decide) (by decide) (by decide) (by decide), he]
  have t8 : m1 376 8 = m 376 8 := f1.1 376 8 (by decide) (by decide) (by decide) (by decide)
  have st1' : stG m1 l := s0.fr (fun q hq => o 379 q (by decide) (by decide) (by decide) (by decide)) (fun i i0 i1 => o 381 i (by decide) (by decide) (by decide) (by decide))
  have e381 : m1 381 (l.length : Int) = m 381 (l.length : Int) := o 381 _ (by decide) (by decide) (by decide) (by decide)
  have ar2 : AR (m2 376 19) (m2 376 20) := by rw [f2.oth (by decide) (by decide), f2.oth (by decide) (by decide)]; exact f1.2
  refine ⟨by rw [er]; decide, ?_⟩
  rw [if_pos er]
  refine c_made (Or.inl ⟨0, rb0⟩) (st1'.low f2 (fun q z => by omega)) ar2 (by decide) (by omega) (by rw [f2.oth (by decide) (by decide), t8]; exact ht) v2 (fun m3 f3 e3 s3 t3 => h.1 _ m3 rfl ((f1.fk.trans (f2.fk f1.2)).trans f3) (by rw [e3, er]) s3 t3)
/-- the value on top becomes another one of the same size -/
theorem top_chg {m m1 : MM} {S : Int → Prop} {U : VV} (hst : stG m ((d, s, V) :: l)) (ar : AR (m 376 19) (m 376 20)) (f : Fc S m m1) (hS : ∀ q, S q → m 381 (l.length : Int) ≤ q) (v : VC (m1 379) (m 381 (l.length : Int)) d s U) : FKm m m1 ∧ stG m1 ((d, s, U) :: l) ∧ m1 376 8 = m 376 8 := by
  obtain ⟨h1, hd, hs, h4, h5⟩ := hst
  have o : ∀ i, m1 381 i = m 381 i := fun i => f.oth (by decide) (by decide)
  refine ⟨f.fk ar, ⟨h1.low f hS, hd, hs, by rw [o]; exact v, by rw [o, o]; exact h5⟩, f.oth (by decide) (by decide)⟩
def negV (mu : Int) (V : VV) : VV := fun i j k => negN mu (V i j k)
theorem negV_NN (hM : MU mu) (n : NN mu d s V) : NN mu d s (negV mu V) := ⟨fun i j k => NB.neg hM (n.1 i j k), fun i j k hn => by unfold negV; rw [n.2 i j k hn, negN_z]⟩
/-- minus -/
theorem c_pf_minus {m : MM} (hA : RG a b d s) (hst : stG m ((d, s, V) :: l)) (hl : l.length ≤ 1298) (ht : m 376 8 = (l.length : Int) + 1) (ar : AR (m 376 19) (m 376 20)) (hmu : muC m b = mu) (hM : MU mu) (nV : NN mu d s V) (h : ∀ m', FKm m m' → m' 378 2 = m 378 2 → stG m' ((d, s, negV mu V) :: l) → m' 376 8 = (l.length : Int) + 1 → Q 0 m') : P_X6_perform 25 a 0 m Q := by
  obtain ⟨s0, vx, e1, bx, hd, hs⟩ := st1 hst hl
  have hb := hA.2.1
  have vb := VS_bd hd hs
  have v2 : VS d s = 2 * (cof d * enn s) := VS_eq
  have hN : (((cof d * enn s).toNat : Nat) : Int) = cof d * enn s := by omega
  unfold P_X6_perform
  simp only [Int.reduceEq, reduceIte]
  refine ⟨by decide, c_base hA ?_⟩
  rw [ht, show (l.length : Int) + 1 - 1 = (l.length : Int) by omega]
  refine ⟨by omega, c_number hA ?_⟩
  rw [Int.mul_comm, ← hN]
  refine c_X8_less (u := fl d s V) (by constructor <;> omega) hmu hM (by omega) (by rw [hN]; exact vx.row hd hs) (fun k _ _ => nV.1 _ _ _) (fun m1 f1 er1 r1 => ?_)
  rw [hN] at f1 r1
  obtain ⟨q1, q2, q3⟩ := top_chg (U := negV mu V) hst ar f1 (fun q z => by omega) (r1.vc hd hs (fun i j c hi hj hc => by show negN mu (fl d s V (cof d * (s * i + j) + c)) = negN mu (V i j c); rw [fl_at hd hs hi hj hc]))
  exact h m1 q1 er1 q2 (by rw [q3, ht])
/-- powers -/
theorem c_pf_power {m : MM} {n : Int} (hA : RG a b d s) (hn : 0 ≤ n ∧ n ≤ 12) (hst : stG m ((d, s, V) :: l)) (hl : l.length ≤ 1298) (ht : m 376 8 = (l.length : Int) + 1) (ar : AR (m 376 19) (m 376 20)) (he : m 378 2 = 0) (hmu : muC m b = mu) (hM : MU mu) (nV : NN mu d s V) (h : OutS m (powS mu d s n V) d s l Q) : P_X6_perform 26 a n m Q := by
  obtain ⟨s0, vx, e1, bx, hd, hs⟩ := st1 hst hl
  unfold P_X6_perform
  simp only [Int.reduceEq, reduceIte]
  refine ⟨by decide, c_X6_power (x := m 381 (l.length : Int)) hA hn hmu hM he (by omega) (by rw [ht, show (l.length : Int) + 1 - 1 = (l.length : Int) by omega]) (by omega) vx nV ⟨fun U m1 h1 f1 er1 v1 => ?_, fun z m1 h1 f1 er1 => h.2 z m1 h1 (f1.fk ar) er1⟩⟩
  obtain ⟨q1, q2, q3⟩ := top_chg (U := U) hst ar f1 (fun q z => by unfold SKc at z; omega) v1
  exact h.1 U m1 h1 q1 er1 q2 (by rw [q3, ht])
end PERF
