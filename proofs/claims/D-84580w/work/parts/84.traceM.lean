set_option maxRecDepth 100000
/-! traces, transposes, coefficients, degrees: the model; degrees and coefficients: the component -/
section TRM
variable {Q : Int → MM → Prop} {r b base mu d s x y : Int} {V : VV} {u : Int → PP}
/-- a block becomes a value alone -/
theorem blockV {m : MM} {w : Int → PP} {p : Int} (hp : 1590000 ≤ p ∧ p + 98 ≤ 1600000) (bx : 0 ≤ x ∧ x + 882 ≤ 1590000) (r1 : Rw (m 635) p w 49) (hw : ∀ k, 49 ≤ k → w k = (0, 1)) (h : ∀ m', Fm (SX x) m m' → m' 582 84 = m 582 84 → VM (m' 635) x (rvv w) → Q 0 m') : P_X10_clear x 882 m (fun _ m1 => P_X10_copy x p 98 m1 (fun _ m2 => Q 0 m2)) := by
  refine c_clear (n := 441) (by omega) (by omega) (fun m1 f1 e1 r0 => ?_)
  have f1' : Fm (SX x) m m1 := f1.mono (fun q z => by have z1 : x ≤ q ∧ q < x + 2 * 441 := z; unfold SX; omega)
  have v1 : VM (m1 635) x (rvv zr) := by rw [rvv_zr]; exact VM_clear r0
  refine c_copy (n := 98) (by omega) (by omega) (Or.inr (by omega)) (fun m2 f2 e2 cp => ?_)
  have rp : Rw (m1 635) p w 49 := r1.fm f1 (fun q q0 q1 z => by have z1 : x ≤ q ∧ q < x + 2 * 441 := z; omega)
  refine h m2 (f1'.trans (f2.mono (fun q z => by have z1 : x ≤ q ∧ q < x + 98 := z; unfold SX; omega))) (by rw [e2, e1]) ?_
  exact v1.chg (c := 49) f2 (fun q q0 q1 z => by have z1 : x ≤ q ∧ q < x + 98 := z; omega) (rp.cp (n := 49) cp) (by decide) (fun _ _ => rfl) hw (by decide)
theorem NR.hi {c : Int} {w : Int → PP} (h : NR mu c w) (hc : c ≤ 49) : ∀ k, 49 ≤ k → w k = (0, 1) := fun k hk => h.2 k (by omega)
theorem trM {m : MM} (hd : 0 ≤ d ∧ d ≤ 2) (hs : 1 ≤ s ∧ s ≤ 3) (hB : BM m base mu) (he : m 582 84 = 0) (bx : 0 ≤ x ∧ x + 882 ≤ 1590000) (vx : VM (m 635) x V) (nV : NN mu d s V) (h : OutW (fun q => SX x q ∨ 1590000 ≤ q) m (match trS mu d s V with | .error e => .error e | .ok w => .ok (rvv w)) x Q) : P_X10_clear 1590300 98 m (fun _ m10 => ∃ nn, P_X10_built_244 Q nn x base d s 0 m10) := by
  have hM : MU mu := hB.2.2.2.1
  have hc := cof_bd hd
  have hcN : ((cof d).toNat : Int) = cof d := by omega
  have rs : rws s = s := by unfold rws; omega
  refine c_clear (n := 49) (by decide) (by decide) (fun m1 f1 e1 r1 => ?_)
  have f1' : Fm (fun q => 1590000 ≤ q) m m1 := f1.mono (fun q z => by have z1 : 1590300 ≤ q ∧ q < 1590300 + 2 * 49 := z; omega)
  generalize hG : trS mu d s V = G at h
  have L : ∀ (n : Nat) (i : Int) (a : Int → PP) (m' : MM), 0 ≤ i → i + n = s → Fm (fun q => 1590000 ≤ q) m m' → m' 582 84 = 0 → Rw (m' 635) 1590300 a 49 → NR mu (cof d) a → trG mu d V n i a = G → P_X10_built_244 Q (n + 1) x base d s i m' := by
    intro n
    induction n with
    | zero =>
      intro i a m' i0 i1 f e ra na hs'
      refine ⟨by constructor <;> omega, by constructor <;> omega, ?_⟩
      rw [if_pos (by omega)]
      refine blockV (w := a) (by decide) bx ra (na.hi hc.2) (fun m2 f2 e2 v2 => ?_)
      rw [← hs'] at h
      exact h.1 _ m2 rfl ((f.mono (fun q z => Or.inr z)).trans (f2.mono (fun q z => Or.inl z))) (by rw [e2, e]) v2
    | succ n ih =>
      intro i a m' i0 i1 f e ra na hs'
      refine ⟨by constructor <;> omega, by constructor <;> omega, ?_⟩
      rw [if_neg (by omega)]
      refine ⟨by rw [e]; decide, ?_⟩
      rw [if_pos e]
      unfold trG at hs'
      have vE : Rw (m' 635) (x + 98 * (3 * i + i)) (V i i) 49 := (vx i i (by omega) (by omega)).fm f (fun q q0 q1 z => by omega)
      refine c_entryAt (c_X10_addBlocks (u := a) (v := V i i) hd (f.bm hB) e (by omega) (by omega) (by omega) (Or.inl rfl) (Or.inr (by omega)) (ra.le hc.2) (vE.le hc.2) (fun k _ _ => na.1 k) (fun k _ _ => nV.1 i i k) ⟨fun w m2 h2 f2 e2 r2 => ?_, fun z m2 h2 f2 e2 => ?_⟩)
      · rw [h2] at hs'
        have nw : NR mu (cof d) w := ⟨addR_NB hM (fun k _ _ => na.1 k) (fun k _ _ => nV.1 i i k) h2, fun k hk => (addR_ok h2).2 k (by omega)⟩
        refine ih (i + 1) w m2 (by omega) (by omega) (f.trans (f2.mono (fun q z => by omega))) e2 ?_ nw hs'
        intro k k0 k1
        by_cases cc : k < cof d
        · exact r2 k k0 cc
        · rw [nw.2 k (by omega), f2.2 _ (by omega), f2.2 _ (by omega), ← na.2 k (by omega)]
          exact ra k k0 k1
      · rw [h2] at hs'
        have := addR_err h2
        rw [← hs'] at h
        have q287 : P_X10_built_287 Q x m2 := by
          refine c_clear (n := 441) (by omega) (by omega) (fun m3 f3 e3 r3 => ?_)
          refine c_copy (n := 98) (by decide) (by omega) (Or.inr (by omega)) (fun m4 f4 e4 cp => ?_)
          refine h.2 z m4 rfl ((((f.trans (f2.mono (fun q z => by omega))).mono (fun q z => Or.inr z)).trans (f3.mono (fun q z => Or.inl (by have z1 : x ≤ q ∧ q < x + 2 * 441 := z; unfold SX; omega)))).trans (f4.mono (fun q z => Or.inl (by have z1 : x ≤ q ∧ q < x + 98 := z; unfold SX; omega)))) (by rw [e4, e3, e2])
        refine ⟨by constructor <;> omega, by constructor <;> omega, ?_⟩
        by_cases cc : s ≤ i + 1
        · rw [if_pos cc]; exact q287
        · rw [if_neg cc]
          refine ⟨by rw [e2, this]; decide, ?_⟩
          rw [if_neg (by rw [e2, this]; decide)]
          exact q287
  exact ⟨_, L s.toNat 0 zr m1 (by decide) (by omega) f1' (by rw [e1, he]) r1 (NR_z hM _) hG⟩
theorem tpM {m : MM} (hs : 1 ≤ s ∧ s ≤ 3) (bx : 0 ≤ x ∧ x + 882 ≤ 1590000) (vx : VM (m 635) x V) (nV : NN mu d s V) (h : ∀ m', Fm (fun q => SX x q ∨ 1590000 ≤ q) m m' → m' 582 84 = m 582 84 → VM (m' 635) x (tpV V) → Q 0 m') : P_X10_copy 1593000 x 882 m (fun _ m11 => ∃ nn, P_X10_built_325 Q nn x s 0 m11) := by
  have rs : rws s = s := by unfold rws; omega
  refine c_copy (n := 882) (by omega) (by decide) (Or.inr (by omega)) (fun m1 f1 e1 cp => ?_)
  have f1' : Fm (fun q => SX x q ∨ 1590000 ≤ q) m m1 := f1.mono (fun q z => Or.inr (by have z1 : 1593000 ≤ q ∧ q < 1593000 + 882 := z; omega))
  have vt : VM (m1 635) 1593000 V := vx.cpy cp
  have v1 : VM (m1 635) x V := vx.fm f1 (fun q q0 q1 z => by have z1 : 1593000 ≤ q ∧ q < 1593000 + 882 := z; omega)
  have L2 : ∀ {K325 : Int → Int → Int → MM → Prop} {i : Int}, (0 ≤ i ∧ i < s) → (∀ m', Fm (SX x) m1 m' → m' 582 84 = m1 582 84 → DM (m' 635) x s (i + 1) 0 (tpV V) V → K325 x s (i + 1) m') → ∀ (n : Nat) (j : Int) (m' : MM), 0 ≤ j → j + n = s → Fm (SX x) m1 m' → m' 582 84 = m1 582 84 → DM (m' 635) x s i j (tpV V) V → P_X10_built_335 Q K325 (n + 1) x s i j m' := by
    intro K325 i hi fin n
    induction n with
    | zero =>
      intro j m' j0 j1 f e de
      refine ⟨by constructor <;> omega, by constructor <;> omega, ?_⟩
      rw [if_pos (by omega)]
      exact fin m' f e (fun k l hk hl => ⟨fun z => (de k l hk hl).1 (by omega), fun z => (de k l hk hl).2 (by omega)⟩)
    | succ n ih =>
      intro j m' j0 j1 f e de
      refine ⟨by constructor <;> omega, by constructor <;> omega, ?_⟩
      rw [if_neg (by omega)]
      refine c_entryAt (c_entryAt (c_copy (n := 98) (by omega) (by omega) (Or.inr (by omega)) (fun m2 f2 e2 cp2 => ?_)))
      have src : Rw (m' 635) (1593000 + 98 * (3 * j + i)) (V j i) 49 := (vt j i (by omega) (by omega)).fm f (fun q q0 q1 z => by unfold SX at z; omega)
      have dg := DM_gen (U := tpV V) (V0 := V) (w := V j i) (by omega) (by omega) (by omega) de f2 (fun k l hk hl c q q0 q1 z => by have z1 : x + 98 * (3 * i + j) ≤ q ∧ q < x + 98 * (3 * i + j) + 98 := z; omega) (src.cp (n := 49) cp2)
      have same : setE (tpV V) i j (V j i) = tpV V := by
        funext k l
        unfold setE
        split
        case isTrue c => rw [c.1, c.2]; rfl
        case isFalse => rfl
      rw [same] at dg
      exact ih (j + 1) m2 (by omega) (by omega) (f.trans (f2.mono (fun q z => by have z1 : x + 98 * (3 * i + j) ≤ q ∧ q < x + 98 * (3 * i + j) + 98 := z; unfold SX; omega))) (by rw [e2, e]) dg
  have L1 : ∀ (n : Nat) (i : Int) (m' : MM), 0 ≤ i → i + n = s → Fm (SX x) m1 m' → m' 582 84 = m1 582 84 → DM (m' 635) x s i 0 (tpV V) V → P_X10_built_325 Q (n + 1) x s i m' := by
    intro n
    induction n with
    | zero =>
      intro i m' i0 i1 f e de
      refine ⟨by constructor <;> omega, by constructor <;> omega, ?_⟩
      rw [if_pos (by omega)]
      refine h m' (f1'.trans (f.mono (fun q z => Or.inl z))) (by rw [e, e1]) (fun k l hk hl => ?_)
      by_cases c : Dn s i 0 k l
      · exact (de k l hk hl).1 c
      · have o := (de k l hk hl).2 c
        have ev : tpV V k l = V k l := by
          funext q
          show V l k q = V k l q
          rw [nV.2 l k q (by omega), nV.2 k l q (by omega)]
        rw [ev]
        exact o
    | succ n ih =>
      intro i m' i0 i1 f e de
      refine ⟨by constructor <;> omega, by constructor <;> omega, ?_⟩
      rw [if_neg (by omega)]
      exact ⟨_, L2 (by omega) (fun m2 f2 e2 de2 => ih (i + 1) m2 (by omega) (by omega) f2 e2 de2) s.toNat 0 m' (by decide) (by omega) f e de⟩
  exact ⟨_, L1 s.toNat 0 m1 (by decide) (by omega) (Fm.refl m1) rfl (fun k l hk hl => ⟨fun z => by omega, fun _ => v1 k l hk hl⟩)⟩
theorem c_X10_coefficient {m : MM} {i : Int} (hd : 1 ≤ d ∧ d ≤ 2) (hi : RL i) (bx : 0 ≤ x ∧ x + 882 ≤ 1590000) (vx : VM (m 635) x (rvv u)) (h : ∀ m', Fm (fun q => SX x q ∨ 1590000 ≤ q) m m' → m' 582 84 = m 582 84 → VM (m' 635) x (rvv (coS d i u)) → Q 0 m') : P_X10_coefficient x i d m Q := by
  refine c_copy (n := 882) (by omega) (by decide) (Or.inr (by omega)) (fun m1 f1 e1 cp => ?_)
  have f1' : Fm (fun q => SX x q ∨ 1590000 ≤ q) m m1 := f1.mono (fun q z => Or.inr (by have z1 : 1593000 ≤ q ∧ q < 1593000 + 882 := z; omega))
  have vt : VM (m1 635) 1593000 (rvv u) := vx.cpy cp
  refine c_clear (n := 441) (by omega) (by omega) (fun m2 f2 e2 r2 => ?_)
  have f2' : Fm (fun q => SX x q ∨ 1590000 ≤ q) m m2 := f1'.trans (f2.mono (fun q z => Or.inl (by have z1 : x ≤ q ∧ q < x + 2 * 441 := z; unfold SX; omega)))
  have v2 : VM (m2 635) x (rvv zr) := by rw [rvv_zr]; exact VM_clear r2
  have rt : Rw (m2 635) 1593000 u 49 := vt.row.fm f2 (fun q q0 q1 z => by have z1 : x ≤ q ∧ q < x + 2 * 441 := z; omega)
  have zero : ¬ (0 ≤ i ∧ i < 7) → Q 0 m2 := by
    intro z
    refine h m2 f2' (by rw [e2, e1]) ?_
    have : coS d i u = zr := by
      funext k
      unfold coS
      rw [if_neg (by omega)]
      rfl
    rw [this]
    exact v2
  refine ⟨hi, ?_⟩
  by_cases c0 : i < 0
  · rw [if_pos c0]; exact zero (by omega)
  rw [if_neg c0]
  by_cases c7 : i < 7
  · rw [if_pos c7]
    refine ⟨by constructor <;> omega, ?_⟩
    by_cases c1 : d = 1
    · rw [if_pos c1]
      subst c1
      refine c_copy (n := 2) (by omega) (by omega) (Or.inr (by omega)) (fun m3 f3 e3 cp3 => ?_)
      refine h m3 (f2'.trans (f3.mono (fun q z => Or.inl (by have z1 : x ≤ q ∧ q < x + 2 := z; unfold SX; omega)))) (by rw [e3, e2, e1]) ?_
      refine v2.chg (c := 1) f3 (fun q q0 q1 z => by have z1 : x ≤ q ∧ q < x + 2 := z; omega) (fun k k0 k1 => ?_) (by decide) (fun _ _ => rfl) (fun k hk => ?_) (by decide)
      · have : k = 0 := by omega
        subst this
        have a := cp3 0 (by decide) (by decide)
        have b := cp3 1 (by decide) (by decide)
        have o := rt i (by omega) (by omega)
        have ev : coS 1 i u 0 = u i := by
          unfold coS
          rw [show (1 : Int) - 1 = 0 by decide, cof0, if_pos (by omega)]
          congr 1
          omega
        rw [Int.add_zero, Int.add_zero] at a
        rw [ev, show x + 2 * 0 = x by omega, a, b]
        exact o
      · unfold coS
        rw [show (1 : Int) - 1 = 0 by decide, cof0, if_neg (by omega)]
    · rw [if_neg c1]
      have d2 : d = 2 := by omega
      subst d2
      refine c_copy (n := 14) (by omega) (by omega) (Or.inr (by omega)) (fun m3 f3 e3 cp3 => ?_)
      refine h m3 (f2'.trans (f3.mono (fun q z => Or.inl (by have z1 : x ≤ q ∧ q < x + 14 := z; unfold SX; omega)))) (by rw [e3, e2, e1]) ?_
      refine v2.chg (c := 7) f3 (fun q q0 q1 z => by have z1 : x ≤ q ∧ q < x + 14 := z; omega) (fun k k0 k1 => ?_) (by decide) (fun _ _ => rfl) (fun k hk => ?_) (by decide)
      · have a := cp3 (2 * k) (by omega) (by omega)
        have b := cp3 (2 * k + 1) (by omega) (by omega)
        have o := rt (7 * i + k) (by omega) (by omega)
        have ev : coS 2 i u k = u (7 * i + k) := by
          unfold coS
          rw [show (2 : Int) - 1 = 1 by decide, cof1, if_pos (by omega)]
        rw [ev, a, show x + 2 * k + 1 = x + (2 * k + 1) by omega, b, show 1593000 + 14 * i + 2 * k = 1593000 + 2 * (7 * i + k) by omega, show 1593000 + 14 * i + (2 * k + 1) = 1593000 + 2 * (7 * i + k) + 1 by omega]
        exact o
      · unfold coS
        rw [show (2 : Int) - 1 = 1 by decide, cof1, if_neg (by omega)]
  · rw [if_neg c7]; exact zero (by omega)
theorem c_X10_outerDegree {m : MM} (bx : 0 ≤ x ∧ x + 882 ≤ 1590000) (r1 : Rw (m 635) x u 49) (hu : ∀ k, RL (u k).1) (h : Q (odG 7 u 7) m) : P_X10_outerDegree x m Q := by
  have L : ∀ n : Nat, n ≤ 7 → Q (odG 7 u n) m → P_X10_outerDegree_3 Q (n + 1) x ((n : Int) - 1) m := by
    intro n
    induction n with
    | zero => intro _ q; refine ⟨by decide, ?_⟩; rw [if_pos (by decide)]; exact q
    | succ n ih =>
      intro hn q
      refine ⟨by constructor <;> omega, ?_⟩
      rw [if_neg (by omega), show ((n + 1 : Nat) : Int) - 1 = (n : Int) by omega]
      have sub := r1.sub (k := 7 * (n : Int)) (l := 7) (by omega) (by omega)
      rw [show x + 2 * (7 * (n : Int)) = x + 14 * (n : Int) by omega] at sub
      refine c_isZero (n := 7) (u := fun k => u (7 * (n : Int) + k)) (by omega) (by omega) sub (fun k _ _ => hu _) ?_
      unfold odG at q
      have e7 : (7 : Int).toNat = 7 := rfl
      rw [e7] at q
      by_cases c : allZ (fun k => u (7 * (n : Int) + k)) 7 0 = true
      · rw [if_pos c] at q ⊢
        refine ⟨by decide, ?_⟩
        rw [if_neg (by decide)]
        have := ih (by omega) q
        rw [show (n : Int) - 1 = (n : Int) + -1 by omega] at this
        exact this
      · rw [if_neg c] at q ⊢
        refine ⟨by decide, ?_⟩
        rw [if_pos rfl]
        exact q
  exact ⟨8, L 7 (by decide) h⟩
/-! the component -/
theorem degC {m : MM} {x3 x5 : Int} (hd : 1 ≤ d ∧ d ≤ 2) (bx : 0 ≤ x ∧ x + 882 ≤ 1155420) (r1 : Rw (m 379) x u (cof d)) (hu : ∀ k, RI (u k).1) (h : P_X6_function_171 Q x3 x5 (odG (cof (d - 1)) u 7) m) : ∃ nn, P_X6_function_138 Q nn x3 x x5 6 (Int.tdiv (cof d) 7) m := by
  have e1 : Int.tdiv (cof d) 7 = cof (d - 1) ∧ cof d = 7 * cof (d - 1) ∧ (cof (d - 1) = 1 ∨ cof (d - 1) = 7) := by
    rcases (show d = 1 ∨ d = 2 by omega) with rfl | rfl
    · decide
    · decide
  rw [e1.1]
  generalize cof (d - 1) = c at *
  have hcN : ((c.toNat : Nat) : Int) = c := by omega
  have L : ∀ n : Nat, n ≤ 7 → P_X6_function_171 Q x3 x5 (odG c u n) m → P_X6_function_138 Q (n + 1) x3 x x5 ((n : Int) - 1) c m := by
    intro n
    induction n with
    | zero => intro _ q; refine ⟨by decide, ?_⟩; rw [if_pos (by decide)]; exact q
    | succ n ih =>
      intro hn q
      refine ⟨by constructor <;> omega, ?_⟩
      rw [if_neg (by omega), show ((n + 1 : Nat) : Int) - 1 = (n : Int) by omega]
      have bd : c * (n : Int) + c ≤ cof d ∧ 0 ≤ c * (n : Int) := by
        rcases e1.2.2 with z | z <;> subst z <;> omega
      have sub := r1.sub (k := c * (n : Int)) (l := c) (by omega) (by omega)
      rw [show x + 2 * (c * (n : Int)) = x + 2 * c * (n : Int) by rw [Int.mul_assoc]] at sub
      rw [← hcN] at sub
      have bd2 : 2 * c * (n : Int) = 2 * (c * (n : Int)) := Int.mul_assoc ..
      have key := c_X8_isClear (Q := fun r1 m1 => (RI r1) ∧ (if r1 = 0 then P_X6_function_171 Q x3 x5 (n : Int) m1 else P_X6_function_138 Q (n + 1) x3 x x5 ((n : Int) + (-1)) c m1)) (m := m) (at_ := x + 2 * c * (n : Int)) (n := c.toNat) (u := fun k => u (c * (n : Int) + k)) (by omega) (by rcases e1.2.2 with z | z <;> subst z <;> omega) (by rw [hcN] at sub ⊢; exact sub) (fun k _ _ => hu _) ?_
      · rw [hcN] at key
        exact key
      unfold odG at q
      by_cases cc : allZ (fun k => u (c * (n : Int) + k)) c.toNat 0 = true
      · rw [if_pos cc] at q ⊢
        refine ⟨by decide, ?_⟩
        rw [if_neg (by decide)]
        have := ih (by omega) q
        rw [show (n : Int) - 1 = (n : Int) + -1 by omega] at this
        exact this
      · rw [if_neg cc] at q ⊢
        refine ⟨by decide, ?_⟩
        rw [if_pos rfl]
        exact q
  exact ⟨8, L 7 (by decide) h⟩
end TRM
