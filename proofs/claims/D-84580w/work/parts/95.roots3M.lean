set_option maxRecDepth 100000
/-! roots: the model, the whole -/
section ROOTM3
variable {Q : Int → MM → Prop} {p d e x : Int} {u : Int → PP}
theorem MonP.fr {m m' : MM} (h : MonP p d m) (e : m' 648 = m 648) : MonP p d m' := by
  unfold MonP at h ⊢
  rw [e]
  exact h
theorem nin2 {c : Int} (h1 : c ≠ 649) (h2 : c ≠ 650) : c ∉ [(649 : Int), 650] := by
  intro z
  rcases List.mem_cons.1 z with z | z
  · exact h1 z
  · rcases List.mem_cons.1 z with z | z
    · exact h2 z
    · cases z
theorem rootM_127 {m0 : MM} (hp : 2 ≤ p ∧ p ≤ 9973) (fin : ∀ m', FRm m0 m' → m' 648 = m0 648 → PwX p d p m' → ∃ nn, P_X10_rootsOf_166 Q nn p d 0 m') : ∀ (n : Nat) (m : MM), n ≤ 14 → FRm m0 m → m 648 = m0 648 → MonP p d m → PwX p d (p / ((2 ^ n : Nat) : Int)) m → P_X10_rootsOf_127 Q (n + 1) p d ((n : Int) - 1) m := by
  intro n
  induction n with
  | zero =>
    intro m hn f e8 hP hX
    refine ⟨by decide, ?_⟩
    rw [if_pos (by decide)]
    rw [show ((2 ^ 0 : Nat) : Int) = 1 from rfl, Int.ediv_one] at hX
    exact fin m f e8 hX
  | succ n ih =>
    intro m hn f e8 hP hX
    rw [show ((n + 1 : Nat) : Int) - 1 = (n : Int) by omega]
    refine ⟨by constructor <;> omega, ?_⟩
    rw [if_neg (by omega)]
    have hpw : 1 ≤ 2 ^ n := Nat.one_le_two_pow
    have q1 : ((2 ^ (n + 1) : Nat) : Int) = ((2 ^ n : Nat) : Int) * 2 := by rw [Nat.pow_succ, Int.natCast_mul]; rfl
    have ee : p / ((2 ^ (n + 1) : Nat) : Int) = p / ((2 ^ n : Nat) : Int) / 2 := by rw [q1, ← Int.ediv_ediv_of_nonneg (by omega)]
    rw [ee] at hX
    have q0 : 0 ≤ p / ((2 ^ n : Nat) : Int) := Int.ediv_nonneg (by omega) (by omega)
    refine c_rootSquare hp hP hX (by omega) (fun m1 f1 h1 => ?_)
    rw [lShr_eq n (by constructor <;> omega) (by omega), lAnd1]
    have e81 : m1 648 = m 648 := funext (fun k => f1 648 k (nin2 (by decide) (by decide)))
    have fr1 : FRm m0 m1 := f.trans (fun c i c1 c2 c3 => f1 c i (nin2 c2 c3))
    generalize hq : p / ((2 ^ n : Nat) : Int) = q at *
    refine ⟨by constructor <;> omega, ?_⟩
    by_cases c : q % 2 = 1
    · rw [if_pos c]
      refine c_rootUp hp (hP.fr e81) h1 (fun m2 f2 h2 => ?_)
      have e82 : m2 648 = m1 648 := funext (fun k => f2 648 k (by decide))
      have := ih m2 (by omega) (fr1.trans (fun c i c1 c2 c3 => f2 c i c2)) (by rw [e82, e81, e8]) (hP.fr (by rw [e82, e81])) (by rw [show q = 2 * (q / 2) + 1 by omega]; exact h2)
      rw [show (n : Int) - 1 = (n : Int) + -1 by omega] at this
      exact this
    · rw [if_neg c]
      have := ih m1 (by omega) fr1 (by rw [e81, e8]) (hP.fr e81) (by rw [show q = 2 * (q / 2) by omega]; exact h1)
      rw [show (n : Int) - 1 = (n : Int) + -1 by omega] at this
      exact this
theorem c_rootsOf {m : MM} (hp : PRI p) (hp9 : p ≤ 9973) (bx : 0 ≤ x ∧ x + 882 ≤ 1590000) (rx : Rw (m 635) x u 7) (nu : NR p 7 u) (fin : ∀ m', FRm m m' → Q (rtS p u) m') : P_X10_rootsOf x p m Q := by
  have p2 := hp.1
  have hp' : 2 ≤ p ∧ p ≤ 9973 := ⟨p2, hp9⟩
  have hu : ∀ k, 0 ≤ k → k < 7 → 0 ≤ (u k).1 ∧ (u k).1 < p := fun k _ _ => (nu.1 k).2.2.2.2 (by omega)
  have bd := degS_bd u
  -- the end
  have l207 : 1 ≤ degS u → ∀ (m1 : MM), FRm m m1 → MonP p (degS u) m1 → (∀ S, CLp p S → (S (PA (m1 648) 7) ↔ S (PA (fun k => (u k).1) 7))) → PwX p (degS u) 1 m1 → InP p (m1 650) (degS u) → RQ p (PA (m1 648) 7) (PA (m1 650) (degS u)) p → ∃ nn, P_X10_rootsOf_207 Q nn p (degS u) 0 m1 := by
    intro du m1 f1 hP iff_ hX iY rY
    obtain ⟨iP, pd, pz, -⟩ := id hP
    obtain ⟨iX, xz, rX⟩ := id hX
    have L : ∀ (n : Nat) (k : Int) (m' : MM), 0 ≤ k → k + n = degS u → FA 649 m1 m' → (∀ i, m' 649 i = if 0 ≤ i ∧ i < k then (m1 650 i - m1 649 i + p) % p else m1 649 i) → P_X10_rootsOf_207 Q (n + 1) p (degS u) k m' := by
      intro n
      induction n with
      | zero =>
        intro k m' k0 k1 f hm
        refine ⟨by constructor <;> omega, by constructor <;> omega, ?_⟩
        rw [if_pos (by omega)]
        have kd : k = degS u := by omega
        subst kd
        have e8 : m' 648 = m1 648 := funext (fun j => f _ _ (by decide))
        have dP : degS (rowQ m' 648) = degS u := by
          have lo : degS (rowQ m' 648) ≤ degS u := degG_le 7 (by omega) (fun j j0 j1 => by show m' 648 j = 0; rw [e8]; exact pz j j0 j1)
          have hi : ¬ degS (rowQ m' 648) < degS u := by
            intro z
            have : m' 648 (degS u) = 0 := degG_ab (u := rowQ m' 648) 7 (degS u) z (by omega)
            rw [e8, pd] at this
            omega
          omega
        refine c_rootCommon (m0 := m) (P := PA (fun k => (u k).1) 7) (T := fun n => mono p n - mono 1 n) hp hp9 (by omega) (f1.trans (fun c i c1 c2 c3 => f c i c2)) (by rw [e8]; exact iP) (fun j j0 j1 => ?_) dP (fun j j0 j1 => ?_) (fun S cS => ?_) (fun m2 D f2 r => ?_)
        · rw [hm]
          split
          · exact emod_bd (by omega)
          · exact iX j j0 j1
        · rw [hm, if_neg (by omega)]
          exact xz j j0 j1
        · rw [e8, iff_ S cS]
          have val : ∀ n, p ∣ (PA (m1 650) (degS u) n - PA (m1 649) 7 n) - PA (m' 649) 7 n := by
            intro n
            unfold PA
            by_cases c : 0 ≤ n ∧ n < degS u
            · rw [if_pos c, if_pos (by omega), if_pos (by omega), hm, if_pos c]
              have q := dvd_emod (x := m1 650 n - m1 649 n + p) (p := p)
              have := Int.dvd_sub q (Int.dvd_refl p)
              rw [show m1 650 n - m1 649 n + p - (m1 650 n - m1 649 n + p) % p - p = m1 650 n - m1 649 n - (m1 650 n - m1 649 n + p) % p by omega] at this
              exact this
            · rw [if_neg c]
              by_cases c2 : 0 ≤ n ∧ n < 7
              · rw [if_pos c2, if_pos c2, hm, if_neg c, xz n (by omega) c2.2]
                exact Int.dvd_zero p
              · rw [if_neg c2, if_neg c2]
                exact Int.dvd_zero p
          -- given the polynomial, both others come to the same
          have both : S (PA (m1 648) 7) → S (fun n => (PA (m1 650) (degS u) n - mono p n) + -1 * (PA (m1 649) 7 n - mono 1 n)) := fun s => cS.2.1 _ _ (rY S cS s) (cS.2.2.1 (-1) _ (rX S cS s))
          constructor
          · rintro ⟨s1, s2⟩
            have b := both ((iff_ S cS).2 s1)
            refine ⟨s1, cS.1 _ _ (cS.2.1 _ _ s2 (cS.2.2.1 (-1) _ b)) (fun n => ?_)⟩
            have := Int.dvd_neg.2 (val n)
            rw [show PA (m' 649) 7 n + -1 * (PA (m1 650) (degS u) n - mono p n + -1 * (PA (m1 649) 7 n - mono 1 n)) - (mono p n - mono 1 n) = -(PA (m1 650) (degS u) n - PA (m1 649) 7 n - PA (m' 649) 7 n) by omega]
            exact this
          · rintro ⟨s1, s2⟩
            have b := both ((iff_ S cS).2 s1)
            refine ⟨s1, cS.1 _ _ (cS.2.1 _ _ s2 b) (fun n => ?_)⟩
            have := val n
            rw [show mono p n - mono 1 n + (PA (m1 650) (degS u) n - mono p n + -1 * (PA (m1 649) 7 n - mono 1 n)) - PA (m' 649) 7 n = PA (m1 650) (degS u) n - PA (m1 649) 7 n - PA (m' 649) 7 n by omega]
            exact this
        · have e : rtS p u = D := by
            unfold rtS
            rw [if_neg (by omega), if_neg (by omega), rootsN_eq r]
          have := fin m2 f2
          rw [e] at this
          exact this
      | succ n ih =>
        intro k m' k0 k1 f hm
        refine ⟨by constructor <;> omega, by constructor <;> omega, ?_⟩
        rw [if_neg (by omega)]
        have e1 : m' 649 k = m1 649 k := by rw [hm, if_neg (by omega)]
        have e2 : m' 650 k = m1 650 k := f _ _ (by decide)
        have b1 := iX k k0 (by omega)
        have b2 := iY k k0 (by omega)
        rw [e1, e2]
        refine ⟨by omega, by omega, by constructor <;> omega, by constructor <;> omega, by omega, ?_⟩
        rintro _ rfl
        rw [tmod_pos (by omega)]
        refine ih (k + 1) _ (by omega) (by omega) (f.trans FA.up) (fun i => ?_)
        by_cases c : i = k
        · rw [c, up_at, if_pos (by omega)]
        · rw [up_neI c, hm]
          by_cases c2 : 0 ≤ i ∧ i < k
          · rw [if_pos c2, if_pos (by omega)]
          · rw [if_neg c2, if_neg (by omega)]
    exact ⟨_, L (degS u).toNat 0 m1 (by decide) (by omega) (fun _ _ _ => rfl) (fun i => by rw [if_neg (by omega)])⟩
  have l166 : 1 ≤ degS u → ∀ (m1 : MM), FRm m m1 → MonP p (degS u) m1 → (∀ S, CLp p S → (S (PA (m1 648) 7) ↔ S (PA (fun k => (u k).1) 7))) → PwX p (degS u) p m1 → ∃ nn, P_X10_rootsOf_166 Q nn p (degS u) 0 m1 := by
    intro du m1 f1 hP iff_ hX
    obtain ⟨iX, xz, rX⟩ := id hX
    have L : ∀ (n : Nat) (k : Int) (m' : MM), 0 ≤ k → k + n = degS u → FA 650 m1 m' → (∀ i, 0 ≤ i → i < k → m' 650 i = m1 649 i) → P_X10_rootsOf_166 Q (n + 1) p (degS u) k m' := by
      intro n
      induction n with
      | zero =>
        intro k m' k0 k1 f hm
        refine ⟨by constructor <;> omega, by constructor <;> omega, ?_⟩
        rw [if_pos (by omega)]
        have e8 : m' 648 = m1 648 := funext (fun j => f _ _ (by decide))
        refine c_rootOne (d := degS u) (p := p) (by omega) p2 (fun m2 f2 h2 => ?_)
        have e82 : m2 648 = m1 648 := (funext (fun j => f2 _ _ (by decide))).trans e8
        refine c_rootUp hp' (hP.fr e82) h2 (fun m3 f3 h3 => ?_)
        have e83 : m3 648 = m1 648 := (funext (fun j => f3 _ _ (by decide))).trans e82
        have e50 : ∀ i, 0 ≤ i → i < degS u → m3 650 i = m1 649 i := fun i i0 i1 => by rw [f3 _ _ (by decide), f2 _ _ (by decide)]; exact hm i i0 (by omega)
        rw [show (0 : Int) + 1 = 1 by decide] at h3
        refine l207 du m3 (f1.trans (fun c i c1 c2 c3 => by rw [f3 _ _ c2, f2 _ _ c2, f _ _ c3])) (hP.fr e83) (fun S cS => by rw [e83]; exact iff_ S cS) h3 ?_ ?_
        · intro i i0 i1
          rw [e50 i i0 i1]
          exact iX i i0 (by omega)
        · rw [e83]
          refine rX.cong (fun n => ?_)
          have : PA (m1 649) 7 n = PA (m3 650) (degS u) n := by
            unfold PA
            by_cases c : 0 ≤ n ∧ n < degS u
            · rw [if_pos (by omega), if_pos c, e50 n c.1 c.2]
            · rw [if_neg c]
              by_cases c2 : 0 ≤ n ∧ n < 7
              · rw [if_pos c2, xz n (by omega) c2.2]
              · rw [if_neg c2]
          rw [this, Int.sub_self]
          exact Int.dvd_zero p
      | succ n ih =>
        intro k m' k0 k1 f hm
        refine ⟨by constructor <;> omega, by constructor <;> omega, ?_⟩
        rw [if_neg (by omega)]
        refine ⟨by omega, by omega, ?_⟩
        rintro _ rfl
        refine ih (k + 1) _ (by omega) (by omega) (f.trans FA.up) (fun i i0 i1 => ?_)
        by_cases c : i = k
        · rw [c, up_at, f _ _ (by decide)]
        · rw [up_neI c]; exact hm i i0 (by omega)
    exact ⟨_, L (degS u).toNat 0 m1 (by decide) (by omega) (fun _ _ _ => rfl) (fun i i0 i1 => by omega)⟩
  have l53 : ∀ (m1 : MM), FRm m m1 → (∀ k, 0 ≤ k → k < 7 → m1 648 k = (u k).1) → P_X10_rootsOf_53 Q p (degS u) m1 := by
    intro m1 f1 eP
    have q := fin m1 f1
    unfold rtS at q
    refine ⟨by constructor <;> omega, ?_⟩
    by_cases du : 1 ≤ degS u
    · rw [if_pos du]
      have nz : (u (degS u)).1 ≠ 0 := degG_v (by omega)
      have ub := hu (degS u) (by omega) (by omega)
      rw [eP _ (by omega) (by omega)]
      refine ⟨by omega, c_rootInverse hp' ub ?_⟩
      have iv := invS_bd (a := (u (degS u)).1) p2
      have hi := hp.inv (a := (u (degS u)).1) (by omega) (by omega)
      generalize invS p (u (degS u)).1 = inv at *
      have L : ∀ (n : Nat) (k : Int) (m' : MM), 0 ≤ k → k + n = degS u + 1 → FA 648 m1 m' → (∀ i, 0 ≤ i → i < 7 → m' 648 i = if i < k then (u i).1 * inv % p else (u i).1) → P_X10_rootsOf_87 Q (n + 1) p (degS u) inv k m' := by
        intro n
        induction n with
        | zero =>
          intro k m' k0 k1 f hm
          refine ⟨by constructor <;> omega, by constructor <;> omega, ?_⟩
          rw [if_pos (by omega)]
          have hz : ∀ j, degS u < j → j < 7 → (u j).1 = 0 := fun j j0 j1 => degG_ab 7 j j0 j1
          have hP : MonP p (degS u) m' := by
            refine ⟨fun j j0 j1 => ?_, ?_, fun j j0 j1 => ?_, by omega⟩
            · rw [hm j j0 j1]
              split
              · exact emod_bd (by omega)
              · exact hu j j0 j1
            · rw [hm _ (by omega) (by omega), if_pos (by omega)]
              exact hi
            · rw [hm j (by omega) j1, if_neg (by omega)]
              exact hz j j0 j1
          have iff_ : ∀ S, CLp p S → (S (PA (m' 648) 7) ↔ S (PA (fun k => (u k).1) 7)) := by
            intro S cS
            have c1 : ∀ n, p ∣ inv * PA (fun k => (u k).1) 7 n - PA (m' 648) 7 n := by
              intro n
              unfold PA
              by_cases c : 0 ≤ n ∧ n < 7
              · rw [if_pos c, if_pos c, hm n c.1 c.2]
                by_cases ck : n < k
                · rw [if_pos ck, Int.mul_comm]
                  exact dvd_emod
                · rw [if_neg ck]
                  show p ∣ inv * (u n).1 - (u n).1
                  rw [hz n (by omega) c.2, Int.mul_zero]
                  exact Int.dvd_zero p
              · rw [if_neg c, if_neg c, Int.mul_zero]
                exact Int.dvd_zero p
            have i1 : p ∣ (u (degS u)).1 * inv - 1 := by
              have := dvd_emod (x := (u (degS u)).1 * inv) (p := p)
              rw [hi] at this
              exact this
            constructor
            · intro s
              refine cS.1 _ _ (cS.2.2.1 (u (degS u)).1 _ s) (fun n => ?_)
              have a := Int.dvd_mul_of_dvd_right (b := (u (degS u)).1) (c1 n)
              have b := Int.dvd_mul_of_dvd_left (c := PA (fun k => (u k).1) 7 n) i1
              have := Int.dvd_sub b a
              rw [show ((u (degS u)).1 * inv - 1) * PA (fun k => (u k).1) 7 n - (u (degS u)).1 * (inv * PA (fun k => (u k).1) 7 n - PA (m' 648) 7 n) = (u (degS u)).1 * PA (m' 648) 7 n - PA (fun k => (u k).1) 7 n by rw [Int.sub_mul, Int.mul_sub, Int.mul_assoc, Int.one_mul]; omega] at this
              exact this
            · intro s
              exact cS.1 _ _ (cS.2.2.1 inv _ s) c1
          refine c_rootOne (d := degS u) (p := p) (by omega) p2 (fun m2 f2 h2 => ?_)
          have e82 : m2 648 = m' 648 := funext (fun j => f2 _ _ (by decide))
          have fr2 : FRm m m2 := f1.trans (fun c i c1 c2 c3 => by rw [f2 _ _ c2, f _ _ c1])
          refine ⟨15, rootM_127 (m0 := m2) hp' (fun m3 f3 e83 h3 => l166 du m3 (fr2.trans f3) (hP.fr (by rw [e83, e82])) (fun S cS => by rw [e83, e82]; exact iff_ S cS) h3) 14 m2 (by decide) (fun _ _ _ _ _ => rfl) rfl (hP.fr e82) ?_⟩
          have z : p / ((2 ^ 14 : Nat) : Int) = 0 := Int.ediv_eq_zero_of_lt (by omega) (by have : ((2 ^ 14 : Nat) : Int) = 16384 := rfl; omega)
          rw [z]
          exact h2
        | succ n ih =>
          intro k m' k0 k1 f hm
          refine ⟨by constructor <;> omega, by constructor <;> omega, ?_⟩
          rw [if_neg (by omega), hm k k0 (by omega), if_neg (by omega)]
          have b1 := hu k k0 (by omega)
          have b2 := mul_p hp9 (show 0 ≤ (u k).1 ∧ (u k).1 ≤ p by omega) iv
          refine ⟨by omega, by constructor <;> omega, by constructor <;> omega, by omega, ?_⟩
          rintro _ rfl
          rw [tmod_pos b2.1]
          refine ih (k + 1) _ (by omega) (by omega) (f.trans FA.up) (fun i i0 i1 => ?_)
          by_cases c : i = k
          · rw [c, up_at, if_pos (by omega)]
          · rw [up_neI c, hm i i0 i1]
            by_cases c2 : i < k
            · rw [if_pos c2, if_pos (by omega)]
            · rw [if_neg c2, if_neg (by omega)]
      exact ⟨_, L (degS u + 1).toNat 0 m1 (by decide) (by omega) (fun _ _ _ => rfl) (fun i i0 i1 => by rw [if_neg (by omega)]; exact eP i i0 i1)⟩
    · rw [if_neg du]
      by_cases c0 : 0 ≤ degS u
      · rw [if_pos c0]
        rw [if_neg (by omega), if_pos (by omega)] at q
        exact q
      · rw [if_neg c0]
        rw [if_pos (by omega)] at q
        exact q
  have l6 : ∀ (n : Nat) (k : Nat) (m1 : MM), k + n = 7 → FRm m m1 → (∀ i, m1 635 i = m 635 i) → (∀ j, 0 ≤ j → j < (k : Int) → m1 648 j = (u j).1) → P_X10_rootsOf_6 Q (n + 1) x p (degG u k) (k : Int) m1 := by
    intro n
    induction n with
    | zero =>
      intro k m1 k1 f e5 eP
      have : k = 7 := by omega
      subst this
      refine ⟨by constructor <;> omega, ?_⟩
      rw [if_pos (by decide)]
      exact l53 m1 f eP
    | succ n ih =>
      intro k m1 k1 f e5 eP
      have ub := hu (k : Int) (by omega) (by omega)
      refine ⟨by constructor <;> omega, ?_⟩
      rw [if_neg (by omega), e5, (rx (k : Int) (by omega) (by omega)).1]
      refine ⟨by omega, by omega, ?_⟩
      rintro _ rfl
      rw [up_at]
      refine ⟨by constructor <;> omega, ?_⟩
      have go := ih (k + 1) (up m1 648 (k : Int) (u (k : Int)).1) (by omega) (f.trans (fun c i c1 c2 c3 => up_ne (fun z => c1 z.1))) (fun i => by rw [up_ne (fun z => absurd z.1 (by decide))]; exact e5 i) (fun j j0 j1 => ?_)
      · rw [show ((k + 1 : Nat) : Int) = (k : Int) + 1 by omega] at go
        unfold degG at go
        by_cases c : (u (k : Int)).1 = 0
        · rw [if_pos c] at go ⊢
          exact go
        · rw [if_neg c] at go ⊢
          exact go
      · by_cases c : j = (k : Int)
        · rw [c, up_at]
        · rw [up_neI c]; exact eP j j0 (by omega)
  exact ⟨_, l6 7 0 m (by decide) (fun _ _ _ _ _ => rfl) (fun _ => rfl) (fun j j0 j1 => by omega)⟩
end ROOTM3
