set_option maxRecDepth 100000
/-! roots: the component, its end -/
theorem nat_bit (x k : Nat) : x &&& 2 ^ k = 0 ↔ x / 2 ^ k % 2 = 0 := by
  have tb : x.testBit k = decide (x / 2 ^ k % 2 = 1) := Nat.testBit_eq_decide_div_mod_eq
  constructor
  · intro h
    have t := congrArg (fun y => Nat.testBit y k) h
    simp only [Nat.testBit_and, Nat.testBit_two_pow_self, Bool.and_true, Nat.zero_testBit] at t
    rw [tb] at t
    have := of_decide_eq_false t
    omega
  · intro h
    have tf : x.testBit k = false := by
      rw [tb]
      exact decide_eq_false (by omega)
    refine Nat.eq_of_testBit_eq (fun i => ?_)
    rw [Nat.testBit_and, Nat.zero_testBit]
    by_cases c : k = i
    · rw [← c, tf]
      rfl
    · rw [Nat.testBit_two_pow_of_ne c, Bool.and_false]
theorem iAnd_bit {x : Int} (k : Nat) (hk : k < 30) (h0 : 0 ≤ x ∧ x < 2147483648) : (iAnd x ((2 ^ k : Nat) : Int) = 0 ↔ (x / ((2 ^ k : Nat) : Int)) % 2 = 0) ∧ RI (iAnd x ((2 ^ k : Nat) : Int)) := by
  have hp : 2 ^ k ≤ 2 ^ 29 := Nat.pow_le_pow_right (by decide) (by omega)
  have hp0 : 0 < 2 ^ k := Nat.pow_pos (by decide)
  obtain ⟨y, rfl⟩ := Int.eq_ofNat_of_zero_le h0.1
  have h2 : ((Int32.ofInt (y : Int)).toBitVec &&& (Int32.ofInt ((2 ^ k : Nat) : Int)).toBitVec).toNat = y &&& 2 ^ k := by
    rw [BitVec.toNat_and, i32_nat, i32_nat, show (((2 ^ k : Nat) : Int) % 4294967296).toNat = 2 ^ k by omega, show (((y : Nat) : Int) % 4294967296).toNat = y by omega]
  have h3 : y &&& 2 ^ k ≤ 2 ^ k := Nat.and_le_right
  have e : iAnd (y : Int) ((2 ^ k : Nat) : Int) = ((y &&& 2 ^ k : Nat) : Int) := by
    unfold iAnd
    exact i32_of_nat h2 (by omega)
  rw [e]
  refine ⟨?_, by constructor <;> omega⟩
  have nb := nat_bit y k
  rw [← Int.natCast_ediv]
  constructor
  · intro z
    have := nb.1 (by omega)
    omega
  · intro z
    have := nb.2 (by omega)
    omega
noncomputable def rtS (p : Int) (u : Int → PP) : Int := if degS u < 0 then p else if degS u < 1 then 0 else rootsN p (PA (fun k => (u k).1) 7)
/-- what the search for roots may change -/
def FRt (m m' : MM) : Prop := (∀ c i, c ≠ 386 → c ≠ 387 → c ≠ 388 → ¬ (c = 376 ∧ (i = 19 ∨ i = 20)) → m' c i = m c i) ∧ AR (m' 376 19) (m' 376 20)
theorem degS_c {u v : Int → PP} (h : ∀ k, 0 ≤ k → k < 7 → (u k).1 = (v k).1) : degS u = degS v := by
  have L : ∀ n : Nat, n ≤ 7 → degG u n = degG v n := by
    intro n
    induction n with
    | zero => intro _; rfl
    | succ n ih =>
      intro hn
      unfold degG
      rw [h n (by omega) (by omega), ih (by omega)]
  exact L 7 (by decide)
theorem PA_c {g g' : Int → Int} {n : Int} (h : ∀ k, 0 ≤ k → k < n → g k = g' k) : PA g n = PA g' n := by
  funext k
  unfold PA
  by_cases c : 0 ≤ k ∧ k < n
  · rw [if_pos c, if_pos c, h k c.1 c.2]
  · rw [if_neg c, if_neg c]
theorem notdvd {p x : Int} (h : 0 < x ∧ x < p) : ¬ p ∣ x := by
  intro d
  have := Int.le_of_dvd h.1 d
  omega
section ROOTC
variable {Q : Int → MM → Prop} {p x : Int} {u : Int → PP} {P T : PL}
theorem rootC_138 {m0 : MM} (hp : PRI p) (hp9 : p ≤ 9973) (fin : ∀ m' D, FRt m0 m' → rtD p P T D → Q D m') : ∀ (n : Nat) (a b : Int) (m : MM), AR a b → m 376 19 = a → m 376 20 = b → FRt m0 m → InP p (m a) 7 → InP p (m b) 7 → 0 ≤ degS (rowQ m a) → EQI p (PA (m a) 7) (PA (m b) 7) P T → degS (rowQ m b) < n → P_X6_roots_138 Q (n + 1) p m := by
  intro n
  have ri : ∀ {m : MM} {a : Int}, InP p (m a) 7 → ∀ k, 0 ≤ k → k < 7 → RI (m a k) := by
    intro m a i k k0 k1
    have := i k k0 k1
    constructor <;> omega
  have last : ∀ (a b : Int) (m : MM), AR a b → m 376 19 = a → m 376 20 = b → FRt m0 m → InP p (m a) 7 → InP p (m b) 7 → 0 ≤ degS (rowQ m a) → EQI p (PA (m a) 7) (PA (m b) 7) P T → degS (rowQ m b) < 0 → P_X6_roots_197 Q m := by
    intro a b m hab ha hb f ia ib da eq db
    obtain ⟨la, lb, nab, n388, n376⟩ := hab.ly
    unfold P_X6_roots_197
    rw [ha]
    refine c_X6_high la (ri ia) (fin m _ f (eq.rt (rtD_base hp ?_ (fun n hn => ?_) (fun n => ?_))))
    · have bd := degS_bd (rowQ m a)
      have nz : m a (degS (rowQ m a)) ≠ 0 := degG_nz 7 da
      have := ia (degS (rowQ m a)) da (by omega)
      unfold PA
      rw [if_pos (by omega)]
      exact notdvd (by omega)
    · unfold PA
      split
      case isTrue c =>
        have z : m a n = 0 := degG_ab (u := rowQ m a) 7 n hn c.2
        rw [z]
        exact Int.dvd_zero p
      case isFalse => exact Int.dvd_zero p
    · unfold PA
      split
      case isTrue c =>
        have z : m b n = 0 := degG_ab (u := rowQ m b) 7 n (show degG (rowQ m b) 7 < n by have : degG (rowQ m b) 7 = degS (rowQ m b) := rfl; omega) c.2
        rw [z]
        exact Int.dvd_zero p
      case isFalse => exact Int.dvd_zero p
  induction n with
  | zero =>
    intro a b m hab ha hb f ia ib da eq db
    obtain ⟨la, lb, nab, n388, n376⟩ := hab.ly
    have bd := degS_bd (rowQ m b)
    unfold P_X6_roots_138
    rw [hb]
    refine c_X6_high lb (ri ib) ⟨by constructor <;> omega, ?_⟩
    rw [if_pos (by omega)]
    exact last a b m hab ha hb f ia ib da eq (by omega)
  | succ n ih =>
    intro a b m hab ha hb f ia ib da eq db
    obtain ⟨la, lb, nab, n388, n376⟩ := hab.ly
    have bd := degS_bd (rowQ m b)
    have bda := degS_bd (rowQ m a)
    unfold P_X6_roots_138
    rw [hb]
    refine c_X6_high lb (ri ib) ⟨by constructor <;> omega, ?_⟩
    by_cases c : degS (rowQ m b) < 0
    · rw [if_pos c]
      exact last a b m hab ha hb f ia ib da eq c
    · rw [if_neg c, ha]
      refine c_X6_high la (ri ia) ?_
      rw [hb]
      refine c_X6_high lb (ri ib) ?_
      have nz : m b (degS (rowQ m b)) ≠ 0 := degG_nz 7 (show 0 ≤ degG (rowQ m b) 7 by have : degG (rowQ m b) 7 = degS (rowQ m b) := rfl; omega)
      refine c_X6_reduce (L := 7) hp hp9 la lb nab (by decide) (by omega) (by omega) ia ib nz (fun j j0 j1 => degG_ab (u := rowQ m b) 7 j j0 j1) (fun j j0 j1 => degG_ab (u := rowQ m a) 7 j j0 j1) (fun m2 f2 i2 z2 d2 => ?_)
      rintro _ rfl _ rfl
      have e19 : m2 376 19 = a := by rw [f2 _ _ n376.1.symm]; exact ha
      have e20 : m2 376 20 = b := by rw [f2 _ _ n376.1.symm]; exact hb
      rw [e19, e20]
      have fb : m2 b = m b := funext (fun k => f2 _ _ nab.symm)
      have ga : up (up m2 376 19 b) 376 20 a a = m2 a := funext (fun k => by rw [up_ne (fun z => n376.1 z.1), up_ne (fun z => n376.1 z.1)])
      have gb : up (up m2 376 19 b) 376 20 a b = m b := funext (fun k => by rw [up_ne (fun z => n376.2 z.1), up_ne (fun z => n376.2 z.1), fb])
      have rqb : rowQ (up (up m2 376 19 b) 376 20 a) b = rowQ m b := by
        funext k
        unfold rowQ
        rw [gb]
      refine ih b a _ hab.sw (by rw [up_neI (by decide), up_at]) (up_at ..) ?_ (by rw [gb]; exact ib) (by rw [ga]; exact i2) (by rw [rqb]; omega) ?_ ?_
      · refine ⟨fun cc i c1 c2 c3 c4 => ?_, by rw [up_neI (by decide), up_at, up_at]; exact hab.sw⟩
        rw [up_ne (fun z => c4 ⟨z.1, Or.inr z.2⟩), up_ne (fun z => c4 ⟨z.1, Or.inl z.2⟩)]
        have ca : cc ≠ a := by rcases hab with ⟨z, -⟩ | ⟨z, -⟩ <;> omega
        rw [f2 _ _ ca]
        exact f.1 cc i c1 c2 c3 c4
      · rw [ga, gb]
        intro S cS
        rw [← eq S cS]
        constructor
        · rintro ⟨s1, s2⟩
          exact ⟨(d2.iff cS s1).2 s2, s1⟩
        · rintro ⟨s1, s2⟩
          exact ⟨s2, (d2.iff cS s2).1 s1⟩
      · have low : degS (rowQ (up (up m2 376 19 b) 376 20 a) a) ≤ degS (rowQ m b) - 1 := by
          refine degG_le 7 (by omega) (fun j j0 j1 => ?_)
          show up (up m2 376 19 b) 376 20 a a j = 0
          rw [ga]
          exact z2 j (by omega) j1
        omega
theorem c_X6_roots {m : MM} (hp : PRI p) (hp9 : p ≤ 9973) (har : AR (m 376 19) (m 376 20)) (bx : 0 ≤ x ∧ x + 14 ≤ 1155420) (rx : Rw (m 379) x u 7) (nu : NR p 7 u) (fin : ∀ m', FRt m m' → Q (rtS p u) m') : P_X6_roots p x m Q := by
  have p2 := hp.1
  obtain ⟨la, lb, nab, n388, n376⟩ := har.ly
  generalize ha : m 376 19 = a at *
  generalize hb : m 376 20 = b at *
  have hca : a ≠ 379 ∧ b ≠ 379 := by rcases har with ⟨z, w⟩ | ⟨z, w⟩ <;> omega
  have fr0 : FRt m m := ⟨fun _ _ _ _ _ _ => rfl, by rw [ha, hb]; exact har⟩
  have hu : ∀ k, 0 ≤ k → k < 7 → 0 ≤ (u k).1 ∧ (u k).1 < p := fun k _ _ => (nu.1 k).2.2.2.2 (by omega)
  have frn : ∀ {m1 m2 : MM}, FRt m m1 → FN [388, b] m1 m2 → FRt m m2 := by
    intro m1 m2 f g
    have nb : ∀ c, c ≠ 386 → c ≠ 387 → c ≠ b := by
      intro c c1 c2
      rcases har with ⟨-, w⟩ | ⟨-, w⟩ <;> omega
    have n1 : ∀ c : Int, c ≠ 388 → c ≠ b → c ∉ [388, b] := by
      intro c c1 c2 z
      rcases List.mem_cons.1 z with z | z
      · exact c1 z
      · rcases List.mem_cons.1 z with z | z
        · exact c2 z
        · cases z
    refine ⟨fun c i c1 c2 c3 c4 => by rw [g c i (n1 c c3 (nb c c1 c2))]; exact f.1 c i c1 c2 c3 c4, ?_⟩
    rw [g 376 19 (n1 _ (by decide) n376.2.symm), g 376 20 (n1 _ (by decide) n376.2.symm)]
    exact f.2
  -- after the powers: the polynomial less the unknown
  have l120 : ∀ (m1 : MM), FRt m m1 → m1 376 19 = a → m1 376 20 = b → (∀ k, 0 ≤ k → k < 7 → m1 a k = (u k).1) → InP p (m1 b) 7 → RQ p (PA (fun k => (u k).1) 7) (PA (m1 b) 7) p → 1 ≤ degS u → P_X6_roots_120 Q p m1 := by
    intro m1 f e19 e20 ea ib rq du
    have b1 := ib 1 (by decide) (by decide)
    unfold P_X6_roots_120
    rw [e20]
    refine ⟨⟨7, lb, by decide, by decide⟩, by constructor <;> omega, by constructor <;> omega, by omega, ?_⟩
    rintro _ rfl
    rw [tmod_pos (by omega)]
    have ga : up m1 b 1 ((m1 b 1 + p - 1) % p) a = m1 a := funext (fun k => up_ne (fun z => nab z.1))
    have hP : PA (m1 a) 7 = PA (fun k => (u k).1) 7 := PA_c ea
    have dga : degS (rowQ (up m1 b 1 ((m1 b 1 + p - 1) % p)) a) = degS u := degS_c (fun k k0 k1 => by show up m1 b 1 ((m1 b 1 + p - 1) % p) a k = _; rw [ga]; exact ea k k0 k1)
    have db := degS_bd (rowQ (up m1 b 1 ((m1 b 1 + p - 1) % p)) b)
    refine ⟨_, rootC_138 (m0 := m) (P := PA (fun k => (u k).1) 7) (T := fun n => mono p n - mono 1 n) hp hp9 (fun m' D f' r => ?_) 8 a b _ har (by rw [up_ne (fun z => n376.2.symm z.1)]; exact e19) (by rw [up_ne (fun z => n376.2.symm z.1)]; exact e20) ?_ (by rw [ga]; intro k k0 k1; rw [ea k k0 k1]; exact hu k k0 k1) (fun k k0 k1 => ?_) (by rw [dga]; omega) (fun S cS => ?_) (by omega)⟩
    · have e : rtS p u = D := by
        unfold rtS
        rw [if_neg (by omega), if_neg (by omega), rootsN_eq r]
      have := fin m' f'
      rw [e] at this
      exact this
    · refine ⟨fun c i c1 c2 c3 c4 => ?_, by rw [up_ne (fun z => n376.2.symm z.1), up_ne (fun z => n376.2.symm z.1)]; exact f.2⟩
      have nb : c ≠ b := by rcases har with ⟨-, w⟩ | ⟨-, w⟩ <;> omega
      rw [up_ne (fun z => nb z.1)]
      exact f.1 c i c1 c2 c3 c4
    · by_cases c : k = 1
      · rw [c, up_at]; exact emod_bd (by omega)
      · rw [up_neI c]; exact ib k k0 k1
    · rw [ga, hP]
      have d : ∀ n, p ∣ (PA (m1 b) 7 n - mono p n) - (PA (up m1 b 1 ((m1 b 1 + p - 1) % p) b) 7 n - (mono p n - mono 1 n)) := by
        intro n
        by_cases c : n = 1
        · subst c
          have e1 : PA (up m1 b 1 ((m1 b 1 + p - 1) % p) b) 7 1 = (m1 b 1 + p - 1) % p := by
            unfold PA
            rw [if_pos (by decide), up_at]
          have e2 : PA (m1 b) 7 1 = m1 b 1 := by unfold PA; rw [if_pos (by decide)]
          have e3 : mono 1 1 = 1 := by unfold mono; rw [if_pos rfl]
          rw [e1, e2, e3]
          have q := dvd_emod (x := m1 b 1 + p - 1) (p := p)
          have := Int.dvd_sub q (Int.dvd_refl p)
          rw [show m1 b 1 + p - 1 - (m1 b 1 + p - 1) % p - p = m1 b 1 - mono p 1 - ((m1 b 1 + p - 1) % p - (mono p 1 - 1)) by omega] at this
          exact this
        · have e1 : PA (up m1 b 1 ((m1 b 1 + p - 1) % p) b) 7 n = PA (m1 b) 7 n := by
            unfold PA
            by_cases c2 : 0 ≤ n ∧ n < 7
            · rw [if_pos c2, if_pos c2, up_neI c]
            · rw [if_neg c2, if_neg c2]
          have e3 : mono 1 n = 0 := by unfold mono; rw [if_neg c]
          rw [e1, e3, show PA (m1 b) 7 n - mono p n - (PA (m1 b) 7 n - (mono p n - 0)) = 0 by omega]
          exact Int.dvd_zero p
      constructor
      · rintro ⟨s1, s2⟩
        refine ⟨s1, cS.1 _ _ (cS.2.1 _ _ s2 (cS.2.2.1 (-1) _ (rq S cS s1))) (fun n => ?_)⟩
        have := d n
        have := Int.dvd_neg.2 this
        rw [show PA (up m1 b 1 ((m1 b 1 + p - 1) % p) b) 7 n + -1 * (PA (m1 b) 7 n - mono p n) - (mono p n - mono 1 n) = -((PA (m1 b) 7 n - mono p n) - (PA (up m1 b 1 ((m1 b 1 + p - 1) % p) b) 7 n - (mono p n - mono 1 n))) by omega]
        exact this
      · rintro ⟨s1, s2⟩
        refine ⟨s1, cS.1 _ _ (cS.2.1 _ _ s2 (rq S cS s1)) (fun n => ?_)⟩
        have := d n
        rw [show mono p n - mono 1 n + (PA (m1 b) 7 n - mono p n) - PA (up m1 b 1 ((m1 b 1 + p - 1) % p) b) 7 n = (PA (m1 b) 7 n - mono p n) - (PA (up m1 b 1 ((m1 b 1 + p - 1) % p) b) 7 n - (mono p n - mono 1 n)) by omega]
        exact this
  -- the bits
  have l88 : ∀ (n : Nat) (m1 : MM), n ≤ 14 → FRt m m1 → m1 376 19 = a → m1 376 20 = b → (∀ k, 0 ≤ k → k < 7 → m1 a k = (u k).1) → InP p (m1 b) 7 → RQ p (PA (fun k => (u k).1) 7) (PA (m1 b) 7) (p / ((2 ^ n : Nat) : Int)) → 1 ≤ degS u → P_X6_roots_88 Q (n + 2) p (degS u) (if n = 0 then 0 else ((2 ^ (n - 1) : Nat) : Int)) m1 := by
    intro n
    induction n with
    | zero =>
      intro m1 n14 f e19 e20 ea ib rq du
      rw [if_pos rfl]
      refine ⟨by decide, ?_⟩
      rw [if_pos (by decide)]
      rw [show ((2 ^ 0 : Nat) : Int) = 1 from rfl, Int.ediv_one] at rq
      exact l120 m1 f e19 e20 ea ib rq du
    | succ n ih =>
      intro m1 n14 f e19 e20 ea ib rq du
      have hpw : 1 ≤ 2 ^ n := Nat.one_le_two_pow
      have hpx : 2 ^ n ≤ 2 ^ 13 := Nat.pow_le_pow_right (by decide) (by omega)
      rw [if_neg (by omega), show n + 1 - 1 = n by omega]
      have bit := iAnd_bit (x := p) n (by omega) (by omega)
      have du6 := degS_bd u
      refine ⟨by constructor <;> omega, ?_⟩
      rw [if_neg (by omega)]
      refine ⟨bit.2, ?_⟩
      have hP : PA (m1 a) 7 = PA (fun k => (u k).1) 7 := PA_c ea
      have e0 : 0 ≤ p / ((2 ^ (n + 1) : Nat) : Int) := Int.ediv_nonneg (by omega) (by omega)
      have nz : (u (degS u)).1 ≠ 0 := degG_v (by omega)
      refine c_X6_square (a := a) (b := b) (e := p / ((2 ^ (n + 1) : Nat) : Int)) hp hp9 har e19 e20 (by split <;> omega) (by omega) (fun k k0 k1 => by rw [ea k k0 k1]; exact hu k k0 k1) ib (by rw [ea _ (by omega) (by omega)]; exact nz) (fun j j0 j1 => by rw [ea j (by omega) j1]; exact degG_ab (u := u) 7 j j0 j1) e0 (by rw [hP]; exact rq) (fun m2 f2 i2 z2 r2 => ?_)
      have n1 : ∀ c : Int, c ≠ 388 → c ≠ b → c ∉ [388, b] := by
        intro c c1 c2 z
        rcases List.mem_cons.1 z with z | z
        · exact c1 z
        · rcases List.mem_cons.1 z with z | z
          · exact c2 z
          · cases z
      have ee : 2 * (p / ((2 ^ (n + 1) : Nat) : Int)) + (if iAnd p ((2 ^ n : Nat) : Int) = 0 then 0 else 1) = p / ((2 ^ n : Nat) : Int) := by
        have q1 : ((2 ^ (n + 1) : Nat) : Int) = ((2 ^ n : Nat) : Int) * 2 := by rw [Nat.pow_succ, Int.natCast_mul]; rfl
        rw [q1, ← Int.ediv_ediv_of_nonneg (by omega)]
        generalize hq : p / ((2 ^ n : Nat) : Int) = q at *
        by_cases c : iAnd p ((2 ^ n : Nat) : Int) = 0
        · rw [if_pos c]
          have := bit.1.1 c
          omega
        · rw [if_neg c]
          have : ¬ q % 2 = 0 := fun z => c (bit.1.2 z)
          omega
      rw [ee, hP] at r2
      have td : Int.tdiv ((2 ^ n : Nat) : Int) 2 = (if n = 0 then 0 else ((2 ^ (n - 1) : Nat) : Int)) := by
        rw [tdiv_pos (by omega)]
        by_cases c : n = 0
        · rw [if_pos c, c]; decide
        · rw [if_neg c]
          have : 2 ^ n = 2 ^ (n - 1) * 2 := by rw [← Nat.pow_succ, show (n - 1).succ = n by omega]
          omega
      rw [td]
      exact ih m2 (by omega) (frn f f2) (by rw [f2 376 19 (n1 _ (by decide) n376.2.symm)]; exact e19) (by rw [f2 376 20 (n1 _ (by decide) n376.2.symm)]; exact e20) (fun k k0 k1 => by rw [f2 a k (n1 _ n388.1 nab)]; exact ea k k0 k1) i2 r2 du
  -- the highest bit
  have l71 : ∀ (n k : Nat) (m1 : MM), k ≤ 13 → 14 - k ≤ n → ((2 ^ k : Nat) : Int) ≤ p → FRt m m1 → m1 376 19 = a → m1 376 20 = b → (∀ k, 0 ≤ k → k < 7 → m1 a k = (u k).1) → (∀ j, 0 ≤ j → j < 7 → m1 b j = if j = 0 then 1 else 0) → 1 ≤ degS u → P_X6_roots_71 Q n p (degS u) ((2 ^ k : Nat) : Int) m1 := by
    intro n
    induction n with
    | zero => intro k m1 k13 hn; omega
    | succ n ih =>
      intro k m1 k13 hn hk f e19 e20 ea eb du
      have hpx : 2 ^ k ≤ 2 ^ 13 := Nat.pow_le_pow_right (by decide) k13
      have hpy : 1 ≤ 2 ^ k := Nat.one_le_two_pow
      have hk0 : (1 : Int) ≤ ((2 ^ k : Nat) : Int) ∧ ((2 ^ k : Nat) : Int) ≤ 8192 := by
        generalize 2 ^ k = w at *
        omega
      refine ⟨by constructor <;> omega, by constructor <;> omega, ?_⟩
      have q1 : ((2 ^ (k + 1) : Nat) : Int) = ((2 ^ k : Nat) : Int) * 2 := by rw [Nat.pow_succ, Int.natCast_mul]; rfl
      by_cases c : p < 2 * ((2 ^ k : Nat) : Int)
      · rw [if_pos c]
        have key := l88 (k + 1) m1 (by omega) f e19 e20 ea (fun j j0 j1 => by rw [eb j j0 j1]; split <;> omega) ?_ du
        · rw [if_neg (by omega), show k + 1 - 1 = k by omega] at key
          exact ⟨_, key⟩
        · rw [Int.ediv_eq_zero_of_lt (by omega) (by omega)]
          intro S cS hP
          refine cS.1 _ _ (cS.2.2.1 0 _ hP) (fun n => ?_)
          have : PA (m1 b) 7 n = mono 0 n := by
            unfold PA mono
            by_cases c2 : 0 ≤ n ∧ n < 7
            · rw [if_pos c2]; exact eb n c2.1 c2.2
            · rw [if_neg c2, if_neg (by omega)]
          rw [this, Int.zero_mul, Int.sub_self, Int.sub_self]
          exact Int.dvd_zero p
      · rw [if_neg c, ← q1]
        have k12 : k + 1 ≤ 13 := by
          by_cases z : k = 13
          · subst z
            have : ((2 ^ 13 : Nat) : Int) = 8192 := rfl
            omega
          · omega
        exact ih (k + 1) m1 k12 (by omega) (by omega) f e19 e20 ea eb du
  have l45 : ∀ m1, FRt m m1 → m1 376 19 = a → m1 376 20 = b → (∀ k, 0 ≤ k → k < 7 → m1 a k = (u k).1) → (∀ j, 0 ≤ j → j < 7 → m1 b j = if j = 0 then 1 else 0) → P_X6_roots_45 Q p m1 := by
    intro m1 f e19 e20 ea eb
    have dg : degS (rowQ m1 a) = degS u := degS_c (fun k k0 k1 => ea k k0 k1)
    have bd := degS_bd u
    unfold P_X6_roots_45
    rw [e19]
    refine c_X6_high la (fun k k0 k1 => by rw [ea k k0 k1]; have := hu k k0 k1; constructor <;> omega) ?_
    rw [dg]
    refine ⟨by constructor <;> omega, ?_⟩
    have q := fin m1 f
    unfold rtS at q
    by_cases c1 : 1 ≤ degS u
    · rw [if_pos c1]
      exact ⟨14, l71 14 0 m1 (by decide) (by decide) (by show (1 : Int) ≤ p; omega) f e19 e20 ea eb c1⟩
    · rw [if_neg c1]
      by_cases c0 : 0 ≤ degS u
      · rw [if_pos c0]
        rw [if_neg (by omega), if_pos (by omega)] at q
        exact q
      · rw [if_neg c0]
        rw [if_pos (by omega)] at q
        exact q
  have l2 : ∀ (n : Nat) (k : Int) (m1 : MM), 0 ≤ k → k + n = 7 → FRt m m1 → m1 376 19 = a → m1 376 20 = b → (∀ i, m1 379 i = m 379 i) → (∀ j, 0 ≤ j → j < k → m1 a j = (u j).1) → (∀ j, 0 ≤ j → j < k → m1 b j = if j = 0 then 1 else 0) → P_X6_roots_2 Q (n + 1) p x k m1 := by
    intro n
    induction n with
    | zero =>
      intro k m1 k0 k1 f e19 e20 e379 ea eb
      refine ⟨by constructor <;> omega, ?_⟩
      rw [if_pos (by omega)]
      exact l45 m1 f e19 e20 (fun j j0 j1 => ea j j0 (by omega)) (fun j j0 j1 => eb j j0 (by omega))
    | succ n ih =>
      intro k m1 k0 k1 f e19 e20 e379 ea eb
      refine ⟨by constructor <;> omega, ?_⟩
      rw [if_neg (by omega), e379, (rx k k0 (by omega)).1, e19]
      refine ⟨by omega, ⟨7, la, k0, by show k < 7; omega⟩, ?_⟩
      rintro _ rfl
      have e20' : up m1 a k (u k).1 376 20 = b := by rw [up_ne (fun z => n376.1.symm z.1)]; exact e20
      rw [e20']
      have go : ∀ v : Int, v = (if k = 0 then 1 else 0) → P_X6_roots_2 Q (n + 1) p x (k + 1) (up (up m1 a k (u k).1) b k v) := by
        intro v hv
        refine ih (k + 1) _ (by omega) (by omega) ⟨fun c i c1 c2 c3 c4 => ?_, ?_⟩ ?_ ?_ (fun i => ?_) (fun j j0 j1 => ?_) (fun j j0 j1 => ?_)
        · have ca : c ≠ a ∧ c ≠ b := by rcases har with ⟨z, w⟩ | ⟨z, w⟩ <;> omega
          rw [up_ne (fun z => ca.2 z.1), up_ne (fun z => ca.1 z.1)]
          exact f.1 c i c1 c2 c3 c4
        · rw [up_ne (fun z => n376.2.symm z.1), up_ne (fun z => n376.1.symm z.1), up_ne (fun z => n376.2.symm z.1), up_ne (fun z => n376.1.symm z.1)]
          exact f.2
        · rw [up_ne (fun z => n376.2.symm z.1), up_ne (fun z => n376.1.symm z.1)]; exact e19
        · rw [up_ne (fun z => n376.2.symm z.1)]; exact e20'
        · rw [up_ne (fun z => hca.2.symm z.1), up_ne (fun z => hca.1.symm z.1)]; exact e379 i
        · rw [up_ne (fun z => nab z.1)]
          by_cases c : j = k
          · rw [c, up_at]
          · rw [up_neI c]; exact ea j j0 (by omega)
        · by_cases c : j = k
          · rw [c, up_at]; exact hv
          · rw [up_neI c, up_ne (fun z => nab.symm z.1)]; exact eb j j0 (by omega)
      by_cases c : k = 0
      · rw [if_pos c]
        refine ⟨⟨7, lb, k0, by show k < 7; omega⟩, ?_⟩
        rintro _ rfl
        exact go 1 (by rw [if_pos c])
      · rw [if_neg c]
        refine ⟨⟨7, lb, k0, by show k < 7; omega⟩, ?_⟩
        rintro _ rfl
        exact go 0 (by rw [if_neg c])
  exact ⟨_, l2 7 0 m (by decide) (by decide) fr0 ha hb (fun _ => rfl) (fun j j0 j1 => by omega) (fun j j0 j1 => by omega)⟩
end ROOTC
