set_option maxRecDepth 100000
/-! roots: the model, its powers and its end -/
section ROOTM2
variable {Q : Int → MM → Prop} {p d e x : Int} {u : Int → PP}
/-- the polynomial whose roots are asked for is ready: reduced, its head is 1 -/
def MonP (p d : Int) (m : MM) : Prop := InP p (m 648) 7 ∧ m 648 d = 1 ∧ (∀ j, d < j → j < 7 → m 648 j = 0) ∧ 1 ≤ d ∧ d ≤ 6
/-- a power of the unknown lies there -/
def PwX (p d e : Int) (m : MM) : Prop := InP p (m 649) 7 ∧ (∀ j, d ≤ j → j < 7 → m 649 j = 0) ∧ RQ p (PA (m 648) 7) (PA (m 649) 7) e
theorem c_rootOne {m : MM} (hd : 1 ≤ d ∧ d ≤ 6) (hp : 2 ≤ p) (h : ∀ m', FA 649 m m' → PwX p d 0 m' → Q 0 m') : P_X10_rootOne m Q := by
  have L : ∀ (n : Nat) (k : Int) (m' : MM), 0 ≤ k → k + n = 7 → FA 649 m m' → (∀ j, 0 ≤ j → j < k → m' 649 j = 0) → P_X10_rootOne_2 Q (n + 1) k m' := by
    intro n
    induction n with
    | zero =>
      intro k m' k0 k1 f z
      refine ⟨by constructor <;> omega, ?_⟩
      rw [if_pos (by omega)]
      rintro _ rfl
      refine h _ (f.trans FA.up) ⟨fun j j0 j1 => ?_, fun j j0 j1 => ?_, ?_⟩
      · by_cases c : j = 0
        · rw [c, up_at]; omega
        · rw [up_neI c, z j j0 (by omega)]; omega
      · rw [up_neI (by omega)]; exact z j (by omega) (by omega)
      · intro S cS hP
        refine cS.1 _ _ (cS.2.2.1 0 _ hP) (fun n => ?_)
        have : PA (up m' 649 0 1 649) 7 n = mono 0 n := by
          unfold PA mono
          by_cases c : n = 0
          · rw [c, if_pos (by decide), up_at, if_pos rfl]
          · rw [if_neg c]
            split
            case isTrue c2 => rw [up_neI c]; exact z n c2.1 (by omega)
            case isFalse => rfl
        rw [this, Int.zero_mul, Int.sub_self, Int.sub_self]
        exact Int.dvd_zero p
    | succ n ih =>
      intro k m' k0 k1 f z
      refine ⟨by constructor <;> omega, ?_⟩
      rw [if_neg (by omega)]
      refine ⟨by omega, ?_⟩
      rintro _ rfl
      refine ih (k + 1) _ (by omega) (by omega) (f.trans FA.up) (fun j j0 j1 => ?_)
      by_cases c : j = k
      · rw [c, up_at]
      · rw [up_neI c]; exact z j j0 (by omega)
  exact ⟨_, L 7 0 m (by decide) (by decide) (fun _ _ _ => rfl) (fun j j0 j1 => by omega)⟩
theorem c_rootUp {m : MM} (hp : 2 ≤ p ∧ p ≤ 9973) (hP : MonP p d m) (hX : PwX p d e m) (h : ∀ m', FA 649 m m' → PwX p d (e + 1) m' → Q 0 m') : P_X10_rootUp d p m Q := by
  obtain ⟨iP, p1, pz, hd⟩ := id hP
  obtain ⟨iX, xz, rq⟩ := id hX
  have xb := iX (d - 1) (by omega) (by omega)
  refine ⟨by omega, ?_⟩
  generalize hc : p - m 649 (d - 1) = c
  have cb : 0 ≤ c ∧ c ≤ p := by omega
  have fP : ∀ {m' : MM}, FA 649 m m' → ∀ k, m' 648 k = m 648 k := fun f k => f _ _ (by decide)
  have fin : ∀ m', FA 649 m m' → (∀ i, m' 649 i = if 1 ≤ i ∧ i ≤ d - 1 then (m 649 (i - 1) + c * m 648 i) % p else m 649 i) → P_X10_rootUp_57 Q p c m' := by
    intro m' f hm
    have b0 := iP 0 (by decide) (by decide)
    have b1 := mul_p hp.2 cb b0
    unfold P_X10_rootUp_57
    rw [fP f]
    refine ⟨by constructor <;> omega, by constructor <;> omega, by omega, ?_⟩
    rintro _ rfl
    rw [tmod_pos b1.1]
    have val : ∀ i, up m' 649 0 (c * m 648 0 % p) 649 i = if i = 0 then c * m 648 0 % p else if 1 ≤ i ∧ i ≤ d - 1 then (m 649 (i - 1) + c * m 648 i) % p else m 649 i := by
      intro i
      by_cases ci : i = 0
      · rw [ci, up_at, if_pos rfl]
      · rw [up_neI ci, if_neg ci]; exact hm i
    have gP : up m' 649 0 (c * m 648 0 % p) 648 = m 648 := funext (fun k => by rw [up_ne (fun z => absurd z.1 (by decide))]; exact fP f k)
    refine h _ (f.trans FA.up) ⟨fun j j0 j1 => ?_, fun j j0 j1 => ?_, ?_⟩
    · rw [val]
      split
      · exact emod_bd (by omega)
      · split
        · exact emod_bd (by omega)
        · exact iX j j0 j1
    · rw [val, if_neg (by omega), if_neg (by omega)]
      exact xz j j0 j1
    · rw [gP]
      have d1 : DF p (PA (m 648) 7) (fun n => PA (m 649) 7 (n - 1)) (PA (up m' 649 0 (c * m 648 0 % p) 649) 7) := by
        refine DF.of (c := c) (k := 0) (by decide) (fun n => ?_)
        rw [Int.sub_zero]
        unfold PA
        by_cases c1 : 0 ≤ n ∧ n < 7
        · rw [if_pos c1, if_pos c1, val]
          by_cases n0 : n = 0
          · rw [if_neg (by omega), if_pos n0, Int.zero_add, n0]
            exact dvd_emod
          · rw [if_pos (by omega), if_neg n0]
            by_cases n1 : 1 ≤ n ∧ n ≤ d - 1
            · rw [if_pos n1]
              exact dvd_emod
            · rw [if_neg n1, xz n (by omega) (by omega)]
              by_cases nd : n = d
              · rw [nd, p1, Int.mul_one, show m 649 (d - 1) + c - 0 = p by omega]
                exact Int.dvd_refl p
              · rw [xz (n - 1) (by omega) (by omega), pz n (by omega) c1.2, Int.mul_zero]
                exact Int.dvd_zero p
        · rw [if_neg c1, if_neg c1, Int.mul_zero, Int.add_zero, Int.sub_zero]
          by_cases c2 : 0 ≤ n - 1 ∧ n - 1 < 7
          · rw [if_pos c2, xz (n - 1) (by omega) c2.2]
            exact Int.dvd_zero p
          · rw [if_neg c2]
            exact Int.dvd_zero p
      exact d1.rq rq.sh
  have L : ∀ (n : Nat) (k : Int) (m' : MM), 0 ≤ k → k = (n : Int) → k ≤ d - 1 → FA 649 m m' → (∀ i, m' 649 i = if k < i ∧ i ≤ d - 1 then (m 649 (i - 1) + c * m 648 i) % p else m 649 i) → P_X10_rootUp_17 Q (n + 1) p c k m' := by
    intro n
    induction n with
    | zero =>
      intro k m' k0 k1 k2 f hm
      refine ⟨by constructor <;> omega, ?_⟩
      rw [if_pos (by omega)]
      refine fin m' f (fun i => ?_)
      rw [hm i]
      by_cases c2 : 1 ≤ i ∧ i ≤ d - 1
      · rw [if_pos c2, if_pos (by omega)]
      · rw [if_neg c2, if_neg (by omega)]
    | succ n ih =>
      intro k m' k0 k1 k2 f hm
      refine ⟨by constructor <;> omega, ?_⟩
      rw [if_neg (by omega)]
      have e1 : m' 649 (k - 1) = m 649 (k - 1) := by rw [hm, if_neg (by omega)]
      have b0 := iP k (by omega) (by omega)
      have b1 := mul_p hp.2 cb b0
      have b2 := iX (k - 1) (by omega) (by omega)
      rw [e1, fP f]
      refine ⟨by omega, by omega, by constructor <;> omega, by constructor <;> omega, by omega, ?_⟩
      rintro _ rfl
      rw [tmod_pos (by omega)]
      refine ih (k + (-1)) _ (by omega) (by omega) (by omega) (f.trans FA.up) (fun i => ?_)
      by_cases ci : i = k
      · rw [ci, up_at, if_pos (by omega)]
      · rw [up_neI ci, hm i]
        by_cases c2 : k < i ∧ i ≤ d - 1
        · rw [if_pos c2, if_pos (by omega)]
        · rw [if_neg c2, if_neg (by omega)]
  exact ⟨_, L (d - 1).toNat (d - 1) m (by omega) (by omega) (Int.le_refl _) (fun _ _ _ => rfl) (fun i => by rw [if_neg (by omega)])⟩
theorem cvq_ext {F : PL} {s : Int} {k : Nat} (hF : ∀ i : Int, (k : Int) ≤ i → F i = 0) : ∀ n : Nat, cvq F s (k + n) = cvq F s k := by
  intro n
  induction n with
  | zero => rfl
  | succ n ih =>
    funext q
    show cvq F s (k + n) q + F ((k + n : Nat) : Int) * F (q - (((k + n : Nat) : Int) + s)) = _
    rw [hF _ (by omega), Int.zero_mul, Int.add_zero, ih]
theorem c_rootSquare {m : MM} (hp : 2 ≤ p ∧ p ≤ 9973) (hP : MonP p d m) (hX : PwX p d e m) (he : 0 ≤ e) (h : ∀ m', FN [649, 650] m m' → PwX p d (2 * e) m' → Q 0 m') : P_X10_rootSquare d p m Q := by
  obtain ⟨iP, p1, pz, hd⟩ := id hP
  obtain ⟨iX, xz, rq⟩ := id hX
  have hF0 : ∀ i : Int, ((d.toNat : Nat) : Int) ≤ i → PA (m 649) 7 i = 0 := by
    intro i hi
    unfold PA
    split
    case isTrue c => exact xz i (by omega) c.2
    case isFalse => rfl
  have cv7 : cvq (PA (m 649) 7) 0 7 = cvq (PA (m 649) 7) 0 d.toNat := by
    have := cvq_ext (s := 0) hF0 (7 - d.toNat)
    rw [show d.toNat + (7 - d.toNat) = 7 by omega] at this
    exact this
  -- the end: what is left goes back
  have l177 : ∀ (m1 : MM), FA 650 m m1 → InP p (m1 650) 14 → DF p (PA (m 648) 7) (cvq (PA (m 649) 7) 0 7) (PA (m1 650) d) → ∃ nn, P_X10_rootSquare_177 Q nn d 0 m1 := by
    intro m1 f1 i1 d1
    have L : ∀ (n : Nat) (k : Int) (m' : MM), 0 ≤ k → k + n = d → FA 649 m1 m' → (∀ i, m' 649 i = if 0 ≤ i ∧ i < k then m1 650 i else m1 649 i) → P_X10_rootSquare_177 Q (n + 1) d k m' := by
      intro n
      induction n with
      | zero =>
        intro k m' k0 k1 f hm
        refine ⟨by constructor <;> omega, by constructor <;> omega, ?_⟩
        rw [if_pos (by omega)]
        have kd : k = d := by omega
        subst kd
        have g8 : m' 648 = m 648 := funext (fun j => by rw [f _ _ (by decide), f1 _ _ (by decide)])
        refine h m' (fun c i hc => ?_) ⟨fun j j0 j1 => ?_, fun j j0 j1 => ?_, ?_⟩
        · have c1 : c ≠ 649 := fun z => hc (by rw [z]; exact List.mem_cons_self ..)
          have c2 : c ≠ 650 := fun z => hc (by rw [z]; exact List.mem_cons_of_mem _ (List.mem_cons_self ..))
          rw [f _ _ c1, f1 _ _ c2]
        · rw [hm]
          split
          · exact i1 j j0 (by omega)
          · rw [f1 _ _ (by decide)]; exact iX j j0 j1
        · rw [hm, if_neg (by omega), f1 _ _ (by decide)]
          exact xz j j0 j1
        · rw [g8]
          have r1 := RQ.sq (s := 0) rq he (by decide) (fun n hn => by unfold PA; rw [if_neg hn])
          rw [Int.add_zero] at r1
          refine (d1.rq r1).cong (fun n => ?_)
          have : PA (m1 650) k n = PA (m' 649) 7 n := by
            unfold PA
            by_cases c : 0 ≤ n ∧ n < k
            · rw [if_pos c, if_pos (by omega), hm, if_pos c]
            · rw [if_neg c]
              by_cases c2 : 0 ≤ n ∧ n < 7
              · rw [if_pos c2, hm, if_neg c, f1 _ _ (by decide), xz n (by omega) c2.2]
              · rw [if_neg c2]
          rw [this, Int.sub_self]
          exact Int.dvd_zero p
      | succ n ih =>
        intro k m' k0 k1 f hm
        refine ⟨by constructor <;> omega, by constructor <;> omega, ?_⟩
        rw [if_neg (by omega)]
        refine ⟨by omega, by omega, ?_⟩
        rintro _ rfl
        refine ih (k + 1) _ (by omega) (by omega) (f.trans FA.up) (fun i => ?_)
        by_cases c : i = k
        · rw [c, up_at, if_pos (by omega), f _ _ (by decide)]
        · rw [up_neI c, hm]
          by_cases c2 : 0 ≤ i ∧ i < k
          · rw [if_pos c2, if_pos (by omega)]
          · rw [if_neg c2, if_neg (by omega)]
    exact ⟨_, L d.toNat 0 m1 (by decide) (by omega) (fun _ _ _ => rfl) (fun i => by rw [if_neg (by omega)])⟩
  -- reducing from above
  have l119 : ∀ {K99 : Int → Int → Int → MM → Prop} {m1 : MM} {k c : Int}, (d ≤ k ∧ k ≤ 2 * d - 2) → FA 650 m m1 → InP p (m1 650) 14 → c = p - m1 650 k → (∀ m', FA 650 m m' → InP p (m' 650) 14 → DF p (PA (m 648) 7) (PA (m1 650) (k + 1)) (PA (m' 650) k) → K99 d p (k + (-1)) m') → ∀ (n : Nat) (j : Int) (m' : MM), 0 ≤ j → j + n = d → FA 650 m m' → (∀ i, m' 650 i = if k - d ≤ i ∧ i < k - d + j then (m1 650 i + c * m 648 (i - (k - d))) % p else m1 650 i) → P_X10_rootSquare_119 Q K99 (n + 1) d p k c j m' := by
    intro K99 m1 k c hk f1 i1 hc fin n
    have yb := i1 k (by omega) (by omega)
    have cb : 0 ≤ c ∧ c ≤ p := by omega
    induction n with
    | zero =>
      intro j m' j0 j1 f hm
      refine ⟨by constructor <;> omega, by constructor <;> omega, ?_⟩
      rw [if_pos (by omega)]
      refine fin m' f (fun i i0 i1' => ?_) (DF.of (c := c) (k := k - d) (by omega) (fun n => ?_))
      · rw [hm]
        split
        · exact emod_bd (by omega)
        · exact i1 i i0 i1'
      · unfold PA
        by_cases c1 : k - d ≤ n ∧ n < k
        · rw [if_pos (by omega), if_pos (by omega), if_pos (by omega), hm, if_pos (by omega)]
          exact dvd_emod
        · by_cases c2 : n = k
          · rw [if_pos (by omega), if_pos (by omega), if_neg (by omega), c2, show k - (k - d) = d by omega, p1, Int.mul_one, show m1 650 k + c - 0 = p by omega]
            exact Int.dvd_refl p
          · have z : (if 0 ≤ n - (k - d) ∧ n - (k - d) < 7 then m 648 (n - (k - d)) else 0) = 0 := by
              split
              case isTrue q => exact pz _ (by omega) q.2
              case isFalse => rfl
            rw [z, Int.mul_zero, Int.add_zero]
            by_cases c3 : 0 ≤ n ∧ n < k
            · rw [if_pos (by omega), if_pos c3, hm, if_neg (by omega), Int.sub_self]
              exact Int.dvd_zero p
            · rw [if_neg (by omega), if_neg c3]
              exact Int.dvd_zero p
    | succ n ih =>
      intro j m' j0 j1 f hm
      refine ⟨by constructor <;> omega, by constructor <;> omega, ?_⟩
      rw [if_neg (by omega)]
      have e1 : m' 650 (k - d + j) = m1 650 (k - d + j) := by rw [hm, if_neg (by omega)]
      have e2 : m' 648 j = m 648 j := f _ _ (by decide)
      have b1 := i1 (k - d + j) (by omega) (by omega)
      have b2 := iP j j0 (by omega)
      have b3 := mul_p hp.2 cb b2
      rw [e1, e2]
      refine ⟨by omega, by omega, by constructor <;> omega, by constructor <;> omega, by omega, ?_⟩
      rintro _ rfl
      rw [tmod_pos (by omega)]
      refine ih (j + 1) _ (by omega) (by omega) (f.trans FA.up) (fun i => ?_)
      by_cases ci : i = k - d + j
      · rw [ci, up_at, if_pos (by omega), show k - d + j - (k - d) = j by omega]
      · rw [up_neI ci, hm i]
        by_cases c2 : k - d ≤ i ∧ i < k - d + j
        · rw [if_pos c2, if_pos (by omega)]
        · rw [if_neg c2, if_neg (by omega)]
  have l99 : ∀ (n : Nat) (k : Int) (m1 : MM), k - d + 1 ≤ n → d - 1 ≤ k → k ≤ 2 * d - 2 → FA 650 m m1 → InP p (m1 650) 14 → DF p (PA (m 648) 7) (cvq (PA (m 649) 7) 0 7) (PA (m1 650) (k + 1)) → P_X10_rootSquare_99 Q (n + 1) d p k m1 := by
    intro n
    induction n with
    | zero =>
      intro k m1 hn k0 k1 f i df
      refine ⟨by constructor <;> omega, by constructor <;> omega, ?_⟩
      rw [if_pos (by omega)]
      rw [show k + 1 = d by omega] at df
      exact l177 m1 f i df
    | succ n ih =>
      intro k m1 hn k0 k1 f i df
      refine ⟨by constructor <;> omega, by constructor <;> omega, ?_⟩
      by_cases c : k < d
      · rw [if_pos c]
        rw [show k + 1 = d by omega] at df
        exact l177 m1 f i df
      · rw [if_neg c]
        refine ⟨by omega, ⟨_, l119 (by omega) f i rfl (fun m2 f2 i2 d2 => ?_) d.toNat 0 m1 (by decide) (by omega) f (fun q => by rw [if_neg (by omega)])⟩⟩
        refine ih (k + (-1)) m2 (by omega) (by omega) (by omega) f2 i2 ?_
        have := df.trans d2
        rw [show k + (-1) + 1 = k by omega]
        exact this
  -- the product
  have l36 : ∀ {K27 : Int → Int → Int → MM → Prop} {i : Nat}, (i : Int) < d → (∀ m', FA 650 m m' → InP p (m' 650) 14 → (∀ k, 2 * d - 1 ≤ k → k < 14 → m' 650 k = 0) → ceq p (PA (m' 650) 14) (cvq (PA (m 649) 7) 0 (i + 1)) → K27 d p ((i : Int) + 1) m') → ∀ (n : Nat) (j : Int) (m' : MM), 0 ≤ j → j + n = d → FA 650 m m' → InP p (m' 650) 14 → (∀ k, 2 * d - 1 ≤ k → k < 14 → m' 650 k = 0) → ceq p (PA (m' 650) 14) (pv (PA (m 649) 7) 0 i j) → P_X10_rootSquare_36 Q K27 (n + 1) d p (i : Int) j m' := by
    intro K27 i hi fin n
    induction n with
    | zero =>
      intro j m' j0 j1 f ip z cq
      refine ⟨by constructor <;> omega, by constructor <;> omega, ?_⟩
      rw [if_pos (by omega)]
      refine fin m' f ip z (fun n => ?_)
      have : pv (PA (m 649) 7) 0 i j n = cvq (PA (m 649) 7) 0 (i + 1) n := by
        rw [← pv_7]
        unfold pv
        congr 2
        unfold PA
        by_cases c : 0 ≤ n - ((i : Int) + 0) ∧ n - ((i : Int) + 0) < j
        · have c7 : 0 ≤ n - ((i : Int) + 0) ∧ n - ((i : Int) + 0) < 7 := by omega
          simp only [if_pos c, if_pos c7]
        · rw [if_neg c]
          by_cases c2 : 0 ≤ n - ((i : Int) + 0) ∧ n - ((i : Int) + 0) < 7
          · rw [if_pos c2, if_pos c2, xz _ (by omega) c2.2]
          · rw [if_neg c2]
      rw [← this]
      exact cq n
    | succ n ih =>
      intro j m' j0 j1 f ip z cq
      refine ⟨by constructor <;> omega, by constructor <;> omega, ?_⟩
      rw [if_neg (by omega)]
      have fx : ∀ k, m' 649 k = m 649 k := fun k => f _ _ (by decide)
      rw [fx, fx]
      have b1 := iX (i : Int) (by omega) (by omega)
      have b2 := iX j j0 (by omega)
      have b3 := mul_p hp.2 (show 0 ≤ m 649 (i : Int) ∧ m 649 (i : Int) ≤ p by omega) b2
      have b4 := ip ((i : Int) + j) (by omega) (by omega)
      refine ⟨by omega, by omega, by omega, by constructor <;> omega, by constructor <;> omega, by omega, ?_⟩
      rintro _ rfl
      rw [tmod_pos (by omega)]
      have Fi : PA (m 649) 7 (i : Int) = m 649 (i : Int) := by unfold PA; rw [if_pos (by omega)]
      have stp : ∀ n, pv (PA (m 649) 7) 0 i (j + 1) n = pv (PA (m 649) 7) 0 i j n + (if n = (i : Int) + j then m 649 (i : Int) * m 649 j else 0) := by
        intro n
        unfold pv
        rw [Fi]
        have e : PA (PA (m 649) 7) (j + 1) (n - ((i : Int) + 0)) = PA (PA (m 649) 7) j (n - ((i : Int) + 0)) + (if n = (i : Int) + j then m 649 j else 0) := by
          unfold PA
          by_cases c : n = (i : Int) + j
          · rw [if_pos (by omega), if_pos (by omega), if_neg (by omega), if_pos c, show n - ((i : Int) + 0) = j by omega]
            omega
          · rw [if_neg c]
            by_cases c2 : 0 ≤ n - ((i : Int) + 0) ∧ n - ((i : Int) + 0) < j
            · rw [if_pos (show 0 ≤ n - ((i : Int) + 0) ∧ n - ((i : Int) + 0) < j + 1 by omega), if_pos c2]
              exact (Int.add_zero _).symm
            · rw [if_neg (show ¬ (0 ≤ n - ((i : Int) + 0) ∧ n - ((i : Int) + 0) < j + 1) by omega), if_neg c2]
              rfl
        rw [e, Int.mul_add]
        by_cases c : n = (i : Int) + j
        · rw [if_pos c, if_pos c]; omega
        · rw [if_neg c, if_neg c, Int.mul_zero]; omega
      refine ih (j + 1) _ (by omega) (by omega) (f.trans FA.up) (fun k k0 k1 => ?_) (fun k k0 k1 => ?_) (fun n => ?_)
      · by_cases c : k = (i : Int) + j
        · rw [c, up_at]; exact emod_bd (by omega)
        · rw [up_neI c]; exact ip k k0 k1
      · rw [up_neI (by omega)]; exact z k k0 k1
      · rw [stp]
        have old := cq n
        by_cases c : n = (i : Int) + j
        · rw [if_pos c]
          have e1 : PA (up m' 650 ((i : Int) + j) ((m' 650 ((i : Int) + j) + m 649 (i : Int) * m 649 j) % p) 650) 14 n = (m' 650 n + m 649 (i : Int) * m 649 j) % p := by
            unfold PA
            rw [if_pos (by omega), c, up_at]
          have e2 : PA (m' 650) 14 n = m' 650 n := by unfold PA; rw [if_pos (by omega)]
          rw [e1]
          rw [e2] at old
          have dd := dvd_emod (x := m' 650 n + m 649 (i : Int) * m 649 j) (p := p)
          have := Int.dvd_sub old dd
          rw [show m' 650 n - pv (PA (m 649) 7) 0 i j n - (m' 650 n + m 649 (i : Int) * m 649 j - (m' 650 n + m 649 (i : Int) * m 649 j) % p) = (m' 650 n + m 649 (i : Int) * m 649 j) % p - (pv (PA (m 649) 7) 0 i j n + m 649 (i : Int) * m 649 j) by omega] at this
          exact this
        · rw [if_neg c, Int.add_zero]
          have e1 : PA (up m' 650 ((i : Int) + j) ((m' 650 ((i : Int) + j) + m 649 (i : Int) * m 649 j) % p) 650) 14 n = PA (m' 650) 14 n := by
            unfold PA
            by_cases c2 : 0 ≤ n ∧ n < 14
            · rw [if_pos c2, if_pos c2, up_neI c]
            · rw [if_neg c2, if_neg c2]
          rw [e1]
          exact old
  have l27 : ∀ (n : Nat) (i : Nat) (m' : MM), (i : Int) + n = d → FA 650 m m' → InP p (m' 650) 14 → (∀ k, 2 * d - 1 ≤ k → k < 14 → m' 650 k = 0) → ceq p (PA (m' 650) 14) (cvq (PA (m 649) 7) 0 i) → P_X10_rootSquare_27 Q (n + 1) d p (i : Int) m' := by
    intro n
    induction n with
    | zero =>
      intro i m' i1 f ip z cq
      refine ⟨by constructor <;> omega, by constructor <;> omega, ?_⟩
      rw [if_pos (by omega)]
      have di : i = d.toNat := by omega
      rw [di, ← cv7] at cq
      have key := l99 (d.toNat) (2 * d - 2) m' (by omega) (by omega) (Int.le_refl _) f ip (fun S cS hP => cS.1 _ _ (cS.2.2.1 0 _ hP) (fun n => ?_))
      · exact ⟨_, key⟩
      · have e : PA (m' 650) (2 * d - 2 + 1) n = PA (m' 650) 14 n := by
          unfold PA
          by_cases c : 0 ≤ n ∧ n < 2 * d - 2 + 1
          · rw [if_pos c, if_pos (by omega)]
          · rw [if_neg c]
            by_cases c2 : 0 ≤ n ∧ n < 14
            · rw [if_pos c2, z n (by omega) c2.2]
            · rw [if_neg c2]
        have := cq n
        rw [Int.zero_mul, e, show 0 - (PA (m' 650) 14 n - cvq (PA (m 649) 7) 0 7 n) = -(PA (m' 650) 14 n - cvq (PA (m 649) 7) 0 7 n) by omega]
        exact Int.dvd_neg.2 this
    | succ n ih =>
      intro i m' i1 f ip z cq
      refine ⟨by constructor <;> omega, by constructor <;> omega, ?_⟩
      rw [if_neg (by omega)]
      refine ⟨_, l36 (by omega) (fun m2 f2 i2 z2 c2 => ?_) d.toNat 0 m' (by decide) (by omega) f ip z (by rw [pv_0]; exact cq)⟩
      have := ih (i + 1) m2 (by omega) f2 i2 z2 c2
      rw [show ((i + 1 : Nat) : Int) = (i : Int) + 1 by omega] at this
      exact this
  have l3 : ∀ (n : Nat) (k : Int) (m' : MM), 0 ≤ k → k + n = 14 → FA 650 m m' → (∀ j, 0 ≤ j → j < k → m' 650 j = 0) → P_X10_rootSquare_3 Q (n + 1) d p k m' := by
    intro n
    induction n with
    | zero =>
      intro k m' k0 k1 f z
      refine ⟨by constructor <;> omega, ?_⟩
      rw [if_pos (by omega)]
      refine ⟨_, l27 d.toNat 0 m' (by omega) f (fun j j0 j1 => by rw [z j j0 (by omega)]; omega) (fun j j0 j1 => z j (by omega) (by omega)) (fun n => ?_)⟩
      have : PA (m' 650) 14 n = 0 := by
        unfold PA
        split
        case isTrue c => exact z n c.1 (by omega)
        case isFalse => rfl
      rw [this]
      exact Int.dvd_zero p
    | succ n ih =>
      intro k m' k0 k1 f z
      refine ⟨by constructor <;> omega, ?_⟩
      rw [if_neg (by omega)]
      refine ⟨by omega, ?_⟩
      rintro _ rfl
      refine ih (k + 1) _ (by omega) (by omega) (f.trans FA.up) (fun j j0 j1 => ?_)
      by_cases c : j = k
      · rw [c, up_at]
      · rw [up_neI c]; exact z j j0 (by omega)
  exact ⟨_, l3 14 0 m (by decide) (by decide) (fun _ _ _ => rfl) (fun j j0 j1 => by omega)⟩
end ROOTM2
