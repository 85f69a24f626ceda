set_option maxRecDepth 100000
/-! roots: the component -/
def AR (a b : Int) : Prop := (a = 386 ∧ b = 387) ∨ (a = 387 ∧ b = 386)
theorem AR.ly {a b : Int} (h : AR a b) : lyA a = some (.inl (0, 7)) ∧ lyA b = some (.inl (0, 7)) ∧ a ≠ b ∧ (a ≠ 388 ∧ b ≠ 388) ∧ (a ≠ 376 ∧ b ≠ 376) := by
  rcases h with ⟨rfl, rfl⟩ | ⟨rfl, rfl⟩
  · exact ⟨ly_386, ly_387, by decide, by decide, by decide⟩
  · exact ⟨ly_387, ly_386, by decide, by decide, by decide⟩
theorem AR.sw {a b : Int} (h : AR a b) : AR b a := by
  rcases h with ⟨rfl, rfl⟩ | ⟨rfl, rfl⟩
  · exact Or.inr ⟨rfl, rfl⟩
  · exact Or.inl ⟨rfl, rfl⟩
/-- only some rows are others -/
def FN (s : List Int) (m m' : MM) : Prop := ∀ c i, c ∉ s → m' c i = m c i
/-- what is made of a row by itself so far -/
def pv (F : PL) (s : Int) (i : Nat) (j : Int) : PL := fun n => cvq F s i n + F (i : Int) * PA F j (n - ((i : Int) + s))
theorem pv_0 {F : PL} {s : Int} {i : Nat} : pv F s i 0 = cvq F s i := by
  funext n
  unfold pv PA
  rw [if_neg (by omega), Int.mul_zero, Int.add_zero]
theorem PA_self {g : Int → Int} {n : Int} : PA (PA g n) n = PA g n := by
  funext k
  unfold PA
  by_cases c : 0 ≤ k ∧ k < n
  · rw [if_pos c, if_pos c]
  · rw [if_neg c, if_neg c]
theorem pv_7 {g : Int → Int} {s : Int} {i : Nat} : pv (PA g 7) s i 7 = cvq (PA g 7) s (i + 1) := by
  funext n
  show cvq (PA g 7) s i n + PA g 7 (i : Int) * PA (PA g 7) 7 (n - ((i : Int) + s)) = cvq (PA g 7) s i n + PA g 7 (i : Int) * PA g 7 (n - ((i : Int) + s))
  rw [PA_self]
section SQC
variable {Q : Int → MM → Prop} {p a b hi s e : Int}
theorem sqC_37 {K27 : Int → Int → Int → Int → MM → Prop} {m0 : MM} {i : Nat} (hp : 2 ≤ p ∧ p ≤ 9973) (hab : AR a b) (hs : s = 0 ∨ s = 1) (hi7 : i < 7) (hb : m0 376 20 = b) (ib : InP p (m0 b) 7) (fin : ∀ m', FA 388 m0 m' → InP p (m' 388) 14 → ceq p (PA (m' 388) 14) (cvq (PA (m0 b) 7) s (i + 1)) → K27 p hi s ((i : Int) + 1) m') : ∀ (n : Nat) (j : Int) (m' : MM), 0 ≤ j → j + n = 7 → FA 388 m0 m' → InP p (m' 388) 14 → ceq p (PA (m' 388) 14) (pv (PA (m0 b) 7) s i j) → P_X6_square_37 Q K27 (n + 1) p hi s (i : Int) j m' := by
  obtain ⟨la, lb, nab, n388, n376⟩ := hab.ly
  intro n
  induction n with
  | zero =>
    intro j m' j0 j1 f ip cq
    refine ⟨by constructor <;> omega, ?_⟩
    rw [if_pos (by omega)]
    have : j = 7 := by omega
    subst this
    rw [pv_7] at cq
    exact fin m' f ip cq
  | succ n ih =>
    intro j m' j0 j1 f ip cq
    refine ⟨by constructor <;> omega, ?_⟩
    rw [if_neg (by omega)]
    have hb' : m' 376 20 = b := by rw [f _ _ (by decide)]; exact hb
    have fb : ∀ k, m' b k = m0 b k := fun k => f _ _ n388.2
    rw [hb', fb, fb]
    have b1 := ib (i : Int) (by omega) (by omega)
    have b2 := ib j j0 (by omega)
    have b3 := mul_p hp.2 (show 0 ≤ m0 b (i : Int) ∧ m0 b (i : Int) ≤ p by omega) b2
    refine ⟨⟨7, lb, by omega, by show (i : Int) < 7; omega⟩, ⟨7, lb, j0, by show j < 7; omega⟩, by constructor <;> omega, ?_⟩
    have Fi : PA (m0 b) 7 (i : Int) = m0 b (i : Int) := by unfold PA; rw [if_pos (by omega)]
    have stp : ∀ n, pv (PA (m0 b) 7) s i (j + 1) n = pv (PA (m0 b) 7) s i j n + (if n = (i : Int) + j + s then m0 b (i : Int) * m0 b j else 0) := by
      intro n
      unfold pv
      rw [Fi]
      have e : PA (PA (m0 b) 7) (j + 1) (n - ((i : Int) + s)) = PA (PA (m0 b) 7) j (n - ((i : Int) + s)) + (if n = (i : Int) + j + s then m0 b j else 0) := by
        unfold PA
        by_cases c : n = (i : Int) + j + s
        · rw [if_pos (by omega), if_pos (by omega), if_neg (by omega), if_pos c, show n - ((i : Int) + s) = j by omega]
          omega
        · rw [if_neg c, Int.add_zero]
          by_cases c2 : 0 ≤ n - ((i : Int) + s) ∧ n - ((i : Int) + s) < j
          · rw [if_pos (by omega), if_pos c2]
          · rw [if_neg (by omega), if_neg c2]
      rw [e, Int.mul_add]
      by_cases c : n = (i : Int) + j + s
      · rw [if_pos c, if_pos c]; omega
      · rw [if_neg c, if_neg c, Int.mul_zero]; omega
    by_cases c0 : m0 b (i : Int) * m0 b j = 0
    · rw [if_pos c0]
      refine ih (j + 1) m' (by omega) (by omega) f ip (fun n => ?_)
      rw [stp, c0]
      have := cq n
      split
      · rw [Int.add_zero]; exact this
      · rw [Int.add_zero]; exact this
    · rw [if_neg c0]
      have b4 := ip ((i : Int) + j + s) (by omega) (by omega)
      refine ⟨by omega, by constructor <;> omega, by constructor <;> omega, by omega, ?_⟩
      rintro _ rfl
      rw [tmod_pos (by omega)]
      refine ih (j + 1) _ (by omega) (by omega) (f.trans FA.up) (fun k k0 k1 => ?_) (fun n => ?_)
      · by_cases c : k = (i : Int) + j + s
        · rw [c, up_at]; exact emod_bd (by omega)
        · rw [up_neI c]; exact ip k k0 k1
      · rw [stp]
        have old := cq n
        by_cases c : n = (i : Int) + j + s
        · rw [if_pos c]
          have e1 : PA (up m' 388 ((i : Int) + j + s) ((m' 388 ((i : Int) + j + s) + m0 b (i : Int) * m0 b j) % p) 388) 14 n = (m' 388 n + m0 b (i : Int) * m0 b j) % p := by
            unfold PA
            rw [if_pos (by omega), c, up_at]
          have e2 : PA (m' 388) 14 n = m' 388 n := by unfold PA; rw [if_pos (by omega)]
          rw [e1]
          rw [e2] at old
          have d := dvd_emod (x := m' 388 n + m0 b (i : Int) * m0 b j) (p := p)
          have := Int.dvd_sub old d
          rw [show m' 388 n - pv (PA (m0 b) 7) s i j n - (m' 388 n + m0 b (i : Int) * m0 b j - (m' 388 n + m0 b (i : Int) * m0 b j) % p) = (m' 388 n + m0 b (i : Int) * m0 b j) % p - (pv (PA (m0 b) 7) s i j n + m0 b (i : Int) * m0 b j) by omega] at this
          exact this
        · rw [if_neg c, Int.add_zero]
          have e1 : PA (up m' 388 ((i : Int) + j + s) ((m' 388 ((i : Int) + j + s) + m0 b (i : Int) * m0 b j) % p) 388) 14 n = PA (m' 388) 14 n := by
            unfold PA
            by_cases c2 : 0 ≤ n ∧ n < 14
            · rw [if_pos c2, if_pos c2, up_neI c]
            · rw [if_neg c2, if_neg c2]
          rw [e1]
          exact old
theorem c_X6_square {m : MM} (hp : PRI p) (hp9 : p ≤ 9973) (hab : AR a b) (ha : m 376 19 = a) (hb : m 376 20 = b) (hs : s = 0 ∨ s = 1) (hh : 0 ≤ hi ∧ hi ≤ 6) (ia : InP p (m a) 7) (ib : InP p (m b) 7) (az : m a hi ≠ 0) (az2 : ∀ j, hi < j → j < 7 → m a j = 0) (he : 0 ≤ e) (rq : RQ p (PA (m a) 7) (PA (m b) 7) e) (fin : ∀ m', FN [388, b] m m' → InP p (m' b) 7 → (∀ j, hi ≤ j → j < 7 → m' b j = 0) → RQ p (PA (m a) 7) (PA (m' b) 7) (2 * e + s) → Q 0 m') : P_X6_square p hi s m Q := by
  obtain ⟨la, lb, nab, n388, n376⟩ := hab.ly
  have p2 := hp.1
  -- the end: what is left, as the row
  have l116 : ∀ m', FA 388 m m' → InP p (m' 388) 14 → ceq p (PA (m' 388) 14) (cvq (PA (m b) 7) s 7) → P_X6_square_116 Q p hi m' := by
    intro m' f ip cq
    have ha' : m' 376 19 = a := by rw [f _ _ (by decide)]; exact ha
    have fa : m' a = m a := funext (fun k => f _ _ n388.1)
    unfold P_X6_square_116
    rw [ha']
    refine c_X6_reduce (L := 14) hp hp9 ly_388 la n388.1.symm (by decide) hh (by decide) ip (by rw [fa]; exact ia) (by rw [fa]; exact az) (by rw [fa]; exact az2) (fun j j0 j1 => by have : j < 14 := j1; omega) (fun m2 f2 i2 z2 d2 => ?_)
    have hb' : m2 376 20 = b := by rw [f2 _ _ (by decide), f _ _ (by decide)]; exact hb
    rw [hb']
    refine ⟨⟨14, ly_388, by decide, by decide⟩, ⟨7, lb, by decide, by decide⟩, ?_⟩
    rintro _ rfl
    have ev : ∀ k, 0 ≤ k → k < 7 → cpm m2 388 0 b 0 7 b k = m2 388 k := by
      intro k k0 k1
      unfold cpm
      rw [if_pos ⟨rfl, by omega, by omega⟩]
      congr 1
      omega
    refine fin _ (fun c i hc => ?_) (fun k k0 k1 => by rw [ev k k0 k1]; exact i2 k k0 (by show k < 14; omega)) (fun j j0 j1 => by rw [ev j (by omega) j1]; exact z2 j j0 (by show j < 14; omega)) ?_
    · have c1 : c ≠ 388 := fun z => hc (by rw [z]; exact List.mem_cons_self ..)
      have c2 : c ≠ b := fun z => hc (by rw [z]; exact List.mem_cons_of_mem _ (List.mem_cons_self ..))
      unfold cpm
      rw [if_neg (fun z => c2 z.1), f2 _ _ c1, f _ _ c1]
    · rw [fa] at d2
      have r1 := RQ.sq (s := s) rq he (by omega) (fun n hn => by unfold PA; rw [if_neg hn])
      have r2 := r1.cong cq.symm
      have r3 := d2.rq r2
      refine r3.cong (fun n => ?_)
      have : PA (m2 388) ((14 : Nat) : Int) n = PA (cpm m2 388 0 b 0 7 b) 7 n := by
        unfold PA
        by_cases c : 0 ≤ n ∧ n < 7
        · rw [if_pos (show 0 ≤ n ∧ n < ((14 : Nat) : Int) by omega), if_pos c, ev n c.1 c.2]
        · rw [if_neg c]
          by_cases c2 : 0 ≤ n ∧ n < ((14 : Nat) : Int)
          · rw [if_pos c2]
            exact z2 n (by omega) c2.2
          · rw [if_neg c2]
      rw [this, Int.sub_self]
      exact Int.dvd_zero p
  have l27 : ∀ (n : Nat) (i : Nat) (m' : MM), i + n = 7 → FA 388 m m' → InP p (m' 388) 14 → ceq p (PA (m' 388) 14) (cvq (PA (m b) 7) s i) → P_X6_square_27 Q (n + 1) p hi s (i : Int) m' := by
    intro n
    induction n with
    | zero =>
      intro i m' i1 f ip cq
      refine ⟨by constructor <;> omega, ?_⟩
      rw [if_pos (by omega)]
      have : i = 7 := by omega
      subst this
      exact l116 m' f ip cq
    | succ n ih =>
      intro i m' i1 f ip cq
      refine ⟨by constructor <;> omega, ?_⟩
      rw [if_neg (by omega)]
      have fb : m' b = m b := funext (fun k => f _ _ n388.2)
      refine ⟨_, sqC_37 (m0 := m') ⟨p2, hp9⟩ hab hs (by omega) (by rw [f _ _ (by decide)]; exact hb) (by rw [fb]; exact ib) (fun m2 f2 i2 c2 => ?_) 7 0 m' (by decide) (by decide) (fun _ _ _ => rfl) ip (by rw [pv_0, fb]; exact cq)⟩
      rw [fb] at c2
      have := ih (i + 1) m2 (by omega) (f.trans f2) i2 c2
      rw [show ((i + 1 : Nat) : Int) = (i : Int) + 1 by omega] at this
      exact this
  have l3 : ∀ (n : Nat) (k : Int) (m' : MM), 0 ≤ k → k + n = 14 → FA 388 m m' → (∀ j, 0 ≤ j → j < k → m' 388 j = 0) → P_X6_square_3 Q (n + 1) p hi s k m' := by
    intro n
    induction n with
    | zero =>
      intro k m' k0 k1 f z
      refine ⟨by constructor <;> omega, ?_⟩
      rw [if_pos (by omega)]
      refine ⟨_, l27 7 0 m' rfl f (fun j j0 j1 => by rw [z j j0 (by omega)]; omega) (fun n => ?_)⟩
      have : PA (m' 388) 14 n = 0 := by
        unfold PA
        split
        case isTrue c => exact z n c.1 (by omega)
        case isFalse => rfl
      rw [this]
      exact Int.dvd_zero p
    | succ n ih =>
      intro k m' k0 k1 f z
      refine ⟨by constructor <;> omega, ?_⟩
      rw [if_neg (by omega)]
      refine ⟨by omega, ?_⟩
      rintro _ rfl
      refine ih (k + 1) _ (by omega) (by omega) (f.trans FA.up) (fun j j0 j1 => ?_)
      by_cases c : j = k
      · rw [c, up_at]
      · rw [up_neI c]; exact z j j0 (by omega)
  exact ⟨_, l3 14 0 m (by decide) (by decide) (fun _ _ _ => rfl) (fun j j0 j1 => by omega)⟩
end SQC
