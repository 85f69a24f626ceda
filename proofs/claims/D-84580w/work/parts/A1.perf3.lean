set_option maxRecDepth 100000
/-! the machine: conversions, matrices, truths -/
section PERF3
variable {Q : Int → MM → Prop} {a r r' b c d e s t mu mub ch : Int} {V W : VV} {l : List SV}
/-- the value on top becomes one of another ring -/
theorem top_conv {m m1 m2 : MM} {U : VV} {n : Int} (hst : stG m ((d, s, V) :: l)) (ar : AR (m 376 19) (m 376 20)) (ht : m 376 8 = (l.length : Int) + 1) (hl : l.length ≤ 1298) (he : 0 ≤ e ∧ e ≤ 2) (ht2 : 0 ≤ t ∧ t ≤ 3) (f : Fc (fun q => m 381 (l.length : Int) ≤ q ∧ q < m 381 (l.length : Int) + 882 ∨ 1155420 ≤ q ∧ q < 1156302) m m1) (v : VC (m1 379) (m 381 (l.length : Int)) e t U) (hm : m2 = up m1 381 ((l.length : Int) + 1) (m 381 (l.length : Int) + VS e t)) : FKm m m2 ∧ stG m2 ((e, t, U) :: l) ∧ m2 376 8 = (l.length : Int) + 1 ∧ m2 378 2 = m1 378 2 := by
  subst hm
  obtain ⟨h1, hd, hs, h4, h5⟩ := hst
  have at_ := stG_at h1
  have o : ∀ i, i ≠ (l.length : Int) + 1 → up m1 381 ((l.length : Int) + 1) (m 381 (l.length : Int) + VS e t) 381 i = m 381 i := fun i hi => by rw [up_neI hi]; exact f.oth (by decide) (by decide)
  have o9 : ∀ q, up m1 381 ((l.length : Int) + 1) (m 381 (l.length : Int) + VS e t) 379 q = m1 379 q := fun q => up_ne (fun z => absurd z.1 (by decide))
  refine ⟨⟨fun c i a1 a2 a3 a4 a5 a6 a7 => by rw [up_ne (fun z => a2 z.1)]; exact f.1 c i a1 a6, ?_⟩, ⟨?_, he, ht2, ?_, ?_⟩, ?_, up_ne (fun z => absurd z.1 (by decide))⟩
  · rw [up_ne (fun z => absurd z.1 (by decide)), up_ne (fun z => absurd z.1 (by decide)), f.oth (by decide) (by decide), f.oth (by decide) (by decide)]
    exact ar
  · exact h1.fr (fun q hq => by rw [o9]; exact f.2 q (by omega)) (fun i i0 i1 => o i (by omega))
  · rw [o _ (by omega)]
    intro i j hi hj k k0 k1
    rw [o9, o9]
    exact v i j hi hj k k0 k1
  · rw [up_at, o _ (by omega)]
  · rw [up_ne (fun z => absurd z.1 (by decide)), f.oth (by decide) (by decide)]
    exact ht
theorem c_pf_convert {m : MM} (hR : RG r b d s) (hR' : RG r' c e t) (hde : d ≤ e) (hst' : s = t ∨ s = 0) (hch : ch = if b = c then 0 else 1) (hst : stG m ((d, s, V) :: l)) (hl : l.length ≤ 1298) (ht : m 376 8 = (l.length : Int) + 1) (ar : AR (m 376 19) (m 376 20)) (hmu : muC m c = mu) (hM : MU mu) (n0 : ch = 0 → NN mu d s V) (n1 : ch ≠ 0 → NN 0 d s V) (h : ∀ m', FKm m m' → m' 378 2 = m 378 2 → stG m' ((e, t, goV ch mu s t V) :: l) → m' 376 8 = (l.length : Int) + 1 → Q 0 m') : P_X6_perform 6 r r' m Q := by
  obtain ⟨s0, vx, e1, bx, hd, hs⟩ := st1 hst hl
  have hRB : RB r' e t := Or.inl ⟨c, hR'⟩
  obtain ⟨he, ht2⟩ := hRB.bd
  unfold P_X6_perform
  simp only [Int.reduceEq, reduceIte]
  rw [ht, show (l.length : Int) + 1 - 1 = (l.length : Int) by omega]
  refine ⟨by decide, by omega, c_X8_turn hR hR' hde hst' hch hmu hM (by omega) vx n0 n1 (fun m1 f1 er1 v1 => ?_)⟩
  have t1 : m1 376 8 = (l.length : Int) + 1 := by rw [f1.oth (by decide) (by decide)]; exact ht
  have a1 : m1 381 (l.length : Int) = m 381 (l.length : Int) := f1.oth (by decide) (by decide)
  rw [t1, show (l.length : Int) + 1 - 1 = (l.length : Int) by omega, a1]
  refine ⟨by omega, c_cells hRB ⟨by omega, ?_⟩⟩
  intro m2 hm2
  obtain ⟨q1, q2, q3, q4⟩ := top_conv (n := 0) hst ar ht hl he ht2 f1 v1 hm2
  exact h m2 q1 (by rw [q4, er1]) q2 q3
theorem c_pf_back {m : MM} (hR : RG r b d s) (hR' : RG r' c e t) (hde : e ≤ d) (hst' : s = t ∨ t = 0) (hch : ch = if b = c then 0 else 1) (hst : stG m ((d, s, V) :: l)) (hl : l.length ≤ 1298) (ht : m 376 8 = (l.length : Int) + 1) (ar : AR (m 376 19) (m 376 20)) (he0 : m 378 2 = 0) (nV : NN mu d s V) (h : OutS m (backS ch mu e s t V) e t l Q) : P_X6_perform 7 r r' m Q := by
  obtain ⟨s0, vx, e1, bx, hd, hs⟩ := st1 hst hl
  have hRB : RB r' e t := Or.inl ⟨c, hR'⟩
  obtain ⟨he, ht2⟩ := hRB.bd
  unfold P_X6_perform
  simp only [Int.reduceEq, reduceIte]
  rw [ht, show (l.length : Int) + 1 - 1 = (l.length : Int) by omega]
  refine ⟨by decide, by omega, c_X8_back hR hR' hde hst' hch he0 (by omega) vx nV ⟨fun U m1 h1 f1 er1 v1 => ?_, fun z m1 h1 f1 er1 => ?_⟩⟩
  · have t1 : m1 376 8 = (l.length : Int) + 1 := by rw [f1.oth (by decide) (by decide)]; exact ht
    have a1 : m1 381 (l.length : Int) = m 381 (l.length : Int) := f1.oth (by decide) (by decide)
    show (0 ≤ m1 376 8 - 1 ∧ m1 376 8 - 1 < 1701) ∧ _
    rw [t1, show (l.length : Int) + 1 - 1 = (l.length : Int) by omega, a1]
    refine ⟨by omega, c_cells hRB ⟨by omega, ?_⟩⟩
    intro m2 hm2
    obtain ⟨q1, q2, q3, q4⟩ := top_conv (n := 0) hst ar ht hl he ht2 f1 v1 hm2
    exact h.1 U m2 h1 q1 (by rw [q4, er1]) q2 q3
  · have t1 : m1 376 8 = (l.length : Int) + 1 := by rw [f1.oth (by decide) (by decide)]; exact ht
    have a1 : m1 381 (l.length : Int) = m 381 (l.length : Int) := f1.oth (by decide) (by decide)
    show (0 ≤ m1 376 8 - 1 ∧ m1 376 8 - 1 < 1701) ∧ _
    rw [t1, show (l.length : Int) + 1 - 1 = (l.length : Int) by omega, a1]
    refine ⟨by omega, c_cells hRB ⟨by omega, ?_⟩⟩
    rintro m2 rfl
    refine h.2 z _ h1 ?_ (by rw [up_ne (fun z => absurd z.1 (by decide))]; exact er1)
    refine ⟨fun c i a1 a2 a3 a4 a5 a6 a7 => by rw [up_ne (fun z => a2 z.1)]; exact f1.1 c i a1 a6, ?_⟩
    rw [up_ne (fun z => absurd z.1 (by decide)), up_ne (fun z => absurd z.1 (by decide)), f1.oth (by decide) (by decide), f1.oth (by decide) (by decide)]
    exact ar
/-- not -/
theorem c_pf_not {m : MM} {v x3 : Int} (hv : v = 0 ∨ v = 1) (hst : stG m ((0, 0, numV v) :: l)) (hl : l.length ≤ 1298) (ht : m 376 8 = (l.length : Int) + 1) (ar : AR (m 376 19) (m 376 20)) (h : ∀ m', FKm m m' → m' 378 2 = m 378 2 → stG m' ((0, 0, numV (1 - v)) :: l) → m' 376 8 = (l.length : Int) + 1 → Q 0 m') : P_X6_perform 14 a x3 m Q := by
  obtain ⟨s0, vx, e1, bx, hd, hs⟩ := st1 hst hl
  have px := vx.row0 0 (by decide) (by decide)
  rw [show m 381 (l.length : Int) + 2 * 0 = m 381 (l.length : Int) by omega] at px
  unfold P_X6_perform
  simp only [Int.reduceEq, reduceIte]
  rw [ht, show (l.length : Int) + 1 - 1 = (l.length : Int) by omega, px.1]
  refine ⟨by decide, by omega, by omega, ?_⟩
  rintro _ rfl
  have fu : Fc (fun q => q = m 381 (l.length : Int)) m (up m 379 (m 381 (l.length : Int)) (1 - (numV v 0 0 0).1)) := Fc.ofUp rfl
  obtain ⟨q1, q2, q3⟩ := top_chg (U := numV (1 - v)) hst ar fu (fun q z => by omega) (VC_row (fun k k0 k1 => by
    rw [cof0] at k1
    have : k = 0 := by omega
    subst this
    rw [show m 381 (l.length : Int) + 2 * 0 = m 381 (l.length : Int) by omega, up_at, up_neI (by omega)]
    exact ⟨rfl, px.2⟩))
  exact h _ q1 (up_ne (fun z => absurd z.1 (by decide))) q2 (by rw [q3, ht])
/-! matrices: entries lie one behind another -/
def stkN (d : Int) (f : Nat → VV) : Nat → List SV → List SV
  | 0, l => l
  | n + 1, l => (d, 0, f n) :: stkN d f n l
theorem stkN_len {f : Nat → VV} : ∀ n : Nat, (stkN d f n l).length = l.length + n := by
  intro n
  induction n with
  | zero => rfl
  | succ n ih => show (stkN d f n l).length + 1 = _; rw [ih]; omega
theorem stkN_st {m : MM} {f : Nat → VV} (hd : 0 ≤ d ∧ d ≤ 2) : ∀ n : Nat, stG m (stkN d f n l) → stG m l ∧ m 381 ((l.length : Int) + n) = m 381 (l.length : Int) + 2 * cof d * n ∧ ∀ k : Nat, k < n → Rw (m 379) (m 381 (l.length : Int) + 2 * cof d * k) (f k 0 0) (cof d) := by
  have v0 : VS d 0 = 2 * cof d := by unfold VS enn; rw [if_pos rfl]; omega
  intro n
  induction n with
  | zero =>
    intro h
    refine ⟨h, ?_, fun k hk => by omega⟩
    show m 381 ((l.length : Int) + 0) = m 381 (l.length : Int) + 2 * cof d * 0
    rw [Int.add_zero, Int.mul_zero, Int.add_zero]
  | succ n ih =>
    intro h
    obtain ⟨h1, -, hs, h4, h5⟩ := h
    obtain ⟨i1, i2, i3⟩ := ih h1
    rw [stkN_len] at h4 h5
    rw [show ((l.length + n : Nat) : Int) = (l.length : Int) + n by omega] at h4 h5
    refine ⟨i1, ?_, fun k hk => ?_⟩
    · rw [show (l.length : Int) + ((n + 1 : Nat) : Int) = (l.length : Int) + n + 1 by omega, h5, i2, v0, show ((n + 1 : Nat) : Int) = (n : Int) + 1 by omega, Int.mul_add, Int.mul_one]
      omega
    · by_cases c : k = n
      · subst c
        have := h4.row0
        rw [i2] at this
        exact this
      · exact i3 k (by omega)
def matV (s : Int) (f : Nat → VV) : VV := fun i j => if (0 ≤ i ∧ i < rws s) ∧ (0 ≤ j ∧ j < rws s) then f (s * i + j).toNat 0 0 else zr
theorem c_pf_matrix {m : MM} {f : Nat → VV} {x3 : Int} (hR : RG r b d s) (hs1 : 1 ≤ s) (hst : stG m (stkN d f (enn s).toNat l)) (hl : l.length ≤ 1289) (ht : m 376 8 = (l.length : Int) + enn s) (ar : AR (m 376 19) (m 376 20)) (h : ∀ m', FKm m m' → m' 378 2 = m 378 2 → stG m' ((d, s, matV s f) :: l) → m' 376 8 = (l.length : Int) + 1 → Q 0 m') : P_X6_perform 27 r x3 m Q := by
  obtain ⟨-, hb, hd, hs⟩ := id hR
  have ec := enn_cs hs
  have eN : (((enn s).toNat : Nat) : Int) = enn s := by omega
  obtain ⟨s0, i2, i3⟩ := stkN_st hd _ hst
  rw [eN] at i2
  have v2 : VS d s = 2 * cof d * enn s := rfl
  unfold P_X6_perform
  simp only [Int.reduceEq, reduceIte]
  refine ⟨by decide, c_entries hR ?_⟩
  rw [ht, show (l.length : Int) + enn s - enn s = (l.length : Int) by omega]
  refine ⟨by omega, by omega, ?_⟩
  rintro _ rfl
  have e8 : up m 376 8 ((l.length : Int) + 1) 376 8 = (l.length : Int) + 1 := up_at ..
  rw [e8]
  refine ⟨by omega, ?_⟩
  rintro _ rfl
  have o1 : ∀ i, i ≠ (l.length : Int) + 1 → up (up m 376 8 ((l.length : Int) + 1)) 381 ((l.length : Int) + 1) (m 381 ((l.length : Int) + enn s)) 381 i = m 381 i := fun i hi => by rw [up_neI hi, up_ne (fun z => absurd z.1 (by decide))]
  have o9 : ∀ q, up (up m 376 8 ((l.length : Int) + 1)) 381 ((l.length : Int) + 1) (m 381 ((l.length : Int) + enn s)) 379 q = m 379 q := fun q => by rw [up_ne (fun z => absurd z.1 (by decide)), up_ne (fun z => absurd z.1 (by decide))]
  refine h _ ⟨fun c i a1 a2 a3 a4 a5 a6 a7 => by rw [up_ne (fun z => a2 z.1), up_ne (fun z => a7 ⟨z.1, Or.inl z.2⟩)], ?_⟩ (by rw [up_ne (fun z => absurd z.1 (by decide)), up_ne (fun z => absurd z.1 (by decide))]) ⟨s0.fr (fun q hq => o9 q) (fun i i0 i1 => o1 i (by omega)), hd, hs, ?_, ?_⟩ (by rw [up_ne (fun z => absurd z.1 (by decide))]; exact e8)
  · rw [up_ne (fun z => absurd z.1 (by decide)), up_neI (by decide), up_ne (fun z => absurd z.1 (by decide)), up_neI (by decide)]
    exact ar
  · rw [o1 _ (by omega)]
    intro i j hi hj
    have ix : 0 ≤ s * i + j ∧ s * i + j < enn s := by
      rcases ec with ⟨a1, a2, a3⟩ | ⟨a1, a2, a3⟩ | ⟨a1, a2, a3⟩ | ⟨a1, a2, a3⟩ <;> rw [a3] at hi hj <;> rw [a2] <;> subst a1 <;> omega
    have row := i3 (s * i + j).toNat (by omega)
    rw [show (((s * i + j).toNat : Nat) : Int) = s * i + j by omega] at row
    intro k k0 k1
    rw [o9, o9]
    have ev : matV s f i j = f (s * i + j).toNat 0 0 := by
      unfold matV
      rw [if_pos ⟨hi, hj⟩]
    rw [ev]
    exact row k k0 k1
  · rw [up_at, o1 _ (by omega), i2]
    rfl
end PERF3
