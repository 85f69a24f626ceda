set_option maxRecDepth 100000
/-! the machine: new values, conversions, matrices -/
section PERF2
variable {Q : Int → MM → Prop} {a r r' b c d e s t mu ch : Int} {V W : VV} {l : List SV}
theorem c_push {m : MM} {n : Int} (hst : stG m l) (hl : l.length ≤ 1298) (ht : m 376 8 = (l.length : Int)) (k : ∀ m1, (∀ c i, ¬ (c = 376 ∧ i = 8) → ¬ (c = 381 ∧ i = (l.length : Int) + 1) → m1 c i = m c i) → m1 376 8 = (l.length : Int) + 1 → m1 381 ((l.length : Int) + 1) = m 381 (l.length : Int) + n → Q (m 381 (l.length : Int)) m1) : P_X6_push n m Q := by
  unfold P_X6_push
  rw [ht]
  refine ⟨by omega, ?_⟩
  rintro _ rfl
  have e8 : up m 376 8 ((l.length : Int) + 1) 376 8 = (l.length : Int) + 1 := up_at ..
  rw [e8]
  refine ⟨by omega, ?_⟩
  rintro _ rfl
  exact k _ (fun c i h1 h2 => by rw [up_ne h2, up_ne h1]) (by rw [up_ne (fun z => absurd z.1 (by decide))]; exact e8) (up_at ..)
/-- a value was laid behind the others -/
theorem push_fin {m m' : MM} (hst : stG m l) (hd : 0 ≤ d ∧ d ≤ 2) (hs : 0 ≤ s ∧ s ≤ 3) (hm : ∀ c i, c ≠ 379 → ¬ (c = 376 ∧ i = 8) → ¬ (c = 381 ∧ i = (l.length : Int) + 1) → m' c i = m c i) (low : ∀ q, q < m 381 (l.length : Int) → m' 379 q = m 379 q) (h1 : m' 381 ((l.length : Int) + 1) = m 381 (l.length : Int) + VS d s) (v : VC (m' 379) (m 381 (l.length : Int)) d s V) (ar : AR (m 376 19) (m 376 20)) : FKm m m' ∧ stG m' ((d, s, V) :: l) := by
  have o : ∀ i, i ≠ (l.length : Int) + 1 → m' 381 i = m 381 i := fun i hi => hm 381 i (by decide) (fun z => absurd z.1 (by decide)) (fun z => hi z.2)
  refine ⟨⟨fun c i a1 a2 a3 a4 a5 a6 a7 => hm c i a1 (fun z => a7 ⟨z.1, Or.inl z.2⟩) (fun z => a2 z.1), ?_⟩, ?_⟩
  · rw [hm 376 19 (by decide) (by decide) (fun z => absurd z.1 (by decide)), hm 376 20 (by decide) (by decide) (fun z => absurd z.1 (by decide))]
    exact ar
  · refine ⟨hst.fr low (fun i i0 i1 => o i (by omega)), hd, hs, ?_, ?_⟩
    · rw [o _ (by omega)]; exact v
    · rw [h1, o _ (by omega)]
/-- a number -/
theorem c_pf_number {m : MM} (hst : stG m l) (hl : l.length ≤ 1298) (ht : m 376 8 = (l.length : Int)) (ar : AR (m 376 19) (m 376 20)) (h : ∀ m', FKm m m' → m' 378 2 = m 378 2 → stG m' ((0, 0, numV a) :: l) → m' 376 8 = (l.length : Int) + 1 → Q 0 m') : P_X6_perform 1 a 0 m Q := by
  have at_ := stG_at hst
  unfold P_X6_perform
  simp only [Int.reduceEq, reduceIte]
  refine ⟨by decide, c_push hst hl ht (fun m1 o1 t1 e1 => ⟨by omega, ?_⟩)⟩
  rintro _ rfl
  refine ⟨by omega, ?_⟩
  rintro _ rfl
  have v00 : VS 0 0 = 2 := by decide
  generalize hx : m 381 (l.length : Int) = x at *
  have fin := push_fin (m := m) (m' := up (up m1 379 x a) 379 (x + 1) 1) (d := 0) (s := 0) (V := numV a) hst (by decide) (by decide) (fun c i c1 c2 c3 => by rw [up_ne (fun z => c1 z.1), up_ne (fun z => c1 z.1)]; exact o1 c i c2 c3) (fun q hq => by rw [hx] at hq; rw [up_neI (by omega), up_neI (by omega)]; exact o1 379 q (fun z => absurd z.1 (by decide)) (fun z => absurd z.1 (by decide))) (by rw [up_ne (fun z => absurd z.1 (by decide)), up_ne (fun z => absurd z.1 (by decide)), e1, hx, v00]) (by
    rw [hx]
    refine VC_row (fun k k0 k1 => ?_)
    rw [cof0] at k1
    have : k = 0 := by omega
    subst this
    rw [show x + 2 * 0 = x by omega, up_neI (by omega), up_at, up_at]
    exact ⟨rfl, rfl⟩) ar
  refine h _ fin.1 ?_ fin.2 ?_
  · rw [up_ne (fun z => absurd z.1 (by decide)), up_ne (fun z => absurd z.1 (by decide))]
    exact o1 378 2 (fun z => absurd z.1 (by decide)) (fun z => absurd z.1 (by decide))
  · rw [up_ne (fun z => absurd z.1 (by decide)), up_ne (fun z => absurd z.1 (by decide))]
    exact t1
/-- an unknown -/
def unkR (j : Int) : Int → PP := setP zr j (1, 1)
theorem c_pf_unknown {m : MM} (ha : a = 1 ∨ a = 2) (hst : stG m l) (hl : l.length ≤ 1298) (ht : m 376 8 = (l.length : Int)) (ar : AR (m 376 19) (m 376 20)) (h : ∀ m', FKm m m' → m' 378 2 = m 378 2 → stG m' ((a, 0, rvv (unkR (if a = 1 then 1 else 7))) :: l) → m' 376 8 = (l.length : Int) + 1 → Q 0 m') : P_X6_perform 2 a 0 m Q := by
  have at_ := stG_at hst
  have hN : (if a = 1 then (7 : Int) else 49) = cof a := by rcases ha with z | z <;> subst z <;> rfl
  have hv : VS a 0 = 2 * cof a := by unfold VS enn; rw [if_pos rfl]; omega
  have hc : cof a = 7 ∧ a = 1 ∨ cof a = 49 ∧ a = 2 := by rcases ha with z | z <;> subst z; exact Or.inl ⟨rfl, rfl⟩; exact Or.inr ⟨rfl, rfl⟩
  unfold P_X6_perform
  simp only [Int.reduceEq, reduceIte]
  rw [hN]
  refine ⟨by decide, by constructor <;> omega, c_push hst hl ht (fun m1 o1 t1 e1 => ?_)⟩
  have hcN : ((cof a).toNat : Int) = cof a := by omega
  rw [← hcN]
  refine c_X8_clear (by omega) (by omega) (fun m2 f2 er2 r2 => ?_)
  rw [hcN] at f2 r2
  generalize hx : m 381 (l.length : Int) = x at *
  have go : ∀ j : Int, j = (if a = 1 then 1 else 7) → 0 ≤ j → j < cof a → ∀ m3 : MM, m3 = up m2 379 (x + 2 * j) 1 → Q 0 m3 := by
    rintro j hj j0 j1 _ rfl
    have row : Rw (up m2 379 (x + 2 * j) 1 379) x (unkR j) (cof a) := by
      intro k k0 k1
      have o := r2 k k0 k1
      unfold unkR
      by_cases ck : k = j
      · subst ck
        rw [setP_at, up_at, up_neI (by omega)]
        exact ⟨rfl, o.2⟩
      · rw [setP_ne ck, up_neI (by omega), up_neI (by omega)]
        exact o
    have fin := push_fin (m := m) (m' := up m2 379 (x + 2 * j) 1) (d := a) (s := 0) (V := rvv (unkR j)) hst (by omega) (by decide) (fun c i c1 c2 c3 => by
        rw [up_ne (fun z => c1 z.1)]
        by_cases z : c = 378 ∧ i = 2
        · rw [z.1, z.2, er2]
          exact o1 378 2 (fun z => absurd z.1 (by decide)) (fun z => absurd z.1 (by decide))
        · rw [f2.1 c i c1 z]; exact o1 c i c2 c3) (fun q hq => by rw [hx] at hq; rw [up_neI (by omega), f2.2 q (by omega)]; exact o1 379 q (fun z => absurd z.1 (by decide)) (fun z => absurd z.1 (by decide))) (by rw [up_ne (fun z => absurd z.1 (by decide)), f2.oth (by decide) (by decide), e1, hx, hv]) (by rw [hx]; exact VC_row row) ar
    rw [hj] at fin
    refine h _ (by rw [hj]; exact fin.1) ?_ (by rw [hj]; exact fin.2) ?_
    · rw [up_ne (fun z => absurd z.1 (by decide)), er2]
      exact o1 378 2 (fun z => absurd z.1 (by decide)) (fun z => absurd z.1 (by decide))
    · rw [up_ne (fun z => absurd z.1 (by decide)), f2.oth (by decide) (by decide)]
      exact t1
  refine ⟨by constructor <;> omega, ?_⟩
  by_cases c1 : a = 1
  · rw [if_pos c1]
    exact ⟨by omega, fun m3 e3 => go 1 (by rw [if_pos c1]) (by decide) (by omega) m3 e3⟩
  · rw [if_neg c1]
    exact ⟨by omega, fun m3 e3 => go 7 (by rw [if_neg c1]) (by decide) (by omega) m3 e3⟩
/-- copies from another array, or from the stack itself -/
theorem cpm_in {m : MM} {a s b d n j : Int} (h0 : d ≤ j) (h1 : j < d + n) : cpm m a s b d n b j = m a (s + (j - d)) := by
  unfold cpm
  rw [if_pos ⟨rfl, h0, h1⟩]
theorem cpm_out {m : MM} {a s b d n c j : Int} (h : ¬ (c = b ∧ d ≤ j ∧ j < d + n)) : cpm m a s b d n c j = m c j := by
  unfold cpm
  rw [if_neg h]
theorem VC.cpm {m : MM} {A x y : Int} (hd : 0 ≤ d ∧ d ≤ 2) (hs : 0 ≤ s ∧ s ≤ 3) (h : VC (m A) x d s V) : VC (cpm m A x 379 y (VS d s) 379) y d s V := by
  intro i j hi hj k k0 k1
  have bd := EA_bd hd hs hi hj
  have o := h i j hi hj k k0 k1
  rw [cpm_in (by omega) (by omega), cpm_in (by omega) (by omega), show x + (y + EA d s i j + 2 * k - y) = x + EA d s i j + 2 * k by omega, show x + (y + EA d s i j + 2 * k + 1 - y) = x + EA d s i j + 2 * k + 1 by omega]
  exact o
/-- a value is copied behind the others -/
theorem push_cpy {m m1 : MM} {A x : Int} (hst : stG m l) (hR : RB r d s) (ar : AR (m 376 19) (m 376 20)) (o1 : ∀ c i, ¬ (c = 376 ∧ i = 8) → ¬ (c = 381 ∧ i = (l.length : Int) + 1) → m1 c i = m c i) (t1 : m1 376 8 = (l.length : Int) + 1) (e1 : m1 381 ((l.length : Int) + 1) = m 381 (l.length : Int) + VS d s) (v : VC (m A) x d s V) (hA : A ≠ 376 ∧ A ≠ 381) (h : ∀ m', FKm m m' → m' 378 2 = m 378 2 → stG m' ((d, s, V) :: l) → m' 376 8 = (l.length : Int) + 1 → Q 0 m') : ∀ m2 : MM, m2 = cpm m1 A x 379 (m 381 (l.length : Int)) (VS d s) → Q 0 m2 := by
  rintro _ rfl
  obtain ⟨hd, hs⟩ := hR.bd
  have mA : m1 A = m A := funext (fun i => o1 A i (fun z => hA.1 z.1) (fun z => hA.2 z.1))
  have n379 : ∀ c i, c ≠ 379 → cpm m1 A x 379 (m 381 (l.length : Int)) (VS d s) c i = m1 c i := fun c i hc => cpm_out (fun z => hc z.1)
  have fin := push_fin (m := m) (m' := cpm m1 A x 379 (m 381 (l.length : Int)) (VS d s)) (d := d) (s := s) (V := V) hst hd hs (fun c i c1 c2 c3 => by rw [n379 c i c1]; exact o1 c i c2 c3) (fun q hq => by rw [cpm_out (by omega)]; exact o1 379 q (fun z => absurd z.1 (by decide)) (fun z => absurd z.1 (by decide))) (by rw [n379 _ _ (by decide)]; exact e1) (VC.cpm hd hs (by rw [mA]; exact v)) ar
  refine h _ fin.1 ?_ fin.2 ?_
  · rw [n379 _ _ (by decide)]
    exact o1 378 2 (fun z => absurd z.1 (by decide)) (fun z => absurd z.1 (by decide))
  · rw [n379 _ _ (by decide)]
    exact t1
/-- a result, a variable -/
theorem c_pf_result {m : MM} {k : Int} (hR : RB r d s) (hk : 0 ≤ k ∧ k < 200) (hst : stG m l) (hl : l.length ≤ 1298) (ht : m 376 8 = (l.length : Int)) (ar : AR (m 376 19) (m 376 20)) (h17 : m 376 17 = 374) (v : VC (m 374) (882 * k) d s V) (h : ∀ m', FKm m m' → m' 378 2 = m 378 2 → stG m' ((d, s, V) :: l) → m' 376 8 = (l.length : Int) + 1 → Q 0 m') : P_X6_perform 3 k r m Q := by
  have at_ := stG_at hst
  obtain ⟨hd, hs⟩ := hR.bd
  have vb := VS_bd hd hs
  unfold P_X6_perform
  simp only [Int.reduceEq, reduceIte]
  refine ⟨by decide, c_cells hR (c_push hst hl ht (fun m1 o1 t1 e1 => ⟨by rw [o1 376 17 (by decide) (fun z => absurd z.1 (by decide))]; exact h17, c_cells hR ⟨by omega, ⟨176400, ly_374, by omega, by show 882 * k + VS d s ≤ 176400; omega⟩, ⟨1159540, ly_379, by omega, by show m 381 (l.length : Int) + VS d s ≤ 1159540; omega⟩, push_cpy hst hR ar o1 t1 e1 v (by decide) h⟩⟩))⟩
theorem c_pf_variable {m : MM} {k : Int} (hR : RB r d s) (hk : 0 ≤ k ∧ k < 20) (hst : stG m l) (hl : l.length ≤ 1298) (ht : m 376 8 = (l.length : Int)) (ar : AR (m 376 19) (m 376 20)) (h18 : m 376 18 = 375) (v : VC (m 375) (882 * k) d s V) (h : ∀ m', FKm m m' → m' 378 2 = m 378 2 → stG m' ((d, s, V) :: l) → m' 376 8 = (l.length : Int) + 1 → Q 0 m') : P_X6_perform 4 k r m Q := by
  have at_ := stG_at hst
  obtain ⟨hd, hs⟩ := hR.bd
  have vb := VS_bd hd hs
  unfold P_X6_perform
  simp only [Int.reduceEq, reduceIte]
  refine ⟨by decide, c_cells hR (c_push hst hl ht (fun m1 o1 t1 e1 => ⟨by rw [o1 376 18 (by decide) (fun z => absurd z.1 (by decide))]; exact h18, c_cells hR ⟨by omega, ⟨17640, ly_375, by omega, by show 882 * k + VS d s ≤ 17640; omega⟩, ⟨1159540, ly_379, by omega, by show m 381 (l.length : Int) + VS d s ≤ 1159540; omega⟩, push_cpy hst hR ar o1 t1 e1 v (by decide) h⟩⟩))⟩
theorem stG_nth {m : MM} : ∀ {pre suf : List SV}, stG m (pre ++ (d, s, V) :: suf) → VC (m 379) (m 381 (suf.length : Int)) d s V ∧ 0 ≤ m 381 (suf.length : Int) ∧ m 381 (suf.length : Int) ≤ 882 * (suf.length : Int) := by
  intro pre
  induction pre with
  | nil => intro suf h; exact ⟨h.2.2.2.1, stG_at h.1⟩
  | cons x pre ih => intro suf h; obtain ⟨dx, sx, Vx⟩ := x; exact ih h.1
/-- a parameter -/
theorem c_pf_param {m : MM} {k fb : Int} {pre suf : List SV} (hR : RB r d s) (hst : stG m l) (hl : l.length ≤ 1298) (ht : m 376 8 = (l.length : Int)) (ar : AR (m 376 19) (m 376 20)) (hfr : 1 ≤ m 376 13 ∧ m 376 13 ≤ 21) (hfb : m 384 (m 376 13 - 1) = fb) (hsuf : fb + k = (suf.length : Int)) (hlist : l = pre ++ (d, s, V) :: suf) (h : ∀ m', FKm m m' → m' 378 2 = m 378 2 → stG m' ((d, s, V) :: l) → m' 376 8 = (l.length : Int) + 1 → Q 0 m') : P_X6_perform 5 k r m Q := by
  have at_ := stG_at hst
  obtain ⟨hd, hs⟩ := hR.bd
  have vb := VS_bd hd hs
  have hn := hst
  rw [hlist] at hn
  obtain ⟨v, b0, b1⟩ := stG_nth hn
  have hlen : (suf.length : Int) < (l.length : Int) := by
    rw [hlist, List.length_append, List.length_cons]
    omega
  unfold P_X6_perform
  simp only [Int.reduceEq, reduceIte]
  refine ⟨by decide, c_cells hR (c_push hst hl ht (fun m1 o1 t1 e1 => ?_))⟩
  have e13 : m1 376 13 = m 376 13 := o1 376 13 (by decide) (fun z => absurd z.1 (by decide))
  have e384 : m1 384 (m 376 13 - 1) = fb := by rw [o1 384 _ (fun z => absurd z.1 (by decide)) (fun z => absurd z.1 (by decide))]; exact hfb
  rw [e13, e384, hsuf]
  have e381 : m1 381 (suf.length : Int) = m 381 (suf.length : Int) := o1 381 _ (fun z => absurd z.1 (by decide)) (fun z => by omega)
  rw [e381]
  refine ⟨by omega, by omega, c_cells hR ⟨by omega, ⟨1159540, ly_379, by omega, by show m 381 (suf.length : Int) + VS d s ≤ 1159540; omega⟩, ⟨1159540, ly_379, by omega, by show m 381 (l.length : Int) + VS d s ≤ 1159540; omega⟩, push_cpy hst hR ar o1 t1 e1 v (by decide) h⟩⟩
end PERF2
