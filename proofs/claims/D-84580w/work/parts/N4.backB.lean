set_option maxRecDepth 100000
/-! the component: going back from B to B -/
section BACKB
variable {Q : Int → MM → Prop} {m m0 : MM} {x3 : Int}
theorem dp_B : iAnd (iShr (-2) 2) 3 = 3 := by rw [iShr2 (by decide), iAnd3]; decide
theorem sz_B : iAnd (-2) 3 = 2 := by rw [iAnd3]; decide
theorem c_coefB (h : Q 49 m) : P_X11_coefficients (-2) m Q := by
  unfold P_X11_coefficients P_X11_depth
  rw [dp_B]
  refine ⟨by decide, ?_⟩
  rw [if_neg (by decide)]
  refine ⟨by decide, ?_⟩
  rw [if_neg (by decide)]
  exact h
theorem c_entrB (h : Q 4 m) : P_X11_entries (-2) m Q := by
  unfold P_X11_entries P_X11_size
  rw [sz_B]
  refine ⟨by decide, ?_⟩
  rw [if_neg (by decide)]
  exact h
theorem c_back43B (hx : 0 ≤ x3 ∧ x3 + 392 ≤ 1155420) (k : P_X8_back_227 Q (-2) (-2) x3 49 49 m) : ∀ (j : Nat) (i : Int), (j : Int) + i = 4 → 0 ≤ i → ∀ r, j ≤ r → P_X8_back_43 Q (r + 1) (-2) (-2) x3 49 4 49 2 0 i m := by
  intro j
  induction j with
  | zero =>
    intro i hi i0 r hr
    unfold P_X8_back_43
    refine ⟨by constructor <;> omega, by decide, ?_⟩
    rw [if_pos (by omega)]
    exact k
  | succ j ih =>
    intro i hi i0 r hr
    obtain ⟨r, rfl⟩ : ∃ r', r = r' + 1 := ⟨r - 1, by omega⟩
    unfold P_X8_back_43
    refine ⟨by constructor <;> omega, by decide, ?_⟩
    rw [if_neg (by omega)]
    simp only [reduceIte]
    refine ⟨⟨by decide, trivial⟩, by decide, ?_⟩
    refine c_X8_isClear (n := 0) (u := zr) (by omega) (by show x3 + 2 * 49 * i + 2 * 49 + 2 * 0 ≤ 1159540; omega) (fun k a b => by exfalso; have b : k < 0 := b; omega) (fun k a b => by exfalso; have b : k < 0 := b; omega) ?_
    refine ⟨1, ?_⟩
    unfold P_X8_back_120
    refine ⟨by decide, ?_⟩
    rw [if_neg (by decide)]
    refine ⟨by decide, ?_⟩
    rw [if_pos rfl]
    unfold P_X8_back_211
    refine ⟨by decide, ?_⟩
    rw [if_neg (by decide)]
    exact ih (i + 1) (by omega) (by omega) r (by omega)
theorem c_back244B (hx : 0 ≤ x3 ∧ x3 + 392 ≤ 1155420) (k : ∀ m', Fc (fun q => 1155420 ≤ q ∧ q < 1155812) m0 m' → m' 378 2 = m0 378 2 → (∀ q, 0 ≤ q → q < 392 → m' 379 (1155420 + q) = m0 379 (x3 + q)) → P_X8_back_282 Q (-2) (-2) x3 49 4 m') : ∀ (j : Nat) (i : Int) (m : MM), (j : Int) + i = 4 → 0 ≤ i → Fc (fun q => 1155420 ≤ q ∧ q < 1155812) m0 m → m 378 2 = m0 378 2 → (∀ q, 0 ≤ q → q < 98 * i → m 379 (1155420 + q) = m0 379 (x3 + q)) → ∀ r, j ≤ r → P_X8_back_244 Q (r + 1) (-2) (-2) x3 49 49 4 i m := by
  intro j
  induction j with
  | zero =>
    intro i m hi i0 f e c r hr
    unfold P_X8_back_244
    refine ⟨by constructor <;> omega, by decide, ?_⟩
    rw [if_pos (by omega)]
    exact k m f e (fun q q0 q1 => c q q0 (by omega))
  | succ j ih =>
    intro i m hi i0 f e c r hr
    obtain ⟨r, rfl⟩ : ∃ r', r = r' + 1 := ⟨r - 1, by omega⟩
    unfold P_X8_back_244
    refine ⟨by constructor <;> omega, by decide, ?_⟩
    rw [if_neg (by omega)]
    refine c_X8_copy (by decide) (by omega) (by omega) (fun m' f' e' c' => ?_)
    refine ih (i + 1) m' (by omega) (by omega) (f.trans (f'.mono (fun q hq => by omega))) (e'.trans e) (fun q q0 q1 => ?_) r (by omega)
    by_cases cc : q < 98 * i
    · rw [f'.2 _ (by omega)]; exact c q q0 cc
    · have := c' (q - 98 * i) (by omega) (by omega)
      rw [show 1155420 + 2 * 49 * i + (q - 98 * i) = 1155420 + q by omega, show x3 + 2 * 49 * i + (q - 98 * i) = x3 + q by omega] at this
      rw [this]
      exact f.2 _ (by omega)
theorem c_X8_backB (he : m 378 2 = 0) (hx : 0 ≤ x3 ∧ x3 + 392 ≤ 1155420) (h : ∀ m', Fc (fun q => 1155420 ≤ q ∧ q < 1155812) m m' → m' 378 2 = m 378 2 → Q 0 m') : P_X8_back (-2) (-2) x3 m Q := by
  unfold P_X8_back
  refine c_coefB (c_entrB (c_coefB ?_))
  unfold P_X11_size
  rw [sz_B]
  refine ⟨by decide, by decide, ?_⟩
  rw [if_pos rfl]
  refine ⟨5, c_back43B hx ?_ 4 0 rfl (by decide) 4 (Nat.le_refl _)⟩
  unfold P_X8_back_227
  rw [he]
  refine ⟨by decide, ?_⟩
  rw [if_pos rfl]
  refine c_entrB ⟨5, c_back244B (m0 := m) hx (fun m1 f1 e1 c1 => ?_) 4 0 m rfl (by decide) (Fc.refl m) rfl (fun q a b => by omega) 4 (Nat.le_refl _)⟩
  unfold P_X8_back_282
  refine c_X8_copy (by decide) (by decide) (by omega) (fun m2 f2 e2 c2 => ?_)
  unfold P_X11_base
  refine ⟨by rw [iShr4 (by decide)]; decide, by rw [iShr4 (by decide)]; decide, ?_⟩
  rw [if_pos rfl]
  refine h m2 ⟨fun c i a b => (f2.1 c i a b).trans (f1.1 c i a b), fun i hi => ?_⟩ (e2.trans e1)
  by_cases c : x3 ≤ i ∧ i < x3 + 392
  · have q := c2 (i - x3) (by omega) (by omega)
    rw [show x3 + (i - x3) = i by omega] at q
    rw [q]
    have q1 := c1 (i - x3) (by omega) (by omega)
    rw [show x3 + (i - x3) = i by omega] at q1
    exact q1
  · rw [f2.2 i (by omega), f1.2 i hi]
theorem okB_B {mu mv : Int} {V : VV} (h : NN mv 0 0 V) : okB 0 mu 0 0 0 V := by
  refine ⟨fun z => absurd rfl z, fun i j k hi hj hk => ?_, fun _ z => absurd rfl z⟩
  rw [cof0] at hk
  exact h.2 i j k (by rw [cof0]; omega)
theorem VC_back {g : Int → Int} {x d s : Int} {V : VV} (h : VC g x d s V) : VC g x d s (backV s s V) := by
  intro i j hi hj k k0 k1
  have e : backV s s V i j k = V i j k := by
    unfold backV
    rw [if_pos k0, if_pos rfl]
  rw [e]
  exact h i j hi hj k k0 k1
/-- the machine's step -/
theorem backB {l : List SV} {V : VV} {x z : R3} {mo : Int} (hx : ok3 x) (hz : ok3 z) (hg : gs z x) (hst : stG m ((x.2.1, x.2.2, V) :: l)) (hl : l.length ≤ 1298) (ht : m 376 8 = (l.length : Int) + 1) (ar : AR (m 376 19) (m 376 20)) (he0 : m 378 2 = 0) (nV : VR mo x V) (h : OutS m (backS (if x.1 = z.1 then 0 else 1) (muR x.1 mo) z.2.1 x.2.2 z.2.2 V) z.2.1 z.2.2 l Q) : P_X6_perform 7 (encC x) (encC z) m Q := by
  have g := gs_vals hz hx hg
  by_cases cb : x.1 = -2
  · have e := g.2.2.2.2 cb
    subst e
    have e2 : z = (-2, 0, 0) := by
      rcases hz with q | q
      · exact Prod.ext q.1 (Prod.ext q.2.1 q.2.2)
      · have := q.1; omega
    subst e2
    obtain ⟨s0, vx, e1, bx, hd, hs⟩ := st1 hst hl
    have eE : encC (-2, 0, 0) = -2 := rfl
    rw [eE]
    have hRB : RB (-2) 0 0 := .inr ⟨rfl, rfl, rfl⟩
    unfold P_X6_perform
    simp only [Int.reduceEq, reduceIte]
    rw [ht, show (l.length : Int) + 1 - 1 = (l.length : Int) by omega]
    refine ⟨by decide, by omega, c_X8_backB he0 (by omega) (fun m1 f1 er1 => ?_)⟩
    have t1 : m1 376 8 = (l.length : Int) + 1 := by rw [f1.oth (by decide) (by decide)]; exact ht
    have a1 : m1 381 (l.length : Int) = m 381 (l.length : Int) := f1.oth (by decide) (by decide)
    show (0 ≤ m1 376 8 - 1 ∧ m1 376 8 - 1 < 1701) ∧ _
    rw [t1, show (l.length : Int) + 1 - 1 = (l.length : Int) by omega, a1]
    refine ⟨by omega, c_cells hRB ⟨by omega, ?_⟩⟩
    intro m2 hm2
    have v1 : VC (m1 379) (m 381 (l.length : Int)) 0 0 (backV 0 0 V) := VC_back (vx.fr hd hs f1 (fun q q0 q1 => by have : VS 0 0 = 2 := rfl; rw [this] at q1; omega))
    obtain ⟨q1, q2, q3, q4⟩ := top_conv (n := 0) hst ar ht hl hd hs (f1.mono (fun q hq => Or.inr (by omega))) v1 hm2
    have := h.1 (backV 0 0 V) m2 (by rw [if_pos rfl]; exact backS_ok (okB_B nV.1)) q1 (by rw [q4, er1]; exact he0) q2 q3
    exact this
  · have zb : z.1 ≠ -2 := fun q => cb (by rw [← g.2.2.2.1 q]; exact q)
    exact c_pf_back (encC_RG hx cb) (encC_RG hz zb) g.2.1 (by rcases g.2.2.1 with e | e; exact .inl e.symm; exact .inr e) rfl hst hl ht ar he0 nV.1 h
end BACKB
