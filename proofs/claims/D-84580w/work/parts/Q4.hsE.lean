set_option maxRecDepth 100000
/-! both houses: the tape is fed -/
theorem i2B_mod (z : Int) : i2B z % 256 = z % 256 ∧ -128 ≤ i2B z ∧ i2B z ≤ 127 := by
  have e : i2B z = (z.bmod (2 ^ 32)).bmod (2 ^ 8) := by
    unfold i2B
    rw [Int8.toInt_toInt32, Int32.toInt_toInt8, Int32.toInt_ofInt]
  have e2 : (z.bmod (2 ^ 32)).bmod (2 ^ 8) = z.bmod 256 := Int.bmod_bmod_of_dvd (by decide)
  rw [e, e2]
  have h1 : z.bmod 256 % 256 = z % 256 := Int.bmod_emod
  have h2 := Int.le_bmod (x := z) (m := 256) (by decide)
  have h3 := Int.bmod_lt (x := z) (m := 256) (by decide)
  omega
section HSE
variable {Q : Int → Int → MM → Prop} {Q1 : Int → MM → Prop} {m m' m1 : MM} {F : Int → FnR} {n nr nv sz x w p : Int} {rR vR : Int → R3} {resV varV : Int → VV} {vN tx : Int → Int} {A : HA} {x1 x2 x3 x4 x5 : Int}
def sl5 (x1 x2 x3 x4 x5 k : Int) : Int := if 4 ≤ k then (if 8 ≤ k then (if 12 ≤ k then (if 16 ≤ k then x5 else x4 : Int) else x3 : Int) else x2 : Int) else x1
theorem c_feed18 (h0 : 0 ≤ sz) (h1 : sz + 20 ≤ 400) (K : ∀ m', m' 1 1 = sz + 20 → (∀ k, 0 ≤ k → k < 20 → m' 2 (sz + k) = i2B (iShr (sl5 x1 x2 x3 x4 x5 k) (24 - (8 * (Int.tmod k 4))))) → (∀ c i, ¬ (c = 1 ∧ i = 1) → ¬ (c = 2 ∧ sz ≤ i ∧ i < sz + 20) → m' c i = m c i) → Q1 (sz + 20) m') : ∀ (r : Nat) (k : Int) (m1 : MM), k + (r : Int) = 20 → 0 ≤ k → m1 1 1 = sz → (∀ j, 0 ≤ j → j < k → m1 2 (sz + j) = i2B (iShr (sl5 x1 x2 x3 x4 x5 j) (24 - (8 * (Int.tmod j 4))))) → (∀ c i, ¬ (c = 2 ∧ sz ≤ i ∧ i < sz + 20) → m1 c i = m c i) → P_X0_feed_18 Q1 (r + 1) x1 x2 x3 x4 x5 k m1 := by
  intro r
  induction r with
  | zero =>
    intro k m1 e k0 e1 v f
    have e : k = 20 := by omega
    subst e
    unfold P_X0_feed_18
    refine ⟨by decide, ?_⟩
    rw [if_pos (by decide)]
    intro m2 e2
    have a : m2 1 1 = sz + 20 := by rw [e2, up_at, e1]
    rw [a]
    refine K m2 a (fun j j0 j1 => by rw [e2, up_ne (by omega)]; exact v j j0 j1) (fun c i z1 z2 => by rw [e2, up_ne z1]; exact f c i z2)
  | succ r ih =>
    intro k m1 e k0 e1 v f
    unfold P_X0_feed_18
    refine ⟨by constructor <;> omega, ?_⟩
    rw [if_neg (by omega), e1]
    refine ⟨by omega, (i2B_mod _).2, fun m2 e2 => ?_⟩
    refine ih (k + 1) m2 (by omega) (by omega) (by rw [e2, up_ne (by omega)]; exact e1) (fun j j0 j1 => ?_) (fun c i z => by rw [e2, up_ne (by omega)]; exact f c i z)
    by_cases q : j = k
    · subst q
      rw [e2, up_at]; rfl
    · rw [e2, up_ne (by omega)]; exact v j j0 (by omega)
theorem c_lay (h : m 582 4 = p) (p0 : 0 ≤ p) (p1 : p + 4 ≤ 400) (K : ∀ m', m' 582 4 = p + 4 → (∀ j, 0 ≤ j → j < 4 → m' 585 (p + j) = iAnd (iShr x (24 - 8 * j)) 255) → (∀ c i, ¬ (c = 582 ∧ i = 4) → ¬ (c = 585 ∧ p ≤ i ∧ i < p + 4) → m' c i = m c i) → Q1 0 m') : P_X10_lay x m Q1 := by
  have lp : ∀ (r : Nat) (j : Int) (m1 : MM), j + (r : Int) = 4 → 0 ≤ j → m1 582 4 = p + j → (∀ i, 0 ≤ i → i < j → m1 585 (p + i) = iAnd (iShr x (24 - 8 * i)) 255) → (∀ c i, ¬ (c = 582 ∧ i = 4) → ¬ (c = 585 ∧ p ≤ i ∧ i < p + 4) → m1 c i = m c i) → P_X10_lay_3 Q1 (r + 1) x (24 - 8 * j) m1 := by
    intro r
    induction r with
    | zero =>
      intro j m1 e j0 e1 v f
      have e : j = 4 := by omega
      subst e
      unfold P_X10_lay_3
      refine ⟨by decide, ?_⟩
      rw [if_pos (by decide)]
      exact K m1 e1 v f
    | succ r ih =>
      intro j m1 e j0 e1 v f
      unfold P_X10_lay_3
      refine ⟨by constructor <;> omega, ?_⟩
      rw [if_neg (by omega), e1]
      refine ⟨by omega, fun m2 e2 m3 e3 => ?_⟩
      rw [show 24 - 8 * j + (-8) = 24 - 8 * (j + 1) by omega]
      have f2 : m2 582 4 = p + j := by rw [e2, up_ne (by omega)]; exact e1
      refine ih (j + 1) m3 (by omega) (by omega) (by rw [e3, up_at, f2]; omega) (fun i i0 i1 => ?_) (fun c i z1 z2 => by rw [e3, up_ne z1, e2, up_ne (by omega)]; exact f c i z1 z2)
      rw [e3, up_ne (by omega)]
      by_cases q : i = j
      · subst q; rw [e2, up_at]
      · rw [e2, up_ne (by omega)]; exact v i i0 (by omega)
  unfold P_X10_lay
  exact ⟨_, lp 4 0 m (by decide) (by decide) (by rw [h]; omega) (fun i i0 i1 => by omega) (fun _ _ _ _ => rfl)⟩
theorem sl5_4 {k : Int} (h0 : 0 ≤ k) (h1 : k < 20) : (k < 4 → sl5 x1 x2 x3 x4 x5 k = x1) ∧ (4 ≤ k → k < 8 → sl5 x1 x2 x3 x4 x5 k = x2) ∧ (8 ≤ k → k < 12 → sl5 x1 x2 x3 x4 x5 k = x3) ∧ (12 ≤ k → k < 16 → sl5 x1 x2 x3 x4 x5 k = x4) ∧ (16 ≤ k → sl5 x1 x2 x3 x4 x5 k = x5) := by
  unfold sl5
  refine ⟨fun a => ?_, fun a b => ?_, fun a b => ?_, fun a b => ?_, fun a => ?_⟩
  · rw [if_neg (by omega)]
  · rw [if_pos a, if_neg (by omega)]
  · rw [if_pos (by omega), if_pos a, if_neg (by omega)]
  · rw [if_pos (by omega), if_pos (by omega), if_pos a, if_neg (by omega)]
  · rw [if_pos (by omega), if_pos (by omega), if_pos (by omega), if_pos a]
theorem c_feedM (h : m 582 4 = sz) (h0 : 0 ≤ sz) (h1 : sz + 20 ≤ 400) (K : ∀ m', m' 582 4 = sz + 20 → (∀ k, 0 ≤ k → k < 20 → m' 585 (sz + k) = iAnd (iShr (sl5 x1 x2 x3 x4 x5 k) (24 - (8 * (Int.tmod k 4)))) 255) → (∀ c i, ¬ (c = 582 ∧ i = 4) → ¬ (c = 585 ∧ sz ≤ i ∧ i < sz + 20) → m' c i = m c i) → Q1 (sz + 20) m') : P_X10_feed x1 x2 x3 x4 x5 m Q1 := by
  unfold P_X10_feed
  rw [h]
  refine ⟨by constructor <;> omega, ?_⟩
  rw [if_pos h1]
  refine c_lay h h0 (by omega) (fun m1 a1 v1 f1 => ?_)
  refine c_lay a1 (by omega) (by omega) (fun m2 a2 v2 f2 => ?_)
  refine c_lay a2 (by omega) (by omega) (fun m3 a3 v3 f3 => ?_)
  refine c_lay a3 (by omega) (by omega) (fun m4 a4 v4 f4 => ?_)
  refine c_lay a4 (by omega) (by omega) (fun m5 a5 v5 f5 => ?_)
  have a5' : m5 582 4 = sz + 20 := by rw [a5]; omega
  rw [a5']
  refine K m5 a5' (fun k k0 k1 => ?_) (fun c i z1 z2 => by rw [f5 c i z1 (by omega), f4 c i z1 (by omega), f3 c i z1 (by omega), f2 c i z1 (by omega), f1 c i z1 (by omega)])
  obtain ⟨q1, q2, q3, q4, q5⟩ := sl5_4 (x1 := x1) (x2 := x2) (x3 := x3) (x4 := x4) (x5 := x5) k0 k1
  rw [Int.tmod_eq_emod_of_nonneg k0]
  by_cases c1 : k < 4
  · rw [q1 c1, f5 _ _ (by omega) (by omega), f4 _ _ (by omega) (by omega), f3 _ _ (by omega) (by omega), f2 _ _ (by omega) (by omega), v1 k k0 c1, show k % 4 = k by omega]
  by_cases c2 : k < 8
  · rw [q2 (by omega) c2, f5 _ _ (by omega) (by omega), f4 _ _ (by omega) (by omega), f3 _ _ (by omega) (by omega), show sz + k = sz + 4 + (k - 4) by omega, v2 (k - 4) (by omega) (by omega), show k % 4 = k - 4 by omega]
  by_cases c3 : k < 12
  · rw [q3 (by omega) c3, f5 _ _ (by omega) (by omega), f4 _ _ (by omega) (by omega), show sz + k = sz + 4 + 4 + (k - 8) by omega, v3 (k - 8) (by omega) (by omega), show k % 4 = k - 8 by omega]
  by_cases c4 : k < 16
  · rw [q4 (by omega) c4, f5 _ _ (by omega) (by omega), show sz + k = sz + 4 + 4 + 4 + (k - 12) by omega, v4 (k - 12) (by omega) (by omega), show k % 4 = k - 12 by omega]
  · rw [q5 (by omega), show sz + k = sz + 4 + 4 + 4 + 4 + (k - 16) by omega, v5 (k - 16) (by omega) (by omega), show k % 4 = k - 16 by omega]
theorem h_feed (H : Hs m F n nr rR resV nv vN vR varV A tx sz) (K : ∀ r m', RI r → HsI m' → Q r r m') : P_X0_feed x1 x2 x3 x4 x5 m (fun r1 m1 => P_X10_feed x1 x2 x3 x4 x5 m1 (fun r2 m2 => Q r1 r2 m2)) := by
  have H0 := H
  obtain ⟨hC, hM, ⟨⟨s1, s2, s3⟩, t, t0, t1, t2, t3, t4, t5⟩, hB⟩ := H
  unfold P_X0_feed
  rw [s1]
  refine ⟨by constructor <;> omega, ?_⟩
  by_cases c : sz + 20 ≤ 400
  case neg =>
    rw [if_neg c]
    show P_X10_feed x1 x2 x3 x4 x5 m _
    unfold P_X10_feed
    rw [s2]
    refine ⟨by constructor <;> omega, ?_⟩
    rw [if_neg c]
    exact K _ _ (by decide) ⟨_, _, _, _, _, _, _, _, _, _, _, _, H0⟩
  rw [if_pos c]
  refine ⟨21, c_feed18 s3.1 c (fun m1 a1 v1 f1 => ?_) 20 0 m (by decide) (by decide) s1 (fun j j0 j1 => by omega) (fun _ _ _ => rfl)⟩
  refine c_feedM (by rw [f1 _ _ (by omega) (by omega)]; exact s2) s3.1 c (fun m2 a2 v2 f2 => ?_)
  have g : ∀ c i, ¬ (c = 1 ∧ i = 1) → ¬ (c = 2 ∧ sz ≤ i ∧ i < sz + 20) → ¬ (c = 582 ∧ i = 4) → ¬ (c = 585 ∧ sz ≤ i ∧ i < sz + 20) → m2 c i = m c i := fun c i z1 z2 z3 z4 => by rw [f2 c i z3 z4, f1 c i z1 z2]
  have hn := hC.1.2.2.2.2.2.1.1
  refine K _ _ (by constructor <;> omega) ⟨F, n, nr, rR, resV, nv, vN, vR, varV, A, (fun i => if i < sz then tx i else iAnd (iShr (sl5 x1 x2 x3 x4 x5 (i - sz)) (24 - (8 * (Int.tmod (i - sz) 4)))) 255), sz + 20, hC.hf (FhC.of (fun c i z => g c i (by omega) (by omega) (by omega) (by omega)) hn.2), hM.hf hB.1.1 (FhM.of (fun c i z => g c i (by omega) (by omega) (by omega) (by omega))), ⟨⟨by rw [f2 _ _ (by omega) (by omega)]; exact a1, a2, by omega⟩, fun i i0 i1 => ?_, ?_⟩, hB⟩
  · by_cases q : i < sz
    · show iAnd (m2 2 i) 255 = (if i < sz then _ else _) ∧ m2 585 i = (if i < sz then _ else _) ∧ (0 ≤ (if i < sz then _ else _) ∧ (if i < sz then _ else _) ≤ 255) ∧ _
      rw [if_pos q, g 2 i (by omega) (by omega) (by omega) (by omega), g 585 i (by omega) (by omega) (by omega) (by omega)]
      exact t i i0 q
    · show iAnd (m2 2 i) 255 = (if i < sz then _ else _) ∧ m2 585 i = (if i < sz then _ else _) ∧ (0 ≤ (if i < sz then _ else _) ∧ (if i < sz then _ else _) ≤ 255) ∧ _
      have w2 := v2 (i - sz) (by omega) (by omega)
      have w1 := v1 (i - sz) (by omega) (by omega)
      rw [show sz + (i - sz) = i by omega] at w1 w2
      rw [if_neg q, w2, f2 2 i (by omega) (by omega), w1, iAnd255, iAnd255]
      have := i2B_mod (iShr (sl5 x1 x2 x3 x4 x5 (i - sz)) (24 - (8 * (Int.tmod (i - sz) 4))))
      exact ⟨this.1, rfl, by omega, this.2⟩
  · rw [g 582 10 (by omega) (by omega) (by omega) (by omega), g 582 11 (by omega) (by omega) (by omega) (by omega), g 582 90 (by omega) (by omega) (by omega) (by omega), g 582 92 (by omega) (by omega) (by omega) (by omega), g 582 84 (by omega) (by omega) (by omega) (by omega), g 582 111 (by omega) (by omega) (by omega) (by omega), g 1 9 (by omega) (by omega) (by omega) (by omega), g 1 10 (by omega) (by omega) (by omega) (by omega), g 1 11 (by omega) (by omega) (by omega) (by omega), g 1 12 (by omega) (by omega) (by omega) (by omega), g 1 13 (by omega) (by omega) (by omega) (by omega), g 1 14 (by omega) (by omega) (by omega) (by omega)]
    exact ⟨t0, t1, t2, t3, t4, t5⟩
end HSE
