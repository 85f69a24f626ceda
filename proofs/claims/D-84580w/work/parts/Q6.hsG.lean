set_option maxRecDepth 100000
/-! both houses: a result is kept -/
def upF {α : Type} (f : Int → α) (k : Int) (v : α) : Int → α := fun i => if i = k then v else f i
theorem upF_at {α : Type} {f : Int → α} {k : Int} {v : α} : upF f k v k = v := by unfold upF; rw [if_pos rfl]
theorem upF_ne {α : Type} {f : Int → α} {k i : Int} {v : α} (h : i ≠ k) : upF f k v i = f i := by unfold upF; rw [if_neg h]
/-- the number of a variable that is told -/
def vK (vN : Int → Int) (w nv : Int) : Int := (fstI vN w nv.toNat 0).getD nv
def nK (vN : Int → Int) (w nv : Int) : Int := if fstI vN w nv.toNat 0 = none then nv + 1 else nv
theorem vK_cs {vN : Int → Int} {w nv : Int} (h0 : 0 ≤ nv) : (fstI vN w nv.toNat 0 = none ∧ encP (fstI vN w nv.toNat 0) = -1 ∧ vK vN w nv = nv ∧ nK vN w nv = nv + 1) ∨ (fstI vN w nv.toNat 0 ≠ none ∧ encP (fstI vN w nv.toNat 0) = vK vN w nv ∧ (0 ≤ vK vN w nv ∧ vK vN w nv < nv) ∧ nK vN w nv = nv ∧ vN (vK vN w nv) = w) := by
  unfold vK nK
  generalize h : fstI vN w nv.toNat 0 = o
  cases o with
  | none => exact .inl ⟨rfl, rfl, rfl, by rw [if_pos rfl]⟩
  | some j =>
    obtain ⟨b1, b2, b3⟩ := fstI_bd _ _ _ h
    exact .inr ⟨(fun z => (by cases z)), rfl, ⟨(by show 0 ≤ j; omega), (by show j < nv; omega)⟩, (by rw [if_neg (fun z => (by cases z))]), b3⟩
section HSG
variable {Q : Int → MM → Prop} {m m' m1 : MM} {F : Int → FnR} {n nr nv sz w b k : Int} {rR vR : Int → R3} {resV varV : Int → VV} {vN tx : Int → Int} {A : HA} {x : R3} {V : VV}
theorem VC.cpT {g : Int → Int} {y d s : Int} (hd : 0 ≤ d ∧ d ≤ 2) (hs : 0 ≤ s ∧ s ≤ 3) (h : VC g 0 d s V) {g' : Int → Int} (e : ∀ j, 0 ≤ j → j < VS d s → g' (y + j) = g j) : VC g' y d s V := by
  intro i j hi hj q q0 q1
  have bd := EA_bd hd hs hi hj
  have o := h i j hi hj q q0 q1
  rw [Int.zero_add] at o
  rw [show y + EA d s i j + 2 * q = y + (EA d s i j + 2 * q) by omega, show y + (EA d s i j + 2 * q) + 1 = y + (EA d s i j + 2 * q + 1) by omega, e _ (by omega) (by omega), e _ (by omega) (by omega)]
  exact o
theorem VC.eqT {g g' : Int → Int} {y d s : Int} (hd : 0 ≤ d ∧ d ≤ 2) (hs : 0 ≤ s ∧ s ≤ 3) (h : VC g y d s V) (e : ∀ j, y ≤ j → j < y + 882 → g' j = g j) : VC g' y d s V := by
  intro i j hi hj q q0 q1
  have bd := EA_bd hd hs hi hj
  have vb := VS_bd hd hs
  have o := h i j hi hj q q0 q1
  rw [e _ (by omega) (by omega), e _ (by omega) (by omega)]
  exact o
/-- one value more in a row of values -/
theorem VC.upd {g g' : Int → Int} {rR : Int → R3} {resV : Int → VV} {c k : Int} (h : ∀ j, 0 ≤ j → j < c → ok3 (rR j) ∧ VC g (882 * j) (rR j).2.1 (rR j).2.2 (resV j)) (hk : 0 ≤ k) (o : VC g' (882 * k) x.2.1 x.2.2 V) (e : ∀ j, ¬ (882 * k ≤ j ∧ j < 882 * k + 882) → g' j = g j) : ∀ j, 0 ≤ j → (j < c ∨ j = k) → VC g' (882 * j) (upF rR k x j).2.1 (upF rR k x j).2.2 (upF resV k V j) := by
  intro j j0 j1
  by_cases z : j = k
  · subst z
    rw [upF_at, upF_at]; exact o
  · rw [upF_ne z, upF_ne z]
    obtain ⟨h1, h2⟩ := h j j0 (by omega)
    have ds := ok3_ds h1
    exact h2.eqT ds.1 ds.2 (fun q q0 q1 => e q (by omega))
theorem c_keepC (H : HsC m F n nr rR resV nv vN vR varV) (tb : isTx b) (hv : VC (m 379) 0 x.2.1 x.2.2 V) (hx : ok3 x) (hnr : nr < 200) (fl01 : m b 1 = 0 ∨ m b 1 = 1) (hw : m b 1 = 1 → m b 16 = w ∧ RL w ∧ (fstI vN w nv.toNat 0 = none → nv < 20))
    (K0 : m b 1 = 0 → ∀ m', HsC m' F n (nr + 1) (upF rR nr x) (upF resV nr V) nv vN vR varV → m' 1 14 = nr → (∀ c i, ¬ (c = 1 ∧ i = 14) → ¬ (c = 3 ∧ (i = 2 ∨ i = 3)) → ¬ (5 ≤ c ∧ c ≤ 7) → ¬ (374 ≤ c ∧ c ≤ 375) → m' c i = m c i) → Q 0 m')
    (K1 : m b 1 = 1 → ∀ m', HsC m' F n (nr + 1) (upF rR nr x) (upF resV nr V) (nK vN w nv) (upF vN (vK vN w nv) w) (upF vR (vK vN w nv) x) (upF varV (vK vN w nv) V) → m' 1 14 = nr → (∀ c i, ¬ (c = 1 ∧ i = 14) → ¬ (c = 3 ∧ (i = 2 ∨ i = 3)) → ¬ (5 ≤ c ∧ c ≤ 7) → ¬ (374 ≤ c ∧ c ≤ 375) → m' c i = m c i) → Q 0 m') : P_X0_keep b (encC x) m Q := by
  obtain ⟨hI, h31, ⟨⟨r1, r2, r3⟩, s1, s2, s3⟩, v1, v2⟩ := H
  have hn := hI.2.2.2.2.2.1.1
  have tb2 := tx_b2 tb
  obtain ⟨hd, hs⟩ := ok3_ds hx
  have vb := VS_bd hd hs
  unfold P_X0_keep
  refine c_cells (encC_RB hx) ?_
  rw [r1]
  refine ⟨by omega, inR379 (by decide) (by omega), ⟨176400, ly_374, by omega, by omega⟩, fun m2 e2 => ?_⟩
  have f2 : ∀ c i, ¬ (c = 374 ∧ 882 * nr ≤ i ∧ i < 882 * nr + VS x.2.1 x.2.2) → m2 c i = m c i := fun c i z => by rw [e2, cpm_out z]
  have a2 : m2 3 3 = nr := by rw [f2 _ _ (by omega)]; exact r1
  rw [a2]
  refine ⟨by omega, fun m3 e3 => ?_⟩
  have a3 : m3 3 3 = nr := by rw [e3, up_ne (by omega)]; exact a2
  rw [a3]
  intro m4 e4
  have a4 : m4 3 3 = nr := by rw [e4, up_ne (by omega)]; exact a3
  rw [a4]
  intro m5 e5
  have f5 : ∀ c i, ¬ (c = 374 ∧ 882 * nr ≤ i ∧ i < 882 * nr + VS x.2.1 x.2.2) → ¬ (c = 7 ∧ i = nr) → ¬ (c = 1 ∧ i = 14) → ¬ (c = 3 ∧ i = 3) → m5 c i = m c i := fun c i z1 z2 z3 z4 => by rw [e5, up_ne z4, e4, up_ne z3, e3, up_ne z2, f2 c i z1]
  have b14 : m5 1 14 = nr := by rw [e5, up_ne (by omega), e4, up_at]
  have b33 : m5 3 3 = nr + 1 := by rw [e5, up_at]
  have b7 : m5 7 nr = encC x := by rw [e5, up_ne (by omega), e4, up_ne (by omega), e3, up_at]
  have b374 : ∀ j, 0 ≤ j → j < VS x.2.1 x.2.2 → m5 374 (882 * nr + j) = m 379 j := fun j j0 j1 => by
    rw [e5, up_ne (by omega), e4, up_ne (by omega), e3, up_ne (by omega), e2, cpm_in (by omega) (by omega), show 0 + (882 * nr + j - 882 * nr) = j by omega]
  have w374 : ∀ j, 0 ≤ j → j < nr + 1 → VC (m5 374) (882 * j) (upF rR nr x j).2.1 (upF rR nr x j).2.2 (upF resV nr V j) := fun j j0 j1 => VC.upd (c := nr) (fun i i0 i1 => ⟨(r3 i i0 i1).2, v1 i i0 i1⟩) r2.1 (hv.cpT hd hs b374) (fun i z => f5 _ _ (by omega) (by omega) (by omega) (by omega)) j j0 (by omega)
  have rs : ∀ k, 0 ≤ k → k < nr + 1 → m5 7 k = encC (upF rR nr x k) ∧ ok3 (upF rR nr x k) := fun k k0 k1 => by
    by_cases z : k = nr
    · subst z; rw [upF_at, b7]; exact ⟨rfl, hx⟩
    · rw [upF_ne z, f5 _ _ (by omega) (by omega) (by omega) (by omega)]; exact r3 k k0 (by omega)
  have bo : BkO m5 F n := hI.2.2.2.2.2.1.tf (fun k c i k0 k1 a1 a2 _ => f5 c i (by omega) (by omega) (by omega) (by omega))
  have hI5 : MsI m5 F n [] := hI.hf (fun c i z => f5 c i (by omega) (by omega) (by omega) (by omega)) bo
  have g1 : m5 b 1 = m b 1 := f5 _ _ (by omega) (by omega) (by omega) (by omega)
  have g16 : m5 b 16 = m b 16 := f5 _ _ (by omega) (by omega) (by omega) (by omega)
  have fin5 : ∀ m6 : MM, (∀ c i, ¬ (c = 3 ∧ i = 2) → ¬ (5 ≤ c ∧ c ≤ 6) → ¬ (c = 375) → m6 c i = m5 c i) → MsI m6 F n [] ∧ m6 3 1 = n ∧ (∀ j, 0 ≤ j → j < nr + 1 → VC (m6 374) (882 * j) (upF rR nr x j).2.1 (upF rR nr x j).2.2 (upF resV nr V j)) ∧ (m6 3 3 = nr + 1 ∧ (0 ≤ nr + 1 ∧ nr + 1 ≤ 200) ∧ ∀ k, 0 ≤ k → k < nr + 1 → m6 7 k = encC (upF rR nr x k) ∧ ok3 (upF rR nr x k)) := by
    intro m6 f6
    refine ⟨hI5.hf (fun c i z => f6 c i (by omega) (by omega) (by omega)) (bo.tf (fun k c i k0 k1 a1 a2 _ => f6 c i (by omega) (by omega) (by omega))), ?_, ?_, ?_, by omega, fun k k0 k1 => ?_⟩
    · rw [f6 _ _ (by omega) (by omega) (by omega), f5 _ _ (by omega) (by omega) (by omega) (by omega)]; exact h31
    · rw [show m6 374 = m5 374 from funext (fun i => f6 _ _ (by omega) (by omega) (by omega))]; exact w374
    · rw [f6 _ _ (by omega) (by omega) (by omega)]; exact b33
    · rw [f6 _ _ (by omega) (by omega) (by omega)]; exact rs k k0 k1
  refine ⟨tb, by rw [g1]; constructor <;> omega, ?_⟩
  rw [g1]
  rcases fl01 with fl | fl
  · rw [if_neg (by omega)]
    obtain ⟨q1, q2, q3, q4⟩ := fin5 m5 (fun _ _ _ _ _ => rfl)
    refine K0 fl m5 ⟨q1, q2, ⟨q4, ?_⟩, q3, ?_⟩ b14 (fun c i z1 z2 z3 z4 => f5 c i (by omega) (by omega) (by omega) (by omega))
    · exact ⟨by rw [f5 _ _ (by omega) (by omega) (by omega) (by omega)]; exact s1, s2, fun k k0 k1 => by rw [f5 5 k (by omega) (by omega) (by omega) (by omega), f5 6 k (by omega) (by omega) (by omega) (by omega)]; exact s3 k k0 k1⟩
    · rw [show m5 375 = m 375 from funext (fun i => f5 _ _ (by omega) (by omega) (by omega) (by omega))]; exact v2
  rw [if_pos fl, g16]
  obtain ⟨w1, w2, w3⟩ := hw fl
  rw [w1]
  refine c_variableC (nv := nv) (vN := vN) (by rw [f5 _ _ (by omega) (by omega) (by omega) (by omega)]; exact s1) s2 (fun k k0 k1 => by rw [f5 _ _ (by omega) (by omega) (by omega) (by omega)]; exact ⟨(s3 k k0 k1).1, (s3 k k0 k1).2.2.2⟩) w2 ?_
  have fin : ∀ m6 : MM, 0 ≤ vK vN w nv → vK vN w nv < 20 → (vK vN w nv = nv ∧ nK vN w nv = nv + 1 ∨ vK vN w nv < nv ∧ nK vN w nv = nv) → (∀ c i, ¬ (c = 3 ∧ i = 2) → ¬ (c = 5 ∧ i = vK vN w nv) → m6 c i = m5 c i) → m6 3 2 = nK vN w nv → m6 5 (vK vN w nv) = w → P_X0_keep_136 Q (encC x) (VS x.2.1 x.2.2) (vK vN w nv) m6 := by
    intro m6 k0 k1 kk f6 n6 w6
    generalize hk : vK vN w nv = kv at *
    generalize hk2 : nK vN w nv = nn at *
    unfold P_X0_keep_136
    refine ⟨by omega, inR379 (by decide) (by omega), ⟨17640, ly_375, by omega, by omega⟩, fun m7 e7 => ⟨⟨k0, k1⟩, fun m8 e8 => ?_⟩⟩
    have f8 : ∀ c i, ¬ (c = 375 ∧ 882 * kv ≤ i ∧ i < 882 * kv + VS x.2.1 x.2.2) → ¬ (c = 6 ∧ i = kv) → m8 c i = m6 c i := fun c i z1 z2 => by rw [e8, up_ne z2, e7, cpm_out z1]
    have c375 : ∀ j, 0 ≤ j → j < VS x.2.1 x.2.2 → m8 375 (882 * kv + j) = m 379 j := fun j j0 j1 => by
      rw [e8, up_ne (by omega), e7, cpm_in (by omega) (by omega), show 0 + (882 * kv + j - 882 * kv) = j by omega, f6 _ _ (by omega) (by omega), f5 _ _ (by omega) (by omega) (by omega) (by omega)]
    obtain ⟨q1, q2, q3, q4⟩ := fin5 m8 (fun c i z1 z2 z3 => by rw [f8 c i (by omega) (by omega)]; exact f6 c i (by omega) (by omega))
    refine K1 fl m8 ⟨q1, q2, ⟨q4, by rw [f8 _ _ (by omega) (by omega)]; exact n6, by omega, fun i i0 i1 => ?_⟩, q3, fun i i0 i1 => ?_⟩ (by rw [f8 _ _ (by omega) (by omega), f6 _ _ (by omega) (by omega)]; exact b14) (fun c i z1 z2 z3 z4 => by rw [f8 c i (by omega) (by omega), f6 c i (by omega) (by omega)]; exact f5 c i (by omega) (by omega) (by omega) (by omega))
    · by_cases z : i = kv
      · subst z
        rw [upF_at, upF_at, f8 5 _ (by omega) (by omega), e8, up_at]
        exact ⟨w6, rfl, hx, w2⟩
      · rw [upF_ne z, upF_ne z, f8 5 _ (by omega) (by omega), f8 6 _ (by omega) (by omega), f6 5 _ (by omega) (by omega), f6 6 _ (by omega) (by omega), f5 5 _ (by omega) (by omega) (by omega) (by omega), f5 6 _ (by omega) (by omega) (by omega) (by omega)]
        exact s3 i i0 (by omega)
    · exact VC.upd (c := nv) (g := m 375) (fun j j0 j1 => ⟨(s3 j j0 j1).2.2.1, v2 j j0 j1⟩) k0 (hv.cpT hd hs c375) (fun j z => by rw [f8 _ _ (by omega) (by omega), f6 _ _ (by omega) (by omega)]; exact f5 _ _ (by omega) (by omega) (by omega) (by omega)) i i0 (by omega)
  rcases vK_cs (vN := vN) (w := w) s2.1 with ⟨o1, o2, o3, o4⟩ | ⟨o1, o2, o3, o4, o5⟩
  · rw [o2]
    have lt := w3 o1
    have c32 : m5 3 2 = nv := by rw [f5 _ _ (by omega) (by omega) (by omega) (by omega)]; exact s1
    refine ⟨by decide, ?_⟩
    rw [if_pos rfl, c32, g16, w1]
    refine ⟨by omega, fun m6 e6 m7 e7 => ?_⟩
    have k := fin m7 (by omega) (by omega) (.inl ⟨o3, o4⟩) (fun c i z1 z2 => by rw [e7, up_ne z1, e6, up_ne (by rw [o3] at z2; exact z2)]) (by rw [e7, up_at, e6, up_ne (by omega), c32, o4]) (by rw [o3, e7, up_ne (by omega), e6, up_at])
    rw [o3] at k
    exact k
  · rw [o2]
    refine ⟨by constructor <;> omega, ?_⟩
    rw [if_neg (by omega)]
    exact fin m5 o3.1 (by omega) (.inr ⟨o3.2, o4⟩) (fun _ _ _ _ => rfl) (by rw [f5 _ _ (by omega) (by omega) (by omega) (by omega), s1, o4]) (by rw [f5 _ _ (by omega) (by omega) (by omega) (by omega), (s3 _ o3.1 o3.2).1, o5])
end HSG
