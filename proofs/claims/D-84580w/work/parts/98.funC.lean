set_option maxRecDepth 100000
/-! the machine: built-in functions -/
def okR (e : EX (Int → PP)) : EX VV := match e with
  | .error z => .error z
  | .ok w => .ok (rvv w)
section FUN
variable {Q : Int → MM → Prop} {a r b br da sa d s mu mub ch : Int} {V W : VV} {l : List SV}
theorem st1 {m : MM} (h : stG m ((d, s, V) :: l)) (hl : l.length ≤ 1298) : stG m l ∧ VC (m 379) (m 381 (l.length : Int)) d s V ∧ m 381 ((l.length : Int) + 1) = m 381 (l.length : Int) + VS d s ∧ (0 ≤ m 381 (l.length : Int) ∧ m 381 (l.length : Int) + 1764 ≤ 1155420) ∧ (0 ≤ d ∧ d ≤ 2) ∧ (0 ≤ s ∧ s ≤ 3) := by
  obtain ⟨h1, hd, hs, h4, h5⟩ := h
  have a := stG_at h1
  exact ⟨h1, h4, h5, by omega, hd, hs⟩
theorem fun_395 {m m1 : MM} {S : Int → Prop} {U : VV} {res : EX VV} {below : Int} (hR : RB r d s) (hst : stG m l) (hl : l.length ≤ 1298) (hb : 0 ≤ below) (ht : m 376 8 = (l.length : Int) + below) (ar : AR (m 376 19) (m 376 20)) (f : Fc S m m1) (hS : ∀ q, S q → m 381 (l.length : Int) ≤ q) (e : m1 378 2 = 0) (v : VC (m1 379) 1155420 d s U) (hres : res = .ok U) (h : OutS m res d s l Q) : P_X6_function_395 Q r below m1 := by
  refine ⟨by rw [e]; decide, ?_⟩
  rw [if_pos e]
  exact two_fin hR hst hl hb ht ar f hS e v hres h
theorem fun_395e {m m1 : MM} {S : Int → Prop} {res : EX VV} {z below : Int} (ar : AR (m 376 19) (m 376 20)) (f : Fc S m m1) (e : m1 378 2 = z) (hz : 1 ≤ z ∧ z ≤ 9) (hres : res = .error z) (h : OutS m res d s l Q) : P_X6_function_395 Q r below m1 := by
  refine ⟨by rw [e]; constructor <;> omega, ?_⟩
  rw [if_neg (by rw [e]; omega)]
  exact h.2 z m1 hres (f.fk ar) e
theorem rb0 : RG 0 0 0 0 := ⟨by decide, by decide, by decide, by decide⟩
/-- deg -/
theorem c_fn_1 {m : MM} (hA : RG a b da 0) (hda : 1 ≤ da) (hst : stG m ((da, 0, V) :: l)) (hl : l.length ≤ 1298) (ht : m 376 8 = (l.length : Int) + 1) (ar : AR (m 376 19) (m 376 20)) (he : m 378 2 = 0) (nV : NN mu da 0 V) (h : OutS m (.ok (numV (odG (cof (da - 1)) (V 0 0) 7))) 0 0 l Q) : P_X6_function 1 a 0 m Q := by
  obtain ⟨s0, vx, e1, bx, hd, hs⟩ := st1 hst hl
  unfold P_X6_function
  simp only [Int.reduceEq, reduceIte]
  rw [ht, show (l.length : Int) + 1 - 1 = (l.length : Int) by omega]
  have hc := cof_bd hd
  refine ⟨by omega, by decide, c_base hA ⟨by decide, c_coef hA ⟨by constructor <;> omega, degC (d := da) ⟨hda, hd.2⟩ (by omega) vx.row0 (fun k => nV.nr.ri k) ?_⟩⟩⟩
  exact c_integer (fun m1 f1 er1 v1 => fun_395 (Or.inl ⟨0, rb0⟩) s0 hl (by decide) ht ar f1 (fun q z => by omega) (by rw [er1, he]) v1 rfl h)
/-- coef -/
theorem c_fn_2 {m : MM} (hA : RG a b da 0) (hda : 1 ≤ da) (hst : stG m ((0, 0, W) :: (da, 0, V) :: l)) (hl : l.length ≤ 1298) (ht : m 376 8 = (l.length : Int) + 2) (ar : AR (m 376 19) (m 376 20)) (he : m 378 2 = 0) (nW : NN 0 0 0 W) (h : OutS m (.ok (rvv (coS da (W 0 0 0).1 (V 0 0)))) (da - 1) 0 l Q) : P_X6_function 2 a (a - 4) m Q := by
  obtain ⟨s0, vx, vy, e1, bx, hd, hs, -, -⟩ := st2 hst hl
  have vb := VS_bd hd hs
  have hL : RG (a - 4) b (da - 1) 0 := ⟨by have := hA.1; omega, hA.2.1, by omega, by decide⟩
  have py := (vy.row0 0 (by decide) (by decide)).1
  rw [show m 381 ((l.length : Int) + 1) + 2 * 0 = m 381 ((l.length : Int) + 1) by omega] at py
  have wb := (nW.1 0 0 0).p1
  obtain ⟨c1, c2, c3⟩ := cof_less (d := da) ⟨hda, hd.2⟩
  have v0 : VS da 0 = 2 * cof da := by unfold VS enn; rw [if_pos rfl]; omega
  have en : enn 0 * cof (da - 1) = cof (da - 1) := by rw [show enn 0 = 1 from rfl]; omega
  unfold P_X6_function
  simp only [Int.reduceEq, reduceIte]
  rw [ht, show (l.length : Int) + 2 - 1 = (l.length : Int) + 1 by omega]
  refine ⟨by omega, by decide, c_base hA ⟨by decide, by omega, c_number hL ?_⟩⟩
  rw [py, en]
  have zero : ¬ (0 ≤ (W 0 0 0).1 ∧ (W 0 0 0).1 < 7) → P_X6_function_208 Q (a - 4) 2 (cof (da - 1)) m := by
    intro nz
    have hN : (((cof (da - 1)).toNat : Nat) : Int) = cof (da - 1) := by omega
    unfold P_X6_function_208
    rw [← hN]
    refine c_X8_clear (by decide) (by omega) (fun m1 f1 er1 r1 => ?_)
    rw [hN] at f1 r1
    refine fun_395 (Or.inl ⟨b, hL⟩) s0 hl (by decide) ht ar f1 (fun q z => by omega) (by rw [er1, he]) (VC_row r1) ?_ h
    have : coS da (W 0 0 0).1 (V 0 0) = zr := by
      funext k
      unfold coS
      rw [if_neg (by omega)]
      rfl
    rw [this]
  refine ⟨by constructor <;> omega, ?_⟩
  by_cases c0 : (W 0 0 0).1 < 0
  · rw [if_pos c0]; exact zero (by omega)
  · rw [if_neg c0]
    by_cases c7 : (W 0 0 0).1 < 7
    · rw [if_pos c7, ht, show (l.length : Int) + 2 - 2 = (l.length : Int) by omega]
      have bd : 0 ≤ 2 * cof (da - 1) * (W 0 0 0).1 ∧ 2 * cof (da - 1) * (W 0 0 0).1 + 2 * cof (da - 1) ≤ 2 * cof da := by
        rcases c3 with ⟨z, -⟩ | ⟨z, -⟩ <;> rw [z] at c2 ⊢ <;> omega
      refine ⟨by omega, c_X8_copy (by omega) (by omega) (by omega) (fun m1 f1 er1 cp => ?_)⟩
      exact fun_395 (Or.inl ⟨b, hL⟩) s0 hl (by decide) ht ar f1 (fun q z => by omega) (by rw [er1, he]) (VC_row ((coS_Rw ⟨hda, hd.2⟩ vx.row0 (by omega)).cp cp)) rfl h
    · rw [if_neg c7]; exact zero (by omega)
/-- der -/
theorem c_fn_4 {m : MM} (hA : RG a b da 0) (hda : 1 ≤ da) (hst : stG m ((da, 0, V) :: l)) (hl : l.length ≤ 1298) (ht : m 376 8 = (l.length : Int) + 1) (ar : AR (m 376 19) (m 376 20)) (he : m 378 2 = 0) (hmu : muC m b = mu) (hM : MU mu) (nV : NN mu da 0 V) (h : OutS m (derS mu da (V 0 0)) da 0 l Q) : P_X6_function 4 a a m Q := by
  obtain ⟨s0, vx, e1, bx, hd, hs⟩ := st1 hst hl
  unfold P_X6_function
  simp only [Int.reduceEq, reduceIte]
  rw [ht, show (l.length : Int) + 1 - 1 = (l.length : Int) by omega]
  refine ⟨by omega, by decide, c_base hA ⟨by decide, c_X6_derived hA hda hmu hM he (by omega) vx.row0 nV.nr ⟨fun U m1 h1 f1 er1 v1 => ?_, fun z m1 h1 f1 er1 => ?_⟩⟩⟩
  · exact fun_395 (Or.inl ⟨b, hA⟩) s0 hl (by decide) ht ar f1 (fun q z => by omega) er1 v1 h1 h
  · have := mapE_err h1
    exact fun_395e ar f1 er1 (by omega) h1 h
/-- det -/
theorem c_fn_5 {m : MM} (hA : RG a b da sa) (hsa : 1 ≤ sa) (hr : RG r b da 0) (hst : stG m ((da, sa, V) :: l)) (hl : l.length ≤ 1298) (ht : m 376 8 = (l.length : Int) + 1) (ar : AR (m 376 19) (m 376 20)) (he : m 378 2 = 0) (hmu : muC m b = mu) (hM : MU mu) (nV : NN mu da sa V) (h : OutS m (okR (detS mu da sa V)) da 0 l Q) : P_X6_function 5 a r m Q := by
  obtain ⟨s0, vx, e1, bx, hd, hs⟩ := st1 hst hl
  have vb := VS_bd hd hs
  have hc := cof_bd hd
  unfold P_X6_function
  simp only [Int.reduceEq, reduceIte]
  rw [ht, show (l.length : Int) + 1 - 1 = (l.length : Int) by omega]
  refine ⟨by omega, by decide, c_base hA ⟨by decide, c_X8_determinant hA hsa hmu hM he (by omega) (by omega) (by omega) (by omega) (by omega) vx nV.nv ⟨fun w m1 h1 f1 er1 v1 => ?_, fun z m1 h1 f1 er1 => ?_⟩⟩⟩
  · exact fun_395 (Or.inl ⟨b, hr⟩) s0 hl (by decide) ht ar f1 (fun q z => by unfold S3 at z; omega) er1 (VC_row v1) (by unfold okR; rw [h1]) h
  · have := detS_err h1
    exact fun_395e ar f1 er1 (by omega) (by unfold okR; rw [h1]) h
/-- tr -/
theorem c_fn_6 {m : MM} (hA : RG a b da sa) (hsa : 1 ≤ sa) (hr : RG r b da 0) (hst : stG m ((da, sa, V) :: l)) (hl : l.length ≤ 1298) (ht : m 376 8 = (l.length : Int) + 1) (ar : AR (m 376 19) (m 376 20)) (he : m 378 2 = 0) (hmu : muC m b = mu) (hM : MU mu) (nV : NN mu da sa V) (h : OutS m (okR (trS mu da sa V)) da 0 l Q) : P_X6_function 6 a r m Q := by
  obtain ⟨s0, vx, e1, bx, hd, hs⟩ := st1 hst hl
  unfold P_X6_function
  simp only [Int.reduceEq, reduceIte]
  rw [ht, show (l.length : Int) + 1 - 1 = (l.length : Int) by omega]
  refine ⟨by omega, by decide, c_base hA ⟨by decide, c_X6_trace hA hsa hmu hM he (by omega) vx nV ⟨fun w m1 h1 f1 er1 v1 => ?_, fun z m1 h1 f1 er1 => ?_⟩⟩⟩
  · exact fun_395 (Or.inl ⟨b, hr⟩) s0 hl (by decide) ht ar f1 (fun q z => by omega) er1 (VC_row v1) (by unfold okR; rw [h1]) h
  · have := trG_err _ _ _ h1
    exact fun_395e ar f1 er1 (by omega) (by unfold okR; rw [h1]) h
/-- tp -/
theorem c_fn_7 {m : MM} (hA : RG a b da sa) (hsa : 1 ≤ sa) (hst : stG m ((da, sa, V) :: l)) (hl : l.length ≤ 1298) (ht : m 376 8 = (l.length : Int) + 1) (ar : AR (m 376 19) (m 376 20)) (he : m 378 2 = 0) (h : OutS m (.ok (tpV V)) da sa l Q) : P_X6_function 7 a a m Q := by
  obtain ⟨s0, vx, e1, bx, hd, hs⟩ := st1 hst hl
  unfold P_X6_function
  simp only [Int.reduceEq, reduceIte]
  rw [ht, show (l.length : Int) + 1 - 1 = (l.length : Int) by omega]
  refine ⟨by omega, by decide, c_base hA ⟨by decide, c_X6_turned hA hsa (by omega) vx (fun m1 f1 er1 v1 => ?_)⟩⟩
  exact fun_395 (Or.inl ⟨b, hA⟩) s0 hl (by decide) ht ar f1 (fun q z => by omega) (by rw [er1, he]) v1 rfl h
/-- adj -/
theorem c_fn_8 {m : MM} (hA : RG a b da sa) (hsa : 1 ≤ sa) (hst : stG m ((da, sa, V) :: l)) (hl : l.length ≤ 1298) (ht : m 376 8 = (l.length : Int) + 1) (ar : AR (m 376 19) (m 376 20)) (he : m 378 2 = 0) (hmu : muC m b = mu) (hM : MU mu) (nV : NN mu da sa V) (h : OutS m (adjS mu da sa V) da sa l Q) : P_X6_function 8 a a m Q := by
  obtain ⟨s0, vx, e1, bx, hd, hs⟩ := st1 hst hl
  have vb := VS_bd hd hs
  unfold P_X6_function
  simp only [Int.reduceEq, reduceIte]
  rw [ht, show (l.length : Int) + 1 - 1 = (l.length : Int) by omega]
  refine ⟨by omega, by decide, c_base hA ⟨by decide, c_X8_adjugate hA hsa hmu hM he (by omega) (by omega) (by omega) (by omega) (by omega) vx nV ⟨fun U m1 h1 f1 er1 v1 => ?_, fun z m1 h1 f1 er1 => ?_⟩⟩⟩
  · exact fun_395 (Or.inl ⟨b, hA⟩) s0 hl (by decide) ht ar f1 (fun q z => by unfold S4 at z; omega) er1 v1 h1 h
  · have := adjS_err h1
    exact fun_395e ar f1 er1 (by omega) h1 h
/-- inv -/
theorem c_fn_9 {m : MM} (hA : RG a b 0 sa) (hst : stG m ((0, sa, V) :: l)) (hl : l.length ≤ 1298) (ht : m 376 8 = (l.length : Int) + 1) (ar : AR (m 376 19) (m 376 20)) (he : m 378 2 = 0) (hmu : muC m b = mu) (hM : MU mu) (hf : FD mu) (nV : NN mu 0 sa V) (h : OutS m (invV mu sa V) 0 sa l Q) : P_X6_function 9 a a m Q := by
  obtain ⟨s0, vx, e1, bx, hd, hs⟩ := st1 hst hl
  unfold P_X6_function
  simp only [Int.reduceEq, reduceIte]
  rw [ht, show (l.length : Int) + 1 - 1 = (l.length : Int) by omega]
  refine ⟨by omega, by decide, c_base hA ⟨by decide, c_X6_inverse hA hmu hM hf he (by omega) vx nV ⟨fun U m1 h1 f1 er1 v1 => ?_, fun z m1 h1 f1 er1 => ?_⟩⟩⟩
  · exact fun_395 (Or.inl ⟨b, hA⟩) s0 hl (by decide) ht ar f1 (fun q z => by omega) er1 v1 h1 h
  · have := invV_err h1
    exact fun_395e ar f1 er1 (by omega) h1 h
/-- char -/
theorem c_fn_10 {m : MM} (hA : RG a b 0 sa) (hsa : 1 ≤ sa) (hr : RG r b 1 0) (hst : stG m ((0, sa, V) :: l)) (hl : l.length ≤ 1298) (ht : m 376 8 = (l.length : Int) + 1) (ar : AR (m 376 19) (m 376 20)) (he : m 378 2 = 0) (hmu : muC m b = mu) (hM : MU mu) (nV : NN mu 0 sa V) (h : OutS m (charS mu sa V) 1 0 l Q) : P_X6_function 10 a r m Q := by
  obtain ⟨s0, vx, e1, bx, hd, hs⟩ := st1 hst hl
  unfold P_X6_function
  simp only [Int.reduceEq, reduceIte]
  rw [ht, show (l.length : Int) + 1 - 1 = (l.length : Int) by omega]
  refine ⟨by omega, by decide, c_base hA ⟨by decide, c_X6_characteristic hA hsa hmu hM he (by omega) vx nV ⟨fun U m1 h1 f1 er1 v1 => ?_, fun z m1 h1 f1 er1 => ?_⟩⟩⟩
  · exact fun_395 (Or.inl ⟨b, hr⟩) s0 hl (by decide) ht ar f1 (fun q z => by omega) er1 v1 h1 h
  · have := charS_err h1
    exact fun_395e ar f1 er1 (by omega) h1 h
/-- num, den -/
theorem c_fn_12 {m : MM} {f : Int} (hfn : f = 12 ∨ f = 13) (hA : RG a b 0 0) (hst : stG m ((0, 0, V) :: l)) (hl : l.length ≤ 1298) (ht : m 376 8 = (l.length : Int) + 1) (ar : AR (m 376 19) (m 376 20)) (he : m 378 2 = 0) (h : OutS m (.ok (numV (if f = 12 then (V 0 0 0).1 else (V 0 0 0).2))) 0 0 l Q) : P_X6_function f a 0 m Q := by
  obtain ⟨s0, vx, e1, bx, hd, hs⟩ := st1 hst hl
  have px := vx.row0 0 (by decide) (by decide)
  rw [show m 381 (l.length : Int) + 2 * 0 = m 381 (l.length : Int) by omega] at px
  rcases hfn with z | z <;> subst z
  · unfold P_X6_function
    simp only [Int.reduceEq, reduceIte] at h ⊢
    rw [ht, show (l.length : Int) + 1 - 1 = (l.length : Int) by omega, show m 381 (l.length : Int) + 12 - 12 = m 381 (l.length : Int) by omega]
    refine ⟨by omega, by decide, c_base hA ⟨by decide, by omega, ?_⟩⟩
    rw [px.1]
    exact c_integer (fun m1 f1 er1 v1 => fun_395 (Or.inl ⟨0, rb0⟩) s0 hl (by decide) ht ar f1 (fun q z => by omega) (by rw [er1, he]) v1 rfl h)
  · unfold P_X6_function
    simp only [Int.reduceEq, reduceIte] at h ⊢
    rw [ht, show (l.length : Int) + 1 - 1 = (l.length : Int) by omega, show m 381 (l.length : Int) + 13 - 12 = m 381 (l.length : Int) + 1 by omega]
    refine ⟨by omega, by decide, c_base hA ⟨by decide, by omega, ?_⟩⟩
    rw [px.2]
    exact c_integer (fun m1 f1 er1 v1 => fun_395 (Or.inl ⟨0, rb0⟩) s0 hl (by decide) ht ar f1 (fun q z => by omega) (by rw [er1, he]) v1 rfl h)
end FUN
