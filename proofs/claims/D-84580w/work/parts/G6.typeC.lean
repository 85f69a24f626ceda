set_option maxRecDepth 100000
/-! the component's parser: rings that are written -/
section TYPEC
variable {T : MM → Prop} {tk : Int → TK} {N b : Int}
theorem c_type64 {rec : Nat → List Int → MM → (Int → MM → Prop) → (MM → Prop) → Prop} {m : MM} {p o k0 : Int} {Q : Int → MM → Prop} (hP : PC m tk N b p o) (hk : kdS tk p = 3) (hv : vlS tk p = 14 ∨ vlS tk p = 15 ∨ vlS tk p = 16 ∨ vlS tk p = 20) (h00 : m b 0 = k0) (k0b : 0 ≤ k0 ∧ k0 ≤ p) (h1 : ∀ k m', goS tk p = .ok (p + 1) → PC m' tk N b (p + 1) o → Fnw b k0 m m' → TN m' b ((if vlS tk p = 16 then 31 else if vlS tk p = 20 then 32 else 30), plS tk p, (if vlS tk p = 15 then 1 else 0), 0) lf k0 (m' b 0) k → m' (b + 3) k = -1 → m' b 0 = k0 + 1 → Q k m') (h0 : ∀ e, goS tk p = .error e → PEr T b m e) : P_X3_type_64 rec Q T (plS tk p) (vlS tk p) m := by
  have hb := hP.1.1
  have hb' : b < 365 ∧ b + 9 < 365 ∧ 8 ≤ b := by obtain ⟨a1, a2, a3⟩ := hb; omega
  have pb := hP.2.2.1
  refine c_goP hP (by have z : (tk p).1 = 3 := hk; omega) (fun m1 a f1 P1 => ?_) h0
  have rv : RI (vlS tk p) := by constructor <;> omega
  refine ⟨rv, by rw [P1.2.1]; exact hb, ?_⟩
  rw [P1.2.1]
  have e1 : m1 b 0 = k0 := by rw [f1 _ _ (by omega)]; exact h00
  refine c_addC hb e1 (by omega) (fun m2 f2 g0 g1 g2 g3 g4 g5 g6 => ?_)
  have e2 : m2 365 1 = b := by rw [f2 _ _ (by omega) (by omega)]; exact P1.2.1
  rw [e2]
  refine ⟨hb, rv, ?_⟩
  have fin : ∀ v, (v = if vlS tk p = 15 then 1 else 0) → ∀ m3, m3 = up m2 (b + 4) k0 v → Q k0 m3 := by
    rintro v hv' m3 rfl
    refine h1 k0 _ a (P1.fr (fun c i z z' => ?_) ⟨?_, P1.2.2.1.2⟩ ⟨?_, P1.2.2.2.2⟩) (fun c i z z' z'' => ?_) ?_ ?_ ?_
    · rw [up_ne (by omega)]; exact f2 c i (by omega) (by omega)
    · rw [up_ne (by omega), f2 _ _ (by omega) (by omega)]; exact P1.2.2.1.1
    · rw [up_ne (by omega), f2 _ _ (by omega) (by omega)]; exact P1.2.2.2.1
    · rw [up_ne (fun y => z ⟨by omega, by omega⟩), f2 c i (fun y => z ⟨by omega, by omega⟩) z']
      exact f1 c i (fun y => z'' ⟨y.1, Or.inl y.2⟩)
    · rw [up_ne (by omega), g0]
      refine ⟨k0 + 1, k0 + 1, by omega, ⟨?_, ?_, ?_, fun z => ?_⟩, ?_, by omega⟩
      · rw [up_ne (by omega)]; exact g1
      · rw [up_at]; exact hv'
      · rw [up_ne (by omega)]; exact g5
      · exfalso
        revert z
        show _ = _ ∨ _ = _ ∨ _ = _ ∨ _ = _ → False
        by_cases y : vlS tk p = 16
        · rw [if_pos y]; omega
        · rw [if_neg y]
          by_cases y : vlS tk p = 20
          · rw [if_pos y]; omega
          · rw [if_neg y]; omega
      · rw [up_ne (by omega)]; exact g2
    · rw [up_ne (by omega)]; exact g3
    · rw [up_ne (by omega), g0]
  by_cases y : vlS tk p = 15
  · rw [if_pos y]; exact ⟨by omega, fin 1 (by rw [if_pos y])⟩
  · rw [if_neg y]; exact ⟨by omega, fin 0 (by rw [if_neg y])⟩
end TYPEC
