set_option maxRecDepth 100000
/-! the component's parser: rings over rings, walked -/
section TYPE3C
variable {T : MM → Prop} {tk : Int → TK} {N b : Int}
/-- the end of a ring with brackets: its node is whole -/
theorem c_type291 {rec : Nat → List Int → MM → (Int → MM → Prop) → (MM → Prop) → Prop} {m0 m : MM} {p o k0 s : Int} {a : PT} {Q : Int → MM → Prop} (hP : PC m tk N b p (o + 1)) (o0 : 0 ≤ o) (f : Fnw b k0 m0 m) (hT : TN m b a.1 a.2 k0 (m b 0) k0) (h3 : m (b + 3) k0 = -1) (hn : m b 0 + s ≤ p) (h1 : ndS tk 41 p = .ok (p + 1) → TyOk tk N b k0 s Q m0 o a (p + 1)) (h0 : ∀ e, ndS tk 41 p = .error e → PEr T b m0 e) : P_X3_type_291 rec Q T k0 m := by
  have hb := hP.1.1
  have hb' : b < 365 ∧ b + 9 < 365 ∧ 8 ≤ b := by obtain ⟨a1, a2, a3⟩ := hb; omega
  refine c_closesP (by decide) hP (by omega) (fun m' e g P => ?_) (fun e z => f.per hb (h0 e z))
  rw [show o + 1 - 1 = o by omega] at P
  refine h1 e k0 m' P (fun c i z z' z'' => (g c i z'').trans (f c i z z' z'')) ?_ ?_ ?_
  · rw [g _ _ (by omega)]
    obtain ⟨cl, ch, x1, ⟨y1, y2, y3, y4⟩, x3⟩ := hT
    have fr : ∀ i, m' (b + 1) i = m (b + 1) i ∧ m' (b + 2) i = m (b + 2) i ∧ m' (b + 3) i = m (b + 3) i ∧ m' (b + 4) i = m (b + 4) i ∧ m' (b + 5) i = m (b + 5) i ∧ m' (b + 9) i = m (b + 9) i := fun i => ⟨g _ _ (by omega), g _ _ (by omega), g _ _ (by omega), g _ _ (by omega), g _ _ (by omega), g _ _ (by omega)⟩
    refine ⟨cl, ch, x1, ⟨?_, ?_, ?_, fun z => ?_⟩, ?_⟩
    · rw [(fr k0).1]; exact y1
    · rw [(fr k0).2.2.2.1]; exact y2
    · rw [(fr k0).2.2.2.2.1]; exact y3
    · rw [(fr k0).2.2.2.2.2]; exact y4 z
    · rw [(fr k0).2.1]; exact x3.fr fr
  · rw [g _ _ (by omega)]; exact h3
  · rw [g _ _ (by omega)]; omega
end TYPE3C
