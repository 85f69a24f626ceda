set_option maxRecDepth 100000
/-! the component's parser: a node is made -/
section ADDC
variable {Q : Int → MM → Prop} {m : MM} {b k kd w : Int}
/-- a text's nodes from one on are new; nothing else changes -/
def Fnw (b lo : Int) (m m' : MM) : Prop := ∀ c i, ¬ ((b + 1 ≤ c ∧ c ≤ b + 6 ∨ c = b + 9) ∧ lo ≤ i) → ¬ (c = b ∧ i = 0) → ¬ (c = 365 ∧ (i = 2 ∨ i = 3)) → m' c i = m c i
theorem c_addC (hb : isTx b) (hk : m b 0 = k) (kb : 0 ≤ k ∧ k < 160) (h : ∀ m', (∀ c i, ¬ ((b + 1 ≤ c ∧ c ≤ b + 6) ∧ i = k) → ¬ (c = b ∧ i = 0) → m' c i = m c i) → m' b 0 = k + 1 → m' (b + 1) k = kd → m' (b + 2) k = -1 → m' (b + 3) k = -1 → m' (b + 4) k = 0 → m' (b + 5) k = w → m' (b + 6) k = -1 → Q k m') : P_X2_add b kd w m Q := by
  unfold P_X2_add
  rw [hk]
  refine ⟨hb, kb, ?_⟩
  rintro m1 rfl
  have e1 : up m (b + 1) k kd b 0 = k := by rw [up_ne (by omega)]; exact hk
  rw [e1]
  refine ⟨kb, ?_⟩
  intro m2 h2
  have e2 : m2 b 0 = k := by rw [h2, up_ne (by omega)]; exact e1
  rw [e2]
  refine ⟨kb, ?_⟩
  intro m3 h3
  have e3 : m3 b 0 = k := by rw [h3, up_ne (by omega)]; exact e2
  rw [e3]
  refine ⟨kb, ?_⟩
  intro m4 h4
  have e4 : m4 b 0 = k := by rw [h4, up_ne (by omega)]; exact e3
  rw [e4]
  refine ⟨kb, ?_⟩
  intro m5 h5
  have e5 : m5 b 0 = k := by rw [h5, up_ne (by omega)]; exact e4
  rw [e5]
  refine ⟨kb, ?_⟩
  intro m6 h6
  have e6 : m6 b 0 = k := by rw [h6, up_ne (by omega)]; exact e5
  rw [e6]
  rintro m7 rfl
  rw [up_at, show k + 1 - 1 = k by omega]
  refine h _ (fun c i z z' => ?_) (up_at ..) ?_ ?_ ?_ ?_ ?_ ?_
  · rw [up_ne z', h6, up_ne (fun y => z ⟨by omega, y.2⟩), h5, up_ne (fun y => z ⟨by omega, y.2⟩), h4, up_ne (fun y => z ⟨by omega, y.2⟩), h3, up_ne (fun y => z ⟨by omega, y.2⟩), h2, up_ne (fun y => z ⟨by omega, y.2⟩), up_ne (fun y => z ⟨by omega, y.2⟩)]
  · rw [up_ne (by omega), h6, up_ne (by omega), h5, up_ne (by omega), h4, up_ne (by omega), h3, up_ne (by omega), h2, up_ne (by omega), up_at]
  · rw [up_ne (by omega), h6, up_ne (by omega), h5, up_ne (by omega), h4, up_ne (by omega), h3, up_ne (by omega), h2, up_at]
  · rw [up_ne (by omega), h6, up_ne (by omega), h5, up_ne (by omega), h4, up_ne (by omega), h3, up_at]
  · rw [up_ne (by omega), h6, up_ne (by omega), h5, up_ne (by omega), h4, up_at]
  · rw [up_ne (by omega), h6, up_ne (by omega), h5, up_at]
  · rw [up_ne (by omega), h6, up_at]
end ADDC
