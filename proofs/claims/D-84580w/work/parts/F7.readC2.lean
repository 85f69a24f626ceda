set_option maxRecDepth 100000
/-! tokens: Tokens.read -/
section READC2
variable {Q : Int → MM → Prop} {T : MM → Prop} {m : MM} {tx : Int → Int} {n a : Int}
def Frd (m m' : MM) : Prop := ∀ c i, ¬ (c = 366 ∧ (i = 1 ∨ i = 2)) → ¬ (367 ≤ c ∧ c ≤ 371) → m' c i = m c i
theorem c_readC (ha : inR a 2 0 n) (nb : 0 ≤ n ∧ n ≤ 400) (hs : ∀ i, 0 ≤ i → i < n → (-128 ≤ m a i ∧ m a i ≤ 127) ∧ iAnd (m a i) 255 = tx i ∧ 0 ≤ tx i ∧ tx i ≤ 255) (h : ∀ m', Frd m m' → m' 366 1 = n → TLc m' (scanS tx n 401 0) 0 → m' 366 2 = ((scanS tx n 401 0).length : Int) → Q 0 m') : P_X4_read a n m Q T := by
  refine ⟨nb.1, ha, ⟨400, by decide +kernel, by decide, by omega⟩, fun j j0 j1 => ?_, ?_⟩
  · rw [show (0 : Int) + j = j by omega]; exact (hs j j0 j1).1
  rintro m1 rfl m2 rfl m3 rfl
  refine ⟨402, c_readLoop (tx := tx) 401 0 0 _ ⟨nb, ?_, fun i i0 i1 => ?_⟩ (by omega) (by omega) (by omega) (up_at ..) (by omega) (by omega) (Or.inl rfl) ?_⟩
  · rw [up_ne (by omega), up_at]
  · rw [up_ne (by omega), up_ne (by omega)]
    have : cpm m a 0 367 0 n 367 i = m a i := by
      unfold cpm
      rw [if_pos ⟨rfl, i0, by omega⟩, show (0 : Int) + (i - 0) = i by omega]
    rw [this]
    exact (hs i i0 i1).2
  · intro m' s
    refine h m' (fun c i z z' => ?_) ?_ s.2.1 ?_
    · rw [s.1 c i (by omega) (by omega), up_ne (by omega), up_ne (by omega)]
      unfold cpm
      rw [if_neg (by omega)]
    · rw [s.1 _ _ (by omega) (by omega), up_ne (by omega), up_at]
    · rw [s.2.2]; omega
end READC2
