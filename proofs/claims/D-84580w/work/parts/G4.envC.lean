set_option maxRecDepth 100000
/-! the component's parser: where it stands -/
/-- the parser stands at a token, with so many things open, over a text -/
def PC (m : MM) (tk : Int → TK) (N b p o : Int) : Prop := (isTx b ∧ TKs m tk N ∧ (∀ i, 0 ≤ i → i < N - 1 → 1 ≤ (tk i).1 ∧ (tk i).1 ≤ 5) ∧ ((tk (N - 1)).1 = 0 ∨ (tk (N - 1)).1 = 6)) ∧ m 365 1 = b ∧ (m 365 2 = p ∧ 0 ≤ p ∧ p < N ∧ p ≤ 150) ∧ (m 365 3 = o ∧ 0 ≤ o ∧ o ≤ 12)
/-- what a fault leaves -/
def PEr (T : MM → Prop) (b : Int) (m : MM) (e : Int × Int) : Prop := ∀ m', (∀ c i, ¬ (b ≤ c ∧ c ≤ b + 9) → c ≠ 365 → m' c i = m c i) → m' 365 1 = b → m' 365 4 = e.1 → m' 365 5 = e.2 → T m'
section ENVC
variable {Q : Int → MM → Prop} {T : MM → Prop} {m m' : MM} {tk : Int → TK} {N b p o c : Int} {e : Int × Int}
theorem PEr.fr (h : PEr T b m e) (f : ∀ c i, ¬ (b ≤ c ∧ c ≤ b + 9) → c ≠ 365 → m' c i = m c i) : PEr T b m' e := fun m2 g1 g2 g3 g4 => h m2 (fun c i z z' => (g1 c i z z').trans (f c i z z')) g2 g3 g4
theorem PEr.thr (h : PEr T b m e) (hb : m 365 1 = b) : ThrS T e m := fun m' f g1 g2 => h m' (fun c i _ z => f c i (fun y => z y.1)) ((f _ _ (by omega)).trans hb) g1 g2
theorem PC.fr {q o' : Int} (h : PC m tk N b p o) (f : ∀ c i, ¬ (b ≤ c ∧ c ≤ b + 9) → ¬ (c = 365 ∧ (i = 2 ∨ i = 3)) → m' c i = m c i) (hq : m' 365 2 = q ∧ 0 ≤ q ∧ q < N ∧ q ≤ 150) (ho : m' 365 3 = o' ∧ 0 ≤ o' ∧ o' ≤ 12) : PC m' tk N b q o' := by
  obtain ⟨⟨h1, h2, h3, h4⟩, h5, -, -⟩ := h
  have hb : b < 365 ∧ b + 9 < 365 := by obtain ⟨a1, a2, a3⟩ := h1; omega
  refine ⟨⟨h1, ⟨h2.1, fun i i0 i1 => ?_⟩, h3, h4⟩, ?_, hq, ho⟩
  · rw [f 368 i (by omega) (by omega), f 369 i (by omega) (by omega), f 370 i (by omega) (by omega), f 371 i (by omega) (by omega)]
    exact h2.2 i i0 i1
  · rw [f 365 1 (by omega) (by omega)]; exact h5
/-- a token that is passed -/
theorem PC.nx {q : Int} (h : PC m tk N b p o) (hk : 1 ≤ (tk p).1 ∧ (tk p).1 ≤ 5) (g : goS tk p = .ok q) : q = p + 1 ∧ 0 ≤ q ∧ q < N ∧ q ≤ 150 := by
  obtain ⟨⟨h1, h2, h3, h4⟩, h5, ⟨h6, h7, h8, h9⟩, -⟩ := h
  unfold goS at g
  by_cases y : 150 ≤ p
  · rw [if_pos y] at g; cases g
  · rw [if_neg y] at g
    have e : p + 1 = q := by injection g
    have : p ≠ N - 1 := fun z => by rw [← z] at h4; omega
    omega
theorem c_goP (h : PC m tk N b p o) (hk : 1 ≤ (tk p).1 ∧ (tk p).1 ≤ 5) (h1 : ∀ m', goS tk p = .ok (p + 1) → (∀ c i, ¬ (c = 365 ∧ i = 2) → m' c i = m c i) → PC m' tk N b (p + 1) o → Q 0 m') (h0 : ∀ e, goS tk p = .error e → PEr T b m e) : P_X3_go m Q T := by
  refine c_goC h.1.2.1 h.2.2.1.1 ⟨h.2.2.1.2.1, h.2.2.1.2.2.1⟩ (fun q m' a d => ?_) (fun e a => (h0 e a).thr h.2.1)
  obtain ⟨n1, n2, n3, n4⟩ := h.nx hk a
  subst n1 d
  refine h1 _ a (fun c i z => up_ne z) (h.fr (fun c i _ z => up_ne (fun y => z ⟨y.1, Or.inl y.2⟩)) ⟨up_at .., n2, n3, n4⟩ ⟨?_, h.2.2.2.2⟩)
  rw [up_ne (by omega)]; exact h.2.2.2.1
end ENVC
