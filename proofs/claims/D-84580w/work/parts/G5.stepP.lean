set_option maxRecDepth 100000
/-! the component's parser: single steps over where it stands -/
section STEPP
variable {Q : Int → MM → Prop} {T : MM → Prop} {m m' : MM} {tk : Int → TK} {N b p o c : Int} {e : Int × Int}
theorem PC.at (h : PC m tk N b p o) : 0 ≤ p ∧ p < N := ⟨h.2.2.1.2.1, h.2.2.1.2.2.1⟩
theorem c_hereP (h : PC m tk N b p o) (k : Q (plS tk p) m) : P_X3_here m Q := c_hereC h.1.2.1 h.2.2.1.1 h.at k
theorem c_signP (rc : RI c) (h : PC m tk N b p o) (h1 : isSg tk c p → Q 1 m) (h0 : ¬ isSg tk c p → Q 0 m) : P_X3_isSign c m Q := c_isSignC rc h.1.2.1 h.2.2.1.1 h.at h1 h0
theorem c_keyP (rc : RI c) (h : PC m tk N b p o) (h1 : isKy tk c p → Q 1 m) (h0 : ¬ isKy tk c p → Q 0 m) : P_X3_isKey c m Q := c_isKeyC rc h.1.2.1 h.2.2.1.1 h.at h1 h0
theorem c_synP (h : PC m tk N b p o) (k : PEr T b m (1, plS tk p)) : P_X3_here m (fun r m1 => P_X3_fail 1 r m1 Q T) := c_hereP h (c_faultC (k.thr h.2.1))
theorem sg_kd (y : isSg tk c p) : 1 ≤ (tk p).1 ∧ (tk p).1 ≤ 5 := by have z : (tk p).1 = 5 := y.1; omega
theorem ky_kd (y : isKy tk c p) : 1 ≤ (tk p).1 ∧ (tk p).1 ≤ 5 := by have z : (tk p).1 = 3 := y.1; omega
theorem c_takesP (rc : RI c) (h : PC m tk N b p o) (h1 : ∀ m', isSg tk c p → goS tk p = .ok (p + 1) → (∀ c i, ¬ (c = 365 ∧ i = 2) → m' c i = m c i) → PC m' tk N b (p + 1) o → Q 1 m') (h0 : ¬ isSg tk c p → Q 0 m) (he : ∀ e, isSg tk c p → goS tk p = .error e → PEr T b m e) : P_X3_takes c m Q T := by
  refine c_signP rc h (fun y => ⟨by decide, ?_⟩) (fun y => ⟨by decide, ?_⟩)
  · rw [if_neg (by decide)]
    exact c_goP h (sg_kd y) (fun m' a f g => h1 m' y a f g) (fun e a => he e y a)
  · rw [if_pos rfl]; exact h0 y
theorem c_needP (rc : RI c) (h : PC m tk N b p o) (h1 : ∀ m', ndS tk c p = .ok (p + 1) → (∀ c i, ¬ (c = 365 ∧ i = 2) → m' c i = m c i) → PC m' tk N b (p + 1) o → Q 0 m') (h0 : ∀ e, ndS tk c p = .error e → PEr T b m e) : P_X3_need c m Q T := by
  unfold ndS at h1 h0
  refine c_takesP rc h (fun m' y a f g => ⟨by decide, ?_⟩) (fun y => ⟨by decide, ?_⟩) (fun e y a => h0 e (by rw [if_pos y]; exact a))
  · rw [if_neg (by decide)]; exact h1 m' (by rw [if_pos y]; exact a) f g
  · rw [if_pos rfl]
    exact c_synP h (h0 _ (by rw [if_neg y]))
theorem c_needKeyP (rc : RI c) (h : PC m tk N b p o) (h1 : ∀ m', nkS tk c p = .ok (p + 1) → (∀ c i, ¬ (c = 365 ∧ i = 2) → m' c i = m c i) → PC m' tk N b (p + 1) o → Q 0 m') (h0 : ∀ e, nkS tk c p = .error e → PEr T b m e) : P_X3_needKey c m Q T := by
  unfold nkS at h1 h0
  unfold P_X3_needKey P_X3_takesKey
  refine c_keyP rc h (fun y => ⟨by decide, ?_⟩) (fun y => ⟨by decide, ?_⟩)
  · rw [if_neg (by decide)]
    refine c_goP h (ky_kd y) (fun m' a f g => ⟨by decide, ?_⟩) (fun e a => h0 e (by rw [if_pos y]; exact a))
    rw [if_neg (by decide)]
    exact h1 m' (by rw [if_pos y]; exact a) f g
  · rw [if_pos rfl]
    refine ⟨by decide, ?_⟩
    rw [if_pos rfl]
    exact c_synP h (h0 _ (by rw [if_neg y]))
theorem op_ok {q : Int} (h : PC m tk N b p o) (hk : 1 ≤ (tk p).1 ∧ (tk p).1 ≤ 5) (a : opS tk p o = .ok q) : q = p + 1 ∧ o < 12 ∧ 0 ≤ q ∧ q < N ∧ q ≤ 150 := by
  unfold opS at a
  by_cases y : o = 12 ∧ p < 150
  · rw [if_pos y] at a; cases a
  · rw [if_neg y] at a
    have n := h.nx hk a
    have ob := h.2.2.2.2
    exact ⟨n.1, by omega, n.2⟩
theorem c_opensP (h : PC m tk N b p o) (hk : 1 ≤ (tk p).1 ∧ (tk p).1 ≤ 5) (h1 : ∀ m', opS tk p o = .ok (p + 1) → (∀ c i, ¬ (c = 365 ∧ (i = 2 ∨ i = 3)) → m' c i = m c i) → PC m' tk N b (p + 1) (o + 1) → Q 0 m') (h0 : ∀ e, opS tk p o = .error e → PEr T b m e) : P_X3_opens m Q T := by
  refine c_opensC h.1.2.1 h.2.2.1.1 h.at h.2.2.2.1 h.2.2.2.2 (fun q m' a f e2 e3 => ?_) (fun e a => (h0 e a).thr h.2.1)
  obtain ⟨n1, n2, n3⟩ := op_ok h hk a
  subst n1
  exact h1 m' a f (h.fr (fun c i _ z => f c i z) ⟨e2, n3⟩ ⟨e3, by have := h.2.2.2.2; omega⟩)
theorem c_needOpenP (rc : RI c) (h : PC m tk N b p o) (h1 : ∀ m', noS tk c p o = .ok (p + 1) → (∀ c i, ¬ (c = 365 ∧ (i = 2 ∨ i = 3)) → m' c i = m c i) → PC m' tk N b (p + 1) (o + 1) → Q 0 m') (h0 : ∀ e, noS tk c p o = .error e → PEr T b m e) : P_X3_needOpen c m Q T := by
  unfold noS at h1 h0
  unfold P_X3_needOpen
  refine c_signP rc h (fun y => ⟨by decide, ?_⟩) (fun y => ⟨by decide, ?_⟩)
  · rw [if_pos y] at h1 h0
    rw [if_neg (by decide)]
    exact c_opensP h (sg_kd y) h1 h0
  · rw [if_neg y] at h0
    rw [if_pos rfl]
    exact c_synP h (h0 _ rfl)
theorem c_closesP (rc : RI c) (h : PC m tk N b p o) (o1 : 1 ≤ o) (h1 : ∀ m', ndS tk c p = .ok (p + 1) → (∀ c i, ¬ (c = 365 ∧ (i = 2 ∨ i = 3)) → m' c i = m c i) → PC m' tk N b (p + 1) (o - 1) → Q 0 m') (h0 : ∀ e, ndS tk c p = .error e → PEr T b m e) : P_X3_closes c m Q T := by
  unfold P_X3_closes
  refine c_needP rc h (fun m1 a f g => ?_) h0
  rintro m2 rfl
  have e3 : m1 365 3 = o := g.2.2.2.1
  refine h1 _ a (fun c i z => ?_) (g.fr (fun c i _ z => up_ne (fun y => z ⟨y.1, Or.inr y.2⟩)) ⟨?_, g.2.2.1.2⟩ ⟨?_, by have := h.2.2.2.2; omega⟩)
  · rw [up_ne (fun y => z ⟨y.1, Or.inr y.2⟩)]; exact f c i (fun y => z ⟨y.1, Or.inl y.2⟩)
  · rw [up_ne (by omega)]; exact g.2.2.1.1
  · rw [up_at, e3]
end STEPP
