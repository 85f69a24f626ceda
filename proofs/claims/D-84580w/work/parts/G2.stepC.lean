set_option maxRecDepth 100000
/-! the component's parser: one token -/
/-- tokens lie there: what the parser may look at -/
def TKs (m : MM) (tk : Int → TK) (N : Int) : Prop := (0 ≤ N ∧ N ≤ 401) ∧ ∀ i, 0 ≤ i → i < N → m 368 i = (tk i).1 ∧ m 369 i = (tk i).2.1 ∧ m 370 i = (tk i).2.2.2 ∧ ((tk i).1 = 2 → m 371 i = (tk i).2.2.1) ∧ RI (tk i).1 ∧ RI (tk i).2.1 ∧ (0 ≤ (tk i).2.2.2 ∧ (tk i).2.2.2 ≤ 400)
/-- a fault is thrown: its kind, its place -/
def ThrS (T : MM → Prop) (e : Int × Int) (m : MM) : Prop := ∀ m', (∀ c i, ¬ (c = 365 ∧ (i = 4 ∨ i = 5)) → m' c i = m c i) → m' 365 4 = e.1 → m' 365 5 = e.2 → T m'
section STEPC
variable {Q : Int → MM → Prop} {T : MM → Prop} {m : MM} {tk : Int → TK} {N p c : Int}
theorem c_faultC {k w : Int} (h : ThrS T (k, w) m) : P_X3_fail k w m Q T := by
  rintro m1 rfl m2 rfl
  refine h _ (fun c i z => ?_) ?_ (up_at ..)
  · rw [up_ne (fun y => z ⟨y.1, Or.inr y.2⟩), up_ne (fun y => z ⟨y.1, Or.inl y.2⟩)]
  · rw [up_ne (by omega), up_at]
theorem c_hereC (hT : TKs m tk N) (hp : m 365 2 = p) (pb : 0 ≤ p ∧ p < N) (h : Q (plS tk p) m) : P_X3_here m Q := by
  have nb := hT.1
  unfold P_X3_here
  rw [hp, (hT.2 p pb.1 pb.2).2.2.1]
  exact ⟨by omega, h⟩
theorem c_isSignC (rc : RI c) (hT : TKs m tk N) (hp : m 365 2 = p) (pb : 0 ≤ p ∧ p < N) (h1 : isSg tk c p → Q 1 m) (h0 : ¬ isSg tk c p → Q 0 m) : P_X3_isSign c m Q := by
  have nb := hT.1
  obtain ⟨a1, a2, a3, a4, a5, a6, a7⟩ := hT.2 p pb.1 pb.2
  unfold P_X3_isSign
  rw [hp, a1, a2]
  refine ⟨by omega, a5, ?_⟩
  by_cases y : (tk p).1 = 5
  · rw [if_pos y]
    refine ⟨a6, rc, ?_⟩
    by_cases z : (tk p).2.1 = c
    · rw [if_pos z]; exact h1 ⟨y, z⟩
    · rw [if_neg z]; exact h0 (fun u => z u.2)
  · rw [if_neg y]; exact h0 (fun u => y u.1)
theorem c_isKeyC (rc : RI c) (hT : TKs m tk N) (hp : m 365 2 = p) (pb : 0 ≤ p ∧ p < N) (h1 : isKy tk c p → Q 1 m) (h0 : ¬ isKy tk c p → Q 0 m) : P_X3_isKey c m Q := by
  have nb := hT.1
  obtain ⟨a1, a2, a3, a4, a5, a6, a7⟩ := hT.2 p pb.1 pb.2
  unfold P_X3_isKey
  rw [hp, a1, a2]
  refine ⟨by omega, a5, ?_⟩
  by_cases y : (tk p).1 = 3
  · rw [if_pos y]
    refine ⟨a6, rc, ?_⟩
    by_cases z : (tk p).2.1 = c
    · rw [if_pos z]; exact h1 ⟨y, z⟩
    · rw [if_neg z]; exact h0 (fun u => z u.2)
  · rw [if_neg y]; exact h0 (fun u => y u.1)
theorem c_goC (hT : TKs m tk N) (hp : m 365 2 = p) (pb : 0 ≤ p ∧ p < N) (h1 : ∀ q m', goS tk p = .ok q → m' = up m 365 2 q → Q 0 m') (h0 : ∀ e, goS tk p = .error e → ThrS T e m) : P_X3_go m Q T := by
  have nb := hT.1
  unfold P_X3_go
  rw [hp]
  refine ⟨by constructor <;> omega, ?_⟩
  unfold goS at h1 h0
  by_cases y : p < 150
  · rw [if_pos y]
    rintro m1 rfl
    exact h1 (p + 1) _ (by rw [if_neg (by omega)]) rfl
  · rw [if_neg y]
    exact c_hereC hT hp pb (c_faultC (h0 _ (by rw [if_pos (by omega)])))
theorem c_takesC (rc : RI c) (hT : TKs m tk N) (hp : m 365 2 = p) (pb : 0 ≤ p ∧ p < N) (h1 : ∀ q m', isSg tk c p → goS tk p = .ok q → m' = up m 365 2 q → Q 1 m') (h0 : ¬ isSg tk c p → Q 0 m) (he : ∀ e, isSg tk c p → goS tk p = .error e → ThrS T e m) : P_X3_takes c m Q T := by
  refine c_isSignC rc hT hp pb (fun y => ⟨by decide, ?_⟩) (fun y => ⟨by decide, ?_⟩)
  · rw [if_neg (by decide)]
    exact c_goC hT hp pb (fun q m' a b => h1 q m' y a b) (fun e a => he e y a)
  · rw [if_pos rfl]; exact h0 y
theorem c_needC (rc : RI c) (hT : TKs m tk N) (hp : m 365 2 = p) (pb : 0 ≤ p ∧ p < N) (h1 : ∀ q m', ndS tk c p = .ok q → m' = up m 365 2 q → Q 0 m') (h0 : ∀ e, ndS tk c p = .error e → ThrS T e m) : P_X3_need c m Q T := by
  unfold ndS at h1 h0
  refine c_takesC rc hT hp pb (fun q m' y a b => ⟨by decide, ?_⟩) (fun y => ⟨by decide, ?_⟩) (fun e y a => h0 e (by rw [if_pos y]; exact a))
  · rw [if_neg (by decide)]; exact h1 q m' (by rw [if_pos y]; exact a) b
  · rw [if_pos rfl]
    exact c_hereC hT hp pb (c_faultC (h0 _ (by rw [if_neg y])))
theorem c_needKeyC (rc : RI c) (hT : TKs m tk N) (hp : m 365 2 = p) (pb : 0 ≤ p ∧ p < N) (h1 : ∀ q m', nkS tk c p = .ok q → m' = up m 365 2 q → Q 0 m') (h0 : ∀ e, nkS tk c p = .error e → ThrS T e m) : P_X3_needKey c m Q T := by
  unfold nkS at h1 h0
  unfold P_X3_needKey P_X3_takesKey
  refine c_isKeyC rc hT hp pb (fun y => ⟨by decide, ?_⟩) (fun y => ⟨by decide, ?_⟩)
  · rw [if_neg (by decide)]
    refine c_goC hT hp pb (fun q m' a b => ⟨by decide, ?_⟩) (fun e a => h0 e (by rw [if_pos y]; exact a))
    rw [if_neg (by decide)]
    exact h1 q m' (by rw [if_pos y]; exact a) b
  · rw [if_pos rfl]
    refine ⟨by decide, ?_⟩
    rw [if_pos rfl]
    exact c_hereC hT hp pb (c_faultC (h0 _ (by rw [if_neg y])))
theorem c_opensC {o : Int} (hT : TKs m tk N) (hp : m 365 2 = p) (pb : 0 ≤ p ∧ p < N) (ho : m 365 3 = o) (ob : 0 ≤ o ∧ o ≤ 12) (h1 : ∀ q m', opS tk p o = .ok q → (∀ c i, ¬ (c = 365 ∧ (i = 2 ∨ i = 3)) → m' c i = m c i) → m' 365 2 = q → m' 365 3 = o + 1 → Q 0 m') (h0 : ∀ e, opS tk p o = .error e → ThrS T e m) : P_X3_opens m Q T := by
  have nb := hT.1
  unfold opS at h1 h0
  have go : ¬ (o = 12 ∧ p < 150) → P_X3_opens_28 Q T m := by
    intro y
    rw [if_neg y] at h1 h0
    refine c_goC hT hp pb (fun q m1 a b => ?_) h0
    subst b
    rintro m2 rfl
    refine h1 q _ a (fun c i z => ?_) ?_ ?_
    · rw [up_ne (fun y => z ⟨y.1, Or.inr y.2⟩), up_ne (fun y => z ⟨y.1, Or.inl y.2⟩)]
    · rw [up_ne (by omega), up_at]
    · rw [up_at, up_ne (by omega), ho]
  unfold P_X3_opens
  rw [ho, hp]
  refine ⟨by constructor <;> omega, ?_⟩
  by_cases y : o = 12
  · rw [if_pos y]
    refine ⟨by constructor <;> omega, ?_⟩
    by_cases z : 150 ≤ p
    · rw [if_pos z]; exact go (by omega)
    · rw [if_neg z]
      exact c_hereC hT hp pb (c_faultC (h0 _ (by rw [if_pos (by omega)])))
  · rw [if_neg y]; exact go (by omega)
theorem c_needOpenC {o : Int} (rc : RI c) (hT : TKs m tk N) (hp : m 365 2 = p) (pb : 0 ≤ p ∧ p < N) (ho : m 365 3 = o) (ob : 0 ≤ o ∧ o ≤ 12) (h1 : ∀ q m', noS tk c p o = .ok q → (∀ c i, ¬ (c = 365 ∧ (i = 2 ∨ i = 3)) → m' c i = m c i) → m' 365 2 = q → m' 365 3 = o + 1 → Q 0 m') (h0 : ∀ e, noS tk c p o = .error e → ThrS T e m) : P_X3_needOpen c m Q T := by
  unfold noS at h1 h0
  unfold P_X3_needOpen
  refine c_isSignC rc hT hp pb (fun y => ⟨by decide, ?_⟩) (fun y => ⟨by decide, ?_⟩)
  · rw [if_pos y] at h1 h0
    rw [if_neg (by decide)]
    exact c_opensC hT hp pb ho ob h1 h0
  · rw [if_neg y] at h0
    rw [if_pos rfl]
    exact c_hereC hT hp pb (c_faultC (h0 _ rfl))
theorem c_closesC {o : Int} (rc : RI c) (hT : TKs m tk N) (hp : m 365 2 = p) (pb : 0 ≤ p ∧ p < N) (ho : m 365 3 = o) (h1 : ∀ q m', ndS tk c p = .ok q → (∀ c i, ¬ (c = 365 ∧ (i = 2 ∨ i = 3)) → m' c i = m c i) → m' 365 2 = q → m' 365 3 = o - 1 → Q 0 m') (h0 : ∀ e, ndS tk c p = .error e → ThrS T e m) : P_X3_closes c m Q T := by
  unfold P_X3_closes
  refine c_needC rc hT hp pb (fun q m1 a b => ?_) h0
  subst b
  rintro m2 rfl
  refine h1 q _ a (fun c i z => ?_) ?_ ?_
  · rw [up_ne (fun y => z ⟨y.1, Or.inr y.2⟩), up_ne (fun y => z ⟨y.1, Or.inl y.2⟩)]
  · rw [up_ne (by omega), up_at]
  · rw [up_at, up_ne (by omega), ho]
end STEPC
