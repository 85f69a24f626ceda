set_option maxRecDepth 100000
/-! the component's machine: its state -/
/-- a frame: its code's number, where it goes on, its first parameter, its own number -/
abbrev Fr : Type := Int × Int × Int × Int
def frG (m : MM) : List Fr → Prop
  | [] => True
  | x :: l => frG m l ∧ (0 ≤ x.1 ∧ x.1 < 48) ∧ m 382 (l.length : Int) = x.1 ∧ m 383 (l.length : Int) = x.2.1 ∧ m 384 (l.length : Int) = x.2.2.1 ∧ m 385 (l.length : Int) = x.2.2.2
def cntF (k : Int) : List Fr → Int
  | [] => 0
  | x :: l => cntF k l + (if x.1 = k then 1 else 0)
/-- codes that are kept are right -/
def CaO (m : MM) (F : Int → FnR) (n : Int) : Prop := ∀ k, 0 ≤ k → k < 48 → m (389 + 4 * k) 4 = -1 ∨ ∃ f R z, m (389 + 4 * k) 4 = f ∧ (0 ≤ f ∧ f < n) ∧ m (389 + 4 * k) 5 = encO R ∧ (∀ x, R = some x → ok3 x ∧ x.1 ≠ -2) ∧ instS (F f) 0 R = some z ∧ CoA m (389 + 4 * k) 0 (cgW F (JEf F f R) 2 (rootF (F f)) z)
/-- functions told -/
def BkO (m : MM) (F : Int → FnR) (n : Int) : Prop := (0 ≤ n ∧ n ≤ 20) ∧ BKh m F n ∧ ∀ f, 0 ≤ f → f < n → (∃ lo hi, TN m (8 + 17 * f) (rootF (F f)).1 (rootF (F f)).2 lo hi (m (8 + 17 * f) 2)) ∧ m (8 + 17 * f) 1 = 2 ∧ szT (rootF (F f)).2 ≤ 150 ∧ vT (rootF (F f)) ≤ 59
def MsI (m : MM) (F : Int → FnR) (n : Int) (fr : List Fr) : Prop := (m 376 13 = (fr.length : Int) ∧ fr.length ≤ 21) ∧ frG m fr ∧ (∀ k, 0 ≤ k → k < 48 → m (389 + 4 * k) 6 = cntF k fr) ∧ (0 ≤ m 376 6 ∧ m 376 6 < 48) ∧ CaO m F n ∧ BkO m F n ∧ (m 376 17 = 374 ∧ m 376 18 = 375) ∧ AR (m 376 19) (m 376 20)
def MsD (m : MM) (mo : Int) (l : List SV) (p : Int) (s : ES) : Prop := m 378 2 = 0 ∧ stG m l ∧ m 376 8 = (l.length : Int) ∧ m 376 14 = p ∧ m 376 15 = s.1 ∧ m 376 16 = s.2 ∧ m 378 1 = mo
def VcO (m : MM) (E : EVm) (fl : Int) : Prop := (∀ v y, 0 ≤ v → E.1.2.1 v = some y → v < 200 ∧ VC (m 374) (882 * v) y.2.1 y.2.2 (E.2.2.2.2 v)) ∧ (fl ≠ 2 → ∀ w i y, E.1.1 w = some (i, y) → (0 ≤ i ∧ i < 20) ∧ VC (m 375) (882 * i) y.2.1 y.2.2 (E.2.2.2.1 i))
def MS (m : MM) (F : Int → FnR) (n : Int) (E : EVm) (fl : Int) (fr : List Fr) (l : List SV) (p : Int) (s : ES) : Prop := MsI m F n fr ∧ MsD m E.2.1 l p s ∧ VcO m E fl ∧ (fr.length : Int) = E.2.2.1 + 1 ∧ 0 ≤ E.2.2.1 ∧ (0 ≤ s.1 ∧ s.1 ≤ 20000) ∧ (0 ≤ s.2 ∧ s.2 ≤ 20)
def slF (fr : List Fr) : Int := 389 + 4 * (fr.headD (0, 0, 0, 0)).1
/-- parameters lie in the stack -/
def NmO (E : EVm) (fl : Int) (fr : List Fr) (l : List SV) : Prop := (fr.headD (0, 0, 0, 0)).2.2.2 = E.2.1 ∧ (fl = 2 → ∀ w i y, E.1.1 w = some (i, y) → ∃ pre suf, l = pre ++ (y.2.1, y.2.2, E.2.2.2.1 i) :: suf ∧ (fr.headD (0, 0, 0, 0)).2.2.1 + i = (suf.length : Int))
/-- what working may change: codes in use stay -/
def FmC (n : Int) (fr : List Fr) (m m' : MM) : Prop := (∀ x, x ∈ fr → ∀ c i, 389 + 4 * x.1 + 1 ≤ c → c ≤ 389 + 4 * x.1 + 3 → m' c i = m c i) ∧ ∀ c i, ¬ (372 ≤ c ∧ c ≤ 373) → ¬ (376 ≤ c ∧ c ≤ 580) → ¬ (c = 3 ∧ i = 7) → ¬ (∃ b, isTx b ∧ b < 8 + 17 * n ∧ b + 6 ≤ c ∧ c ≤ b + 8) → m' c i = m c i
def Go (Q : Int → MM → Prop) (x2 : Int) (R : Nat) (m : MM) : Prop := ∀ r, R ≤ r → P_X6_run_64 Q r x2 m
section MSS
variable {Q : Int → MM → Prop} {m m' m1 : MM} {F : Int → FnR} {n : Int} {E : EVm} {fl : Int} {fr : List Fr} {l l' : List SV} {p : Int} {s : ES} {x2 : Int} {R : Nat}
theorem FmC.refl : FmC n fr m m := ⟨fun _ _ _ _ _ _ => rfl, fun _ _ _ _ _ _ => rfl⟩
theorem FmC.trans (h : FmC n fr m m1) (g : FmC n fr m1 m') : FmC n fr m m' := ⟨fun x hx c i a1 a2 => (g.1 x hx c i a1 a2).trans (h.1 x hx c i a1 a2), fun c i a1 a2 a3 a4 => (g.2 c i a1 a2 a3 a4).trans (h.2 c i a1 a2 a3 a4)⟩
theorem FmC.up (h : FmC n fr m m') : FmC (n + 1) fr m m' := ⟨h.1, fun c i a1 a2 a3 a4 => h.2 c i a1 a2 a3 (fun ⟨b, t, w, q⟩ => a4 ⟨b, t, by omega, q⟩)⟩
theorem frG.in : ∀ {fr : List Fr}, frG m fr → ∀ x, x ∈ fr → 0 ≤ x.1 ∧ x.1 < 48 := by
  intro fr
  induction fr with
  | nil => intro _ x hx; cases hx
  | cons y fr ih =>
    intro h x hx
    rcases List.mem_cons.1 hx with rfl | hx
    · exact h.2.1
    · exact ih h.1 x hx
theorem frG.keep : ∀ {fr : List Fr}, frG m fr → (∀ c i, 382 ≤ c → c ≤ 385 → 0 ≤ i → i < (fr.length : Int) → m' c i = m c i) → frG m' fr := by
  intro fr
  induction fr with
  | nil => intro _ _; trivial
  | cons y fr ih =>
    intro h f
    obtain ⟨h1, h2, h3, h4, h5, h6⟩ := h
    rw [List.length_cons] at f
    refine ⟨ih h1 (fun c i a1 a2 a3 a4 => f c i a1 a2 a3 (by omega)), h2, ?_, ?_, ?_, ?_⟩
    · rw [f _ _ (by decide) (by decide) (by omega) (by omega)]; exact h3
    · rw [f _ _ (by decide) (by decide) (by omega) (by omega)]; exact h4
    · rw [f _ _ (by decide) (by decide) (by omega) (by omega)]; exact h5
    · rw [f _ _ (by decide) (by decide) (by omega) (by omega)]; exact h6
theorem cntF_nn (k : Int) : ∀ fr : List Fr, 0 ≤ cntF k fr ∧ cntF k fr ≤ (fr.length : Int) := by
  intro fr
  induction fr with
  | nil => exact ⟨Int.le_refl _, Int.le_refl _⟩
  | cons y fr ih =>
    show 0 ≤ cntF k fr + _ ∧ cntF k fr + _ ≤ ((fr.length + 1 : Nat) : Int)
    split <;> omega
theorem cntF_in {k : Int} : ∀ {fr : List Fr}, cntF k fr = 0 → ∀ x, x ∈ fr → x.1 ≠ k := by
  intro fr
  induction fr with
  | nil => intro _ x hx; cases hx
  | cons y fr ih =>
    intro h x hx e
    have h : cntF k fr + (if y.1 = k then 1 else 0) = 0 := h
    have := cntF_nn k fr
    rcases List.mem_cons.1 hx with rfl | hx
    · rw [if_pos e] at h; omega
    · refine ih ?_ x hx e
      split at h <;> omega
/-- what a step changes -/
theorem FKm.fm (f : FKm m m') (hi : ∀ x, x ∈ fr → 0 ≤ x.1 ∧ x.1 < 48) : FmC n fr m m' := by
  refine ⟨fun x hx c i a1 a2 => ?_, fun c i a1 a2 a3 a4 => ?_⟩
  · have := hi x hx
    exact f.1 c i (by omega) (by omega) (by omega) (by omega) (by omega) (by omega) (by omega)
  · exact f.1 c i (by omega) (by omega) (by omega) (by omega) (by omega) (by omega) (by omega)
theorem BkO.lw (h : BkO m F n) (f : ∀ c i, c < 365 → m' c i = m c i) : BkO m' F n := by
  obtain ⟨h1, h2, h3⟩ := h
  refine ⟨h1, h2.lw f, fun k k0 k1 => ?_⟩
  obtain ⟨⟨lo, hi, a1⟩, a2, a3, a4⟩ := h3 k k0 k1
  have tb := tx_b2 (isTx_k (k := k) (by omega))
  exact ⟨⟨lo, hi, by rw [f _ _ (by omega)]; exact a1.lw f (isTx_k (by omega))⟩, by rw [f _ _ (by omega)]; exact a2, a3, a4⟩
theorem MsI.eq (h : MsI m F n fr) (f : ∀ c i, c < 365 ∨ (382 ≤ c ∧ c ≤ 385) ∨ (389 ≤ c ∧ c ≤ 580) ∨ (c = 376 ∧ (i = 6 ∨ i = 13 ∨ i = 17 ∨ i = 18)) → m' c i = m c i) (ar : AR (m' 376 19) (m' 376 20)) : MsI m' F n fr := by
  obtain ⟨⟨h1, h1'⟩, h2, h3, h4, h5, h6, h7, -⟩ := h
  refine ⟨⟨by rw [f _ _ (by omega)]; exact h1, h1'⟩, h2.keep (fun c i a1 a2 _ _ => f c i (by omega)), fun k k0 k1 => by rw [f _ _ (by omega)]; exact h3 k k0 k1, by rw [f _ _ (by omega)]; exact h4, fun k k0 k1 => ?_, h6.lw (fun c i a => f c i (.inl a)), by rw [f 376 17 (by omega), f 376 18 (by omega)]; exact h7, ar⟩
  rw [f _ _ (by omega), f _ _ (by omega)]
  rcases h5 k k0 k1 with q | ⟨g, R, z, q1, q2, q3, q4, q5, q6⟩
  · exact .inl q
  · exact .inr ⟨g, R, z, q1, q2, q3, q4, q5, q6.fr (fun c i a _ _ => f c i (by omega))⟩
theorem MsI.fk (h : MsI m F n fr) (f : FKm m m') : MsI m' F n fr := h.eq (fun c i a => f.1 c i (by omega) (by omega) (by omega) (by omega) (by omega) (by omega) (by omega)) f.2
theorem VcO.fm (h : VcO m E fl) (f : ∀ i, m' 374 i = m 374 i ∧ m' 375 i = m 375 i) : VcO m' E fl := by
  have e4 : m' 374 = m 374 := funext (fun i => (f i).1)
  have e5 : m' 375 = m 375 := funext (fun i => (f i).2)
  unfold VcO
  rw [e4, e5]; exact h
/-- a step's answer -/
theorem MS.fk (h : MS m F n E fl fr l p s) (f : FKm m m') (er : m' 378 2 = 0) (st : stG m' l') (tp : m' 376 8 = (l'.length : Int)) : MS m' F n E fl fr l' p s := by
  obtain ⟨h1, ⟨d1, d2, d3, d4, d5, d6, d7⟩, h3, h4, h5⟩ := h
  have e : ∀ c i, c ≠ 379 → c ≠ 381 → c ≠ 386 → c ≠ 387 → c ≠ 388 → ¬ (c = 378 ∧ i = 2) → ¬ (c = 376 ∧ (i = 8 ∨ i = 19 ∨ i = 20)) → m' c i = m c i := f.1
  exact ⟨h1.fk f, ⟨er, st, tp, by rw [e _ _ (by decide) (by decide) (by decide) (by decide) (by decide) (by decide) (by decide)]; exact d4, by rw [e _ _ (by decide) (by decide) (by decide) (by decide) (by decide) (by decide) (by decide)]; exact d5, by rw [e _ _ (by decide) (by decide) (by decide) (by decide) (by decide) (by decide) (by decide)]; exact d6, by rw [e _ _ (by decide) (by decide) (by decide) (by decide) (by decide) (by decide) (by decide)]; exact d7⟩, h3.fm (fun i => ⟨e _ _ (by decide) (by decide) (by decide) (by decide) (by decide) (by omega) (by omega), e _ _ (by decide) (by decide) (by decide) (by decide) (by decide) (by omega) (by omega)⟩), h4, h5⟩
/-- some of the quick fields are set -/
theorem MS.up (h : MS m F n E fl fr l p s) {q v8 : Int} {s' : ES} (hs : (0 ≤ s'.1 ∧ s'.1 ≤ 20000) ∧ (0 ≤ s'.2 ∧ s'.2 ≤ 20)) (f : ∀ c i, ¬ (c = 376 ∧ (i = 8 ∨ i = 14 ∨ i = 15 ∨ i = 16)) → m' c i = m c i) (e14 : m' 376 14 = q) (e15 : m' 376 15 = s'.1) (e16 : m' 376 16 = s'.2) (st : stG m' l') (tp : m' 376 8 = (l'.length : Int)) : MS m' F n E fl fr l' q s' := by
  obtain ⟨h1, ⟨d1, d2, d3, d4, d5, d6, d7⟩, h3, h4, h5⟩ := h
  exact ⟨h1.eq (fun c i a => f c i (by omega)) (by rw [f _ _ (by decide), f _ _ (by decide)]; exact h1.2.2.2.2.2.2.2), ⟨by rw [f _ _ (by decide)]; exact d1, st, tp, e14, e15, e16, by rw [f _ _ (by decide)]; exact d7⟩, h3.fm (fun i => ⟨f _ _ (by omega), f _ _ (by omega)⟩), h4, h5.1, hs⟩
theorem fm_up (f : ∀ c i, ¬ (c = 376 ∧ (i = 8 ∨ i = 14 ∨ i = 15 ∨ i = 16)) → m' c i = m c i) (hi : ∀ x, x ∈ fr → 0 ≤ x.1 ∧ x.1 < 48) : FmC n fr m m' := ⟨fun x hx c i a1 a2 => by have := hi x hx; exact f c i (by omega), fun c i a1 a2 _ _ => f c i (by omega)⟩
theorem stG.eq (h : stG m l) (f : ∀ i, m' 379 i = m 379 i ∧ m' 381 i = m 381 i) : stG m' l := h.fr (fun q _ => (f q).1) (fun i _ _ => (f i).2)
/-- one instruction -/
theorem run1 {op a b : Int} (h : MS m F n E fl fr l p s) (hC : CoA m (slF fr) p [(op, a, b)]) (hp : 0 ≤ p ∧ p < 1200) (k : ∀ m1, MS m1 F n E fl fr l (p + 1) s → FmC n fr m m1 → ∀ r, R ≤ r → P_X6_perform op a b m1 (fun _ m2 => P_X6_run_64 Q r x2 m2)) : Go Q x2 (R + 1) m := by
  intro r hr
  obtain ⟨r, rfl⟩ : ∃ r', r = r' + 1 := ⟨r - 1, by omega⟩
  have h0 := h
  obtain ⟨h1, ⟨d1, d2, d3, d4, d5, d6, d7⟩, h3, h4, h5⟩ := h
  obtain ⟨⟨f1, f2⟩, f3, f4⟩ := h1
  cases fr with
  | nil => rw [List.length_nil] at h4; omega
  | cons x fr =>
    obtain ⟨g1, g2, g3, g4, g5, g6⟩ := f3
    have e13 : m 376 13 - 1 = (fr.length : Int) := by rw [f1, List.length_cons]; omega
    have lb : fr.length + 1 ≤ 21 := by rw [List.length_cons] at f2; exact f2
    unfold P_X6_run_64
    rw [d1]
    refine ⟨by decide, ?_⟩
    rw [if_pos rfl, e13, g3, d4]
    refine ⟨by rw [f1]; constructor <;> omega, ?_⟩
    rw [if_neg (by omega)]
    refine ⟨by omega, g2, ?_⟩
    intro m1 e1
    have ne : ∀ c i, ¬ (c = 376 ∧ i = 14) → m1 c i = m c i := fun c i z => by rw [e1, up_ne z]
    have fr1 : ∀ c i, ¬ (c = 376 ∧ (i = 8 ∨ i = 14 ∨ i = 15 ∨ i = 16)) → m1 c i = m c i := fun c i z => ne c i (by omega)
    have S1 : MS m1 F n E fl (x :: fr) l (p + 1) s := h0.up (v8 := 0) h5.2 fr1 (by rw [e1, up_at]) (by rw [ne _ _ (by decide)]; exact d5) (by rw [ne _ _ (by decide)]; exact d6) (d2.eq (fun i => ⟨ne _ _ (by omega), ne _ _ (by omega)⟩)) (by rw [ne _ _ (by decide)]; exact d3)
    refine ⟨by unfold isCd; omega, by omega, ?_⟩
    have C := (CoA.cons.1 hC).1
    have es : slF (x :: fr) = 389 + 4 * x.1 := rfl
    rw [es] at C
    rw [ne _ _ (by omega), ne _ _ (by omega), ne _ _ (by omega), C.1, C.2.1, C.2.2]
    exact k m1 S1 (fm_up fr1 (fun y hy => frG.in (m := m) (fr := x :: fr) ⟨g1, g2, g3, g4, g5, g6⟩ y hy)) r (by omega)
end MSS
