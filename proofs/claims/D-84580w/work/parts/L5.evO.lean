set_option maxRecDepth 100000
/-! what parts come to: environments in which parts are worked -/
theorem candS_rule {f : FnR} {l : List R3} {p : Int} {R : Option R3} (h : candS f l = some (p, R)) : R ≠ none → f.2.2.1 ≠ 0 := by
  intro hR
  unfold candS at h
  split at h
  · cases h
  · split at h
    · split at h
      · cases h
      · cases h; exact absurd rfl hR
    · assumption
theorem mtS_rule {F : Int → FnR} {n w : Int} {rc : List R3} {f : Int} {R : Option R3} {z : R3} (h : mtS F n w rc = some (f, R, z)) : R ≠ none → (F f).2.2.1 ≠ 0 := by
  unfold mtS at h
  split at h
  · cases h
  · split at h
    · cases h
    case h_2 x hx =>
      split at h
      · cases h
      case h_2 y hy =>
        cases h
        obtain ⟨j, p, R⟩ := x
        exact candS_rule (bestS_bd _ j p R hx).2.1
def BodyOK (F : Int → FnR) (f : Int) : Prop := ∀ R, (R = none ↔ (F f).2.2.1 = 0) → (∀ r, R = some r → ok3 r ∧ (r.1 = 0 ∨ r.1 = 1 ∨ r.1 = 20000 ∨ r.1 = 20001) ∧ canS (F f) r) → ∃ x z, rgS (JEf F f R) (rootF (F f)).1 (rootF (F f)).2 = some x ∧ instS (F f) 0 R = some z ∧ gs x z
def FOK (F : Int → FnR) (n : Int) : Prop := FBs F n ∧ ∀ f, 0 ≤ f → f < n → ((0 ≤ (rootF (F f)).1.1 ∧ (rootF (F f)).1.1 ≤ 25) ∧ okN (rootF (F f)).1 (rootF (F f)).2 ∧ wfT (rootF (F f)).2) ∧ BodyOK F f
def EvO (F : Int → FnR) (n : Int) (E : EVm) : Prop := FOK F n ∧
  ((∃ f R, E.1 = JEf F f R ∧ (0 ≤ f ∧ f < n) ∧ (R = none → (F f).2.2.1 = 0) ∧ (∀ r, R = some r → (ok3 r ∧ r.1 ≠ -2) ∧ okMo r.1 E.2.1) ∧ ∀ k, 1 ≤ k → k ≤ (F f).2.1 → ∀ z, instS (F f) k R = some z → VR E.2.1 z (E.2.2.2.1 (k - 1)))
  ∨ (0 ≤ n ∧ ∃ nr resR nv varN varR, E.1 = JEl F n nr resR nv varN varR ∧ (∀ v, 0 ≤ v → v < nr → ok3 (resR v) ∧ (resR v).1 < 20000 ∧ VR E.2.1 (resR v) (E.2.2.2.2 v)) ∧ (∀ v, 0 ≤ v → v < nv → ok3 (varR v) ∧ (varR v).1 < 20000 ∧ VR E.2.1 (varR v) (E.2.2.2.1 v))))
section EVO
variable {F : Int → FnR} {n : Int} {E : EVm}
theorem FBs.le {n' : Int} (h : FBs F n) (hn : n' ≤ n) : FBs F n' := fun k k0 k1 => h k k0 (by omega)
theorem jf_nm {f : Int} {R : Option R3} {w i : Int} {y : R3} (h : (JEf F f R).1 w = some (i, y)) : ∃ j, (1 ≤ j ∧ j < 1 + ((F f).2.1.toNat : Int)) ∧ instS (F f) j R = some y ∧ i = j - 1 := by
  have h : (match fstI (F f).2.2.2.1 w (F f).2.1.toNat 1 with
    | none => none
    | some j => match instS (F f) j R with
      | none => none
      | some z => some (j - 1, z)) = some (i, y) := h
  cases hs : fstI (F f).2.2.2.1 w (F f).2.1.toNat 1 with
  | none => rw [hs] at h; cases h
  | some j =>
    rw [hs] at h
    simp only at h
    have jb := fstI_bd _ _ _ hs
    cases hi : instS (F f) j R with
    | none => rw [hi] at h; cases h
    | some z =>
      rw [hi] at h
      injection h with h
      injection h with h1 h2
      subst h2
      exact ⟨j, ⟨jb.1, jb.2.1⟩, hi, h1.symm⟩
theorem jl_nm {nr nv : Int} {resR varR : Int → R3} {varN : Int → Int} {w i : Int} {y : R3} (h : (JEl F n nr resR nv varN varR).1 w = some (i, y)) : (0 ≤ i ∧ i < 0 + (nv.toNat : Int)) ∧ y = varR i := by
  have h : (match fstI varN w nv.toNat 0 with
    | none => none
    | some v => some (v, varR v)) = some (i, y) := h
  cases hs : fstI varN w nv.toNat 0 with
  | none => rw [hs] at h; cases h
  | some j =>
    rw [hs] at h
    injection h with h
    injection h with h3 h4
    subst h3 h4
    have jb := fstI_bd _ _ _ hs
    exact ⟨⟨jb.1, jb.2.1⟩, rfl⟩
theorem jl_rs {nr nv : Int} {resR varR : Int → R3} {varN : Int → Int} {v : Int} {y : R3} (h : (JEl F n nr resR nv varN varR).2.1 v = some y) : v < nr ∧ y = resR v := by
  have h : (if v < nr then some (resR v) else none) = some y := h
  by_cases c : v < nr
  · rw [if_pos c] at h; injection h with h; exact ⟨c, h.symm⟩
  · rw [if_neg c] at h; cases h
/-- whom a call means -/
theorem EvO.call (h : EvO F n E) : ∃ n', (0 ≤ n' ∧ n' ≤ n) ∧ E.1.2.2.2.1 = mtS F n' := by
  rcases h.2 with ⟨f, R, e, hf, -⟩ | ⟨hn, nr, rR, nv, vN, vR, e, -⟩
  · exact ⟨f + 1, by omega, by rw [e]; rfl⟩
  · exact ⟨n, by omega, by rw [e]; rfl⟩
theorem EvO.R (h : EvO F n E) : ∀ r, E.1.2.2.2.2 = some r → (ok3 r ∧ r.1 ≠ -2) ∧ okMo r.1 E.2.1 := by
  rcases h.2 with ⟨f, R, e, hf, -, hR, -⟩ | ⟨hn, nr, rR, nv, vN, vR, e, -⟩
  · rw [e]; exact hR
  · rw [e]; intro r hr; cases hr
theorem EvO.jok (h : EvO F n E) : JEok E.1 := by
  have hF := h.1.1
  obtain ⟨n', hn', ec⟩ := h.call
  have hR := h.R
  have cl : ∀ w rc f R z, (∀ x, x ∈ rc → ok3 x) → E.1.2.2.2.1 w rc = some (f, R, z) → ok3 z := by
    intro w rc f R z hr hc
    rw [ec] at hc
    exact (mtS_ok hn'.1 (fun k k0 k1 => (hF k k0 (by omega)).1) hr hc).1
  refine ⟨?_, ?_, cl, fun x hx => (hR x hx).1.1⟩
  · intro w i y hy
    rcases h.2 with ⟨f, R, e, hf, h0, hR', -⟩ | ⟨hn, nr, rR, nv, vN, vR, e, hr, hv⟩
    · rw [e] at hy
      obtain ⟨j, jb, hi, -⟩ := jf_nm hy
      have Ff := (hF f hf.1 hf.2).1
      exact instS_ok Ff (by have := Ff.1; omega) (fun x hx => (hR' x hx).1) hi
    · rw [e] at hy
      obtain ⟨ib, rfl⟩ := jl_nm hy
      exact (hv i ib.1 (by omega)).1
  · intro v y v0 hy
    rcases h.2 with ⟨f, R, e, hf, -⟩ | ⟨hn, nr, rR, nv, vN, vR, e, hr, hv⟩
    · rw [e] at hy; cases hy
    · rw [e] at hy
      obtain ⟨vb, rfl⟩ := jl_rs hy
      exact (hr v v0 vb).1
theorem EvO.jb (h : EvO F n E) : JEb E.1 := by
  have hF := h.1.1
  rcases h.2 with ⟨f, R, e, hf, -⟩ | ⟨hn, nr, rR, nv, vN, vR, e, hr, hv⟩
  · rw [e]; exact JEb_f hf.1 (hF.le (by omega))
  · rw [e]; exact JEb_l hF (fun v v0 v1 => (hr v v0 v1).2.1) (fun v v0 v1 => (hv v v0 v1).2.1)
theorem EvO.mo (h : EvO F n E) {b : Int} (hb : Bse E.1.2.2.2.2 b) : okMo b E.2.1 := by
  rcases hb with hb | ⟨r, hr, rfl⟩
  · exact okMo_lt hb
  · exact (h.R r hr).2
theorem EvO.nm (h : EvO F n E) {w i : Int} {y : R3} (hy : E.1.1 w = some (i, y)) : VR E.2.1 y (E.2.2.2.1 i) := by
  rcases h.2 with ⟨f, R, e, hf, h0, hR', hp⟩ | ⟨hn, nr, rR, nv, vN, vR, e, hr, hv⟩
  · rw [e] at hy
    obtain ⟨j, jb, hi, rfl⟩ := jf_nm hy
    have Ff := (h.1.1 f hf.1 hf.2).1
    exact hp j jb.1 (by have := Ff.1; omega) y hi
  · rw [e] at hy
    obtain ⟨ib, rfl⟩ := jl_nm hy
    exact (hv i ib.1 (by omega)).2.2
theorem EvO.rs (h : EvO F n E) {v : Int} {y : R3} (v0 : 0 ≤ v) (hy : E.1.2.1 v = some y) : VR E.2.1 y (E.2.2.2.2 v) := by
  rcases h.2 with ⟨f, R, e, hf, -⟩ | ⟨hn, nr, rR, nv, vN, vR, e, hr, hv⟩
  · rw [e] at hy; cases hy
  · rw [e] at hy
    obtain ⟨vb, rfl⟩ := jl_rs hy
    exact (hr v v0 vb).2.2
/-! results of working -/
theorem andE_ok {r : ER} {k : VV → ES → ER} {U : VV} {s : ES} (h : andE r k = (.ok U, s)) : ∃ V s1, r = (.ok V, s1) ∧ k V s1 = (.ok U, s) := by
  obtain ⟨r1, s1⟩ := r
  cases r1 with
  | error x => unfold andE at h; simp only at h; injection h with h1 h2; cases h1
  | ok V => exact ⟨V, s1, rfl, h⟩
theorem evP_ok {rec : EVm → PT → ES → ER} {c : TT} {z : R3} {k : Nat} {s s' : ES} {U : VV} (h : evP rec E c z k s = (.ok U, s')) : ∃ V, rec E (prT c k) s = (.ok V, s') ∧ U = conv E.2.1 (rgN E.1 (prT c k)) z V := by
  obtain ⟨V, s1, h1, h2⟩ := andE_ok h
  injection h2 with h3 h4
  injection h3 with h3
  subst h4
  exact ⟨V, h1, h3.symm⟩
theorem evN_ok {ev1 : Nat → ES → ER} : ∀ (n k : Nat) (g g' : Nat → VV) (s s' : ES), evN ev1 n k g s = (.ok g', s') → (∀ i, k ≤ i → i < k + n → ∃ s1 s2, ev1 i s1 = (.ok (g' i), s2)) ∧ ∀ i, i < k → g' i = g i := by
  intro n
  induction n with
  | zero =>
    intro k g g' s s' h
    injection h with h1 h2
    injection h1 with h1
    subst h1
    exact ⟨fun i i0 i1 => by omega, fun i _ => rfl⟩
  | succ n ih =>
    intro k g g' s s' h
    unfold evN at h
    cases he : ev1 k s with
    | mk r s1 =>
      rw [he] at h
      cases r with
      | error x => simp only at h; injection h with h1 h2; cases h1
      | ok V =>
        simp only at h
        obtain ⟨i1, i2⟩ := ih (k + 1) _ g' s1 s' h
        refine ⟨fun i i0 i1' => ?_, fun i hi => ?_⟩
        · by_cases c : i = k
          · subst c
            have := i2 i (by omega)
            rw [if_pos rfl] at this
            rw [this]
            exact ⟨s, s1, he⟩
          · exact i1 i (by omega) (by omega)
        · have := i2 i (by omega)
          rw [if_neg (by omega)] at this
          exact this
theorem prT_wf : ∀ {t : TT} {k : Nat}, wfT t → k < lenT t → okN (prT t k).1 (prT t k).2 ∧ wfT (prT t k).2 := by
  intro t
  induction t with
  | leaf => intro k _ h; exact absurd h (Nat.not_lt_zero _)
  | inner z d u c s ihc ihs =>
    intro k w h
    cases k with
    | zero => exact ⟨w.1, w.2.1⟩
    | succ k => exact ihs w.2.2 (by have h : k + 1 < lenT s + 1 := h; omega)
theorem prT_kd : ∀ {t : TT} {k : Nat}, allP t → k < lenT t → 0 ≤ (prT t k).1.1 ∧ (prT t k).1.1 ≤ 25 := by
  intro t
  induction t with
  | leaf => intro k _ h; exact absurd h (Nat.not_lt_zero _)
  | inner z d u c s ihc ihs =>
    intro k w h
    cases k with
    | zero => exact w.1
    | succ k => exact ihs w.2 (by have h : k + 1 < lenT s + 1 := h; omega)
theorem prc_gs {f : FnR} {R : Option R3} : ∀ {l : List R3} {k acc p : Int}, prcS f R k acc l = some p → ∀ i, i < l.length → ∀ a, l[i]? = some a → ∃ z, instS f (k + (i : Int)) R = some z ∧ gs a z := by
  intro l
  induction l with
  | nil => intro k acc p _ i hi; exact absurd hi (Nat.not_lt_zero _)
  | cons b l ih =>
    intro k acc p h i hi a ha
    unfold prcS at h
    cases hz : instS f k R with
    | none => rw [hz] at h; cases h
    | some z =>
      rw [hz] at h
      simp only at h
      by_cases c : jn b z = some z
      · rw [if_pos c] at h
        cases i with
        | zero =>
          simp at ha
          subst ha
          exact ⟨z, by rw [show k + ((0 : Nat) : Int) = k by omega]; exact hz, c⟩
        | succ i =>
          simp at ha
          obtain ⟨z', q1, q2⟩ := ih h i (by rw [List.length_cons] at hi; omega) a ha
          exact ⟨z', by rw [show k + ((i + 1 : Nat) : Int) = k + 1 + (i : Int) by omega]; exact q1, q2⟩
      · rw [if_neg c] at h; cases h
theorem mat_VR {mo : Int} {b d s : Int} {g : Nat → VV} (hb : b ≠ -2) (hM : MU (muR b mo)) (hs : 1 ≤ s ∧ s ≤ 3) (h : ∀ i : Nat, (i : Int) < s * s → VR mo (b, d, 0) (g i)) : VR mo (b, d, s) (matV s g) := by
  have rw_s : rws s = s := by
    have := enn_cs (s := s) (by omega)
    omega
  have ix : ∀ i j : Int, 0 ≤ i → i < s → 0 ≤ j → j < s → (((s * i + j).toNat : Nat) : Int) < s * s := by
    intro i j i0 i1 j0 j1
    rcases (show s = 1 ∨ s = 2 ∨ s = 3 by omega) with rfl | rfl | rfl <;> omega
  refine ⟨⟨fun i j k => ?_, fun i j k hn => ?_⟩, fun q => absurd q hb⟩
  · unfold matV
    rw [rw_s]
    by_cases c : (0 ≤ i ∧ i < s) ∧ 0 ≤ j ∧ j < s
    · rw [if_pos c]; exact (h _ (ix i j c.1.1 c.1.2 c.2.1 c.2.2)).1.1 0 0 k
    · rw [if_neg c]; exact NB_zr hM
  · have hn : ¬ ((0 ≤ i ∧ i < rws s) ∧ (0 ≤ j ∧ j < rws s) ∧ k < cof d) := hn
    unfold matV
    rw [rw_s] at hn ⊢
    by_cases c : (0 ≤ i ∧ i < s) ∧ 0 ≤ j ∧ j < s
    · rw [if_pos c]
      refine (h _ (ix i j c.1.1 c.1.2 c.2.1 c.2.2)).1.2 0 0 k ?_
      show ¬ ((0 ≤ (0 : Int) ∧ (0 : Int) < rws 0) ∧ (0 ≤ (0 : Int) ∧ (0 : Int) < rws 0) ∧ k < cof d)
      intro z
      exact hn ⟨c.1, c.2, z.2.2⟩
    · rw [if_neg c]; rfl
end EVO
