set_option maxRecDepth 100000
/-! what parts come to: rings of parts; bases -/
section EVB1
variable {e : JE}
theorem jd_prt : ∀ (t : TT) (k : Nat), k < lenT t → (jdS e t).1[k]? = some (rgS e (prT t k).1 (prT t k).2) := by
  intro t
  induction t with
  | leaf => intro k h; exact absurd h (Nat.not_lt_zero _)
  | inner z d u c s ihc ihs =>
    intro k h
    cases k with
    | zero => rfl
    | succ k => exact ihs k (by have h : k + 1 < lenT s + 1 := h; omega)
theorem jd_len : ∀ (t : TT), (jdS e t).1.length = lenT t := by
  intro t
  induction t with
  | leaf => rfl
  | inner z d u c s ihc ihs => show (jdS e s).1.length + 1 = lenT s + 1; rw [ihs]
theorem allS_get : ∀ {l : List (Option R3)} {rc : List R3}, allS l = some rc → rc.length = l.length ∧ (∀ (k : Nat) (o : Option R3), l[k]? = some o → ∃ y, o = some y ∧ rc[k]? = some y) ∧ rc = l.map (fun o => o.getD (0, 0, 0)) := by
  intro l
  induction l with
  | nil => intro rc h; cases h; exact ⟨rfl, fun k o h => by simp at h, rfl⟩
  | cons a l ih =>
    intro rc h
    cases a with
    | none => cases h
    | some x =>
      have h' : (match allS l with
        | none => none
        | some r => some (x :: r)) = some rc := h
      cases hl : allS l with
      | none => rw [hl] at h'; cases h'
      | some r =>
        rw [hl] at h'
        injection h' with h'
        subst h'
        obtain ⟨i1, i2, i3⟩ := ih hl
        refine ⟨by rw [List.length_cons, List.length_cons, i1], fun k o hk => ?_, by rw [List.map_cons, ← i3]; rfl⟩
        cases k with
        | zero => simp at hk; exact ⟨x, hk.symm, by simp⟩
        | succ k => simp at hk; simpa using i2 k o hk
/-- a part whose ring is found: so are those of its parts -/
theorem nd_inv {d : ND} {c : TT} {x : R3} (h30 : d.1 < 30) (h : rgS e d c = some x) : ∃ rc, allS (jdS e c).1 = some rc ∧ ownS e d rc = some x ∧ (d.1 = 5 → e.2.2.1 d.2.2.2) := by
  unfold rgS nodeS at h
  rw [if_neg (by omega)] at h
  by_cases y : d.1 = 5 ∧ ¬ e.2.2.1 d.2.2.2
  · rw [if_pos y] at h; cases h
  · rw [if_neg y] at h
    cases ha : allS (jdS e c).1 with
    | none => rw [ha] at h; cases h
    | some rc =>
      rw [ha] at h
      cases ho : ownS e d rc with
      | none => simp only [ho] at h; cases h
      | some r =>
        simp only [ho] at h
        have h : r = x := by injection h
        subst h
        exact ⟨rc, rfl, ho, fun z => Classical.byContradiction fun w => y ⟨z, w⟩⟩
theorem rc_at {c : TT} {rc : List R3} (h : allS (jdS e c).1 = some rc) : rc.length = lenT c ∧ ∀ k, k < lenT c → rgS e (prT c k).1 (prT c k).2 = some (rgN e (prT c k)) ∧ rc[k]? = some (rgN e (prT c k)) := by
  obtain ⟨h1, h2, -⟩ := allS_get h
  rw [jd_len] at h1
  refine ⟨h1, fun k hk => ?_⟩
  obtain ⟨y, hy1, hy2⟩ := h2 k _ (jd_prt c k hk)
  have : rgN e (prT c k) = y := by unfold rgN; rw [hy1]; rfl
  rw [this]
  exact ⟨hy1, hy2⟩
theorem rc_1 {c : TT} {rc : List R3} (h : allS (jdS e c).1 = some rc) (hl : lenT c = 1) : rc = [rgN e (prT c 0)] := by
  obtain ⟨h1, h2⟩ := rc_at h
  have a0 := (h2 0 (by omega)).2
  cases rc with
  | nil => simp at a0
  | cons x l =>
    rw [List.length_cons] at h1
    cases l with
    | cons _ _ => rw [List.length_cons] at h1; omega
    | nil => simp at a0; rw [a0]
theorem rc_2 {c : TT} {rc : List R3} (h : allS (jdS e c).1 = some rc) (hl : lenT c = 2) : rc = [rgN e (prT c 0), rgN e (prT c 1)] := by
  obtain ⟨h1, h2⟩ := rc_at h
  have a0 := (h2 0 (by omega)).2
  have a1 := (h2 1 (by omega)).2
  cases rc with
  | nil => simp at a0
  | cons x l =>
    rw [List.length_cons] at h1
    cases l with
    | nil => simp at a1
    | cons y l =>
      rw [List.length_cons] at h1
      cases l with
      | cons _ _ => rw [List.length_cons] at h1; omega
      | nil => simp at a0 a1; rw [a0, a1]
theorem rc_3 {c : TT} {rc : List R3} (h : allS (jdS e c).1 = some rc) (hl : lenT c = 3) : rc = [rgN e (prT c 0), rgN e (prT c 1), rgN e (prT c 2)] := by
  obtain ⟨h1, h2⟩ := rc_at h
  have a0 := (h2 0 (by omega)).2
  have a1 := (h2 1 (by omega)).2
  have a2 := (h2 2 (by omega)).2
  cases rc with
  | nil => simp at a0
  | cons x l =>
    rw [List.length_cons] at h1
    cases l with
    | nil => simp at a1
    | cons y l =>
      rw [List.length_cons] at h1
      cases l with
      | nil => simp at a2
      | cons z l =>
        rw [List.length_cons] at h1
        cases l with
        | cons _ _ => rw [List.length_cons] at h1; omega
        | nil => simp at a0 a1 a2; rw [a0, a1, a2]
/-! bases -/
/-- bases that occur: those of rings that are written, and R's -/
def Bse (R : Option R3) (b : Int) : Prop := b < 20000 ∨ ∃ r, R = some r ∧ r.1 = b
theorem jn_base {x y z : R3} (h : jn x y = some z) : z.1 = x.1 ∨ z.1 = y.1 := by
  unfold jn at h
  by_cases c : x = y
  · rw [if_pos c] at h; injection h with h; rw [← h]; exact .inl rfl
  · rw [if_neg c] at h
    by_cases c : x.1 = -2 ∨ y.1 = -2
    · rw [if_pos c] at h; cases h
    · rw [if_neg c] at h
      by_cases c : (x.1 = y.1 ∨ x.1 = 0 ∨ y.1 = 0) ∧ (x.2.2 = y.2.2 ∨ x.2.2 = 0 ∨ y.2.2 = 0)
      · rw [if_pos c] at h
        injection h with h
        rw [← h]
        show (if x.1 = 0 then y.1 else x.1) = x.1 ∨ (if x.1 = 0 then y.1 else x.1) = y.1
        by_cases c : x.1 = 0
        · rw [if_pos c]; exact .inr rfl
        · rw [if_neg c]; exact .inl rfl
      · rw [if_neg c] at h; cases h
theorem frac_base (z : R3) : (frac z).1 = 1 ∨ (frac z).1 = z.1 := by
  show (if z.1 = 0 then (1 : Int) else z.1) = 1 ∨ (if z.1 = 0 then (1 : Int) else z.1) = z.1
  by_cases c : z.1 = 0
  · rw [if_pos c]; exact .inl rfl
  · rw [if_neg c]; exact .inr rfl
theorem tyO_base {R : Option R3} : ∀ (t : TT), wfT t → ∀ x, (tyO R t).1 = some x → Bse R x.1 := by
  intro t
  induction t with
  | leaf => intro _ x h; cases h
  | inner z d u c s ihc ihs =>
    intro w x hx
    obtain ⟨w0, wc, -⟩ := w
    unfold tyO at hx
    by_cases c0 : d.1 = 30
    · rw [if_pos c0] at hx
      injection hx with hx
      rw [← hx]
      exact .inl (by have := w0.2.2.2.2.2.2.1 c0; show d.2.2.1 < 20000; omega)
    rw [if_neg c0] at hx
    by_cases c1 : d.1 = 31
    · rw [if_pos c1] at hx
      injection hx with hx
      rw [← hx]
      exact .inl (by show (-2 : Int) < 20000; decide)
    rw [if_neg c1] at hx
    by_cases c2 : d.1 = 32
    · rw [if_pos c2] at hx
      cases R with
      | none => cases hx
      | some r =>
        injection hx with hx
        rw [← hx]
        exact .inr ⟨r, rfl, rfl⟩
    rw [if_neg c2] at hx
    by_cases c3 : d.1 = 33
    · rw [if_pos c3] at hx
      by_cases c4 : d.2.2.1 < 2 ∨ 9973 < d.2.2.1
      · rw [if_pos c4] at hx; cases hx
      · rw [if_neg c4] at hx
        injection hx with hx
        rw [← hx]
        exact .inl (by show d.2.2.1 < 20000; omega)
    rw [if_neg c3] at hx
    unfold overO at hx
    cases hi : (tyO R c).1 with
    | none => rw [hi] at hx; cases hx
    | some y =>
      have By := ihc wc y hi
      rw [hi] at hx
      simp only at hx
      by_cases c4 : y.1 = -2 ∨ y.2.2 ≠ 0
      · rw [if_pos c4] at hx; cases hx
      rw [if_neg c4] at hx
      by_cases c5 : d.1 = 34
      · rw [if_pos c5] at hx
        by_cases c6 : y.2.1 = 2
        · rw [if_pos c6] at hx; cases hx
        · rw [if_neg c6] at hx
          injection hx with hx
          rw [← hx]; exact By
      · rw [if_neg c5] at hx
        by_cases c6 : badM d
        · rw [if_pos c6] at hx; cases hx
        · rw [if_neg c6] at hx
          injection hx with hx
          rw [← hx]; exact By
theorem instS_base {f : FnR} {k : Int} {R : Option R3} {z : R3} (hf : (f.2.2.2.2.2.1 k).1 < 20000) (h : instS f k R = some z) : Bse R z.1 := by
  unfold instS at h
  by_cases c : f.2.2.2.2.1 k = 0
  · rw [if_pos c] at h
    injection h with h
    rw [← h]; exact .inl hf
  · rw [if_neg c] at h
    cases R with
    | none => cases h
    | some r =>
      simp only at h
      by_cases c : (¬ ((f.2.2.2.2.2.1 k).2.1 = 0 ∧ (f.2.2.2.2.2.1 k).2.2 = 0) ∧ r.2.2 ≠ 0) ∨ 2 < r.2.1 + (f.2.2.2.2.2.1 k).2.1
      · rw [if_pos c] at h; cases h
      · rw [if_neg c] at h
        injection h with h
        rw [← h]; exact .inr ⟨r, rfl, rfl⟩
/-- what a part can speak of has such bases -/
def JEb (e : JE) : Prop := (∀ w i y, e.1 w = some (i, y) → Bse e.2.2.2.2 y.1) ∧ (∀ v y, 0 ≤ v → e.2.1 v = some y → Bse e.2.2.2.2 y.1) ∧ (∀ w rc f R z, (∀ x, x ∈ rc → Bse e.2.2.2.2 x.1) → e.2.2.2.1 w rc = some (f, R, z) → Bse e.2.2.2.2 z.1 ∧ ∀ r, R = some r → Bse e.2.2.2.2 r.1)
theorem Bse.lt {R : Option R3} {b : Int} (h : b < 20000) : Bse R b := .inl h
theorem Bse.eq {R : Option R3} {b c : Int} (h : Bse R b) (e : c = b) : Bse R c := by rw [e]; exact h
theorem Bse.jn {R : Option R3} {x y z : R3} (hx : Bse R x.1) (hy : Bse R y.1) (h : jn x y = some z) : Bse R z.1 := by
  rcases jn_base h with e | e
  · exact hx.eq e
  · exact hy.eq e
theorem Bse.fr {R : Option R3} {x : R3} (hx : Bse R x.1) : Bse R (frac x).1 := by
  rcases frac_base x with e | e
  · rw [e]; exact .inl (by decide)
  · exact hx.eq e
theorem fn1S_base {R : Option R3} {f : Int} {a z : R3} (ha : Bse R a.1) (h : fn1S f a = some z) : Bse R z.1 := by
  have z0 : Bse R ((0, 0, 0) : R3).1 := .inl (by decide)
  unfold fn1S at h
  repeat' split at h
  all_goals first
    | (cases h; done)
    | (injection h with h; subst h; first | exact z0 | exact ha | exact ha.fr)
theorem fn2S_base {R : Option R3} {f : Int} {a b z : R3} (ha : Bse R a.1) (hb : Bse R b.1) (h : fn2S f a b = some z) : Bse R z.1 := by
  unfold fn2S at h
  by_cases c : f = 0
  · rw [if_pos c] at h
    cases hj : jn a b with
    | none => rw [hj] at h; cases h
    | some j =>
      rw [hj] at h
      simp only at h
      by_cases c : dvds j
      · rw [if_pos c] at h; injection h with h; rw [← h]; exact Bse.jn ha hb hj
      · rw [if_neg c] at h; cases h
  rw [if_neg c] at h
  by_cases c : a.1 = -2 ∨ a.2.2 ≠ 0 ∨ a.2.1 = 0
  · rw [if_pos c] at h; cases h
  rw [if_neg c] at h
  by_cases c : f = 2
  · rw [if_pos c] at h
    by_cases c : b = (0, 0, 0)
    · rw [if_pos c] at h; injection h with h; rw [← h]; exact ha
    · rw [if_neg c] at h; cases h
  rw [if_neg c] at h
  by_cases c : b.1 = -2
  · rw [if_pos c] at h; cases h
  · rw [if_neg c] at h
    exact Bse.jn (x := (a.1, a.2.1 - 1, 0)) ha hb h
theorem jnL_base {R : Option R3} : ∀ (l : List R3) (j z : R3), Bse R j.1 → (∀ x, x ∈ l → Bse R x.1) → jnL j l = some z → Bse R z.1 := by
  intro l
  induction l with
  | nil => intro j z hj _ h; injection h with h; rw [← h]; exact hj
  | cons a l ih =>
    intro j z hj hl h
    unfold jnL at h
    cases hk : jn j a with
    | none => rw [hk] at h; cases h
    | some k =>
      rw [hk] at h
      exact ih k z (Bse.jn hj (hl a (by simp)) hk) (fun x hx => hl x (List.mem_cons_of_mem _ hx)) h
theorem twoS_base {R : Option R3} {k : Int} {a b z : R3} (ha : Bse R a.1) (hb : Bse R b.1) (h : twoS k a b = some z) : Bse R z.1 := by
  have z2 : Bse R ((-2, 0, 0) : R3).1 := .inl (by decide)
  unfold twoS at h
  cases hj : jn a b with
  | none => rw [hj] at h; cases h
  | some j =>
    have Bj := Bse.jn ha hb hj
    rw [hj] at h
    simp only at h
    repeat' split at h
    all_goals first
      | (cases h; done)
      | (injection h with h; subst h; first | exact z2 | exact Bj | exact Bj.fr)
theorem ownS_base {d : ND} {rc : List R3} {z : R3} (he : JEb e) (hv : 0 ≤ d.2.2.1) (hr : ∀ x, x ∈ rc → Bse e.2.2.2.2 x.1) (h : ownS e d rc = some z) : Bse e.2.2.2.2 z.1 := by
  have z0 : ∀ {a b c : Int}, a < 20000 → some ((a, b, c) : R3) = some z → Bse e.2.2.2.2 z.1 := fun ha h => by injection h with h; rw [← h]; exact .inl ha
  unfold ownS at h
  by_cases c : d.1 = 0
  · rw [if_pos c] at h; exact z0 (by decide) h
  rw [if_neg c] at h
  by_cases c : d.1 = 1
  · rw [if_pos c] at h; exact z0 (by decide) h
  rw [if_neg c] at h
  by_cases c : d.1 = 2
  · rw [if_pos c] at h; exact z0 (by decide) h
  rw [if_neg c] at h
  by_cases c : d.1 = 3
  · rw [if_pos c] at h; exact he.2.1 _ _ hv h
  rw [if_neg c] at h
  by_cases c : d.1 = 4
  · rw [if_pos c] at h
    cases hn : e.1 d.2.2.2 with
    | none => rw [hn] at h; cases h
    | some x =>
      rw [hn] at h
      injection h with h
      have := he.1 d.2.2.2 x.1 x.2 hn
      rw [h] at this; exact this
  rw [if_neg c] at h
  by_cases c : d.1 = 5
  · rw [if_pos c] at h
    cases hn : e.2.2.2.1 d.2.2.2 rc with
    | none => rw [hn] at h; cases h
    | some x =>
      rw [hn] at h
      injection h with h
      have := (he.2.2 d.2.2.2 rc x.1 x.2.1 x.2.2 hr hn).1
      rw [h] at this; exact this
  rw [if_neg c] at h
  by_cases c : d.1 = 6
  · rw [if_pos c] at h
    unfold fnS at h
    split at h
    · split at h
      · cases h
      · exact fn1S_base (hr _ (by simp)) h
    · split at h
      · exact fn2S_base (hr _ (by simp)) (hr _ (by simp)) h
      · cases h
    · cases h
  rw [if_neg c] at h
  by_cases c : d.1 = 7
  · rw [if_pos c] at h
    unfold mxS at h
    cases rc with
    | nil => cases h
    | cons a l =>
      simp only at h
      cases hj : jnL a l with
      | none => rw [hj] at h; cases h
      | some j =>
        rw [hj] at h
        simp only at h
        by_cases c : 0 < d.2.2.1 ∧ j.1 ≠ -2 ∧ j.2.2 = 0
        · rw [if_pos c] at h
          injection h with h
          rw [← h]
          exact jnL_base l a j (hr a (by simp)) (fun x hx => hr x (List.mem_cons_of_mem _ hx)) hj
        · rw [if_neg c] at h; cases h
  rw [if_neg c] at h
  split at h
  · rename_i a
    have Ba := hr a (by simp)
    by_cases c : d.1 = 11
    · rw [if_pos c] at h
      by_cases c : a.1 = -2
      · rw [if_pos c] at h; exact z0 (by decide) h
      · rw [if_neg c] at h; cases h
    rw [if_neg c] at h
    by_cases c : d.1 = 22
    · rw [if_pos c] at h
      by_cases c : a.1 = -2
      · rw [if_pos c] at h; cases h
      · rw [if_neg c] at h; injection h with h; rw [← h]; exact Ba
    rw [if_neg c] at h
    by_cases c : a.1 ≠ -2 ∧ d.2.2.1 ≤ 12
    · rw [if_pos c] at h; injection h with h; rw [← h]; exact Ba
    · rw [if_neg c] at h; cases h
  · rename_i a b
    have Ba := hr a (by simp)
    have Bb := hr b (by simp)
    by_cases c : d.1 = 24
    · rw [if_pos c] at h
      by_cases c : jn a b = some b
      · rw [if_pos c] at h; injection h with h; rw [← h]; exact Bb
      · rw [if_neg c] at h; cases h
    rw [if_neg c] at h
    by_cases c : d.1 = 25
    · rw [if_pos c] at h
      by_cases c : jn b a = some a
      · rw [if_pos c] at h; injection h with h; rw [← h]; exact Bb
      · rw [if_neg c] at h; cases h
    rw [if_neg c] at h
    exact twoS_base Ba Bb h
  · rename_i a b c'
    by_cases c : a.1 = -2
    · rw [if_pos c] at h; exact Bse.jn (hr b (by simp)) (hr c' (by simp)) h
    · rw [if_neg c] at h; cases h
  · cases h
/-- every ring that is found has such a base -/
theorem jd_base (he : JEb e) : ∀ (t : TT), wfT t → ∀ x, some x ∈ (jdS e t).1 → Bse e.2.2.2.2 x.1 := by
  intro t
  induction t with
  | leaf => intro _ x h; cases h
  | inner z d u c s ihc ihs =>
    intro w x hx
    obtain ⟨w0, wc, ws⟩ := w
    have hx' : some x ∈ rgS e d c :: (jdS e s).1 := hx
    rcases List.mem_cons.1 hx' with h | h
    · by_cases h30 : 30 ≤ d.1
      · have e1 : rgS e d c = (tyO e.2.2.2.2 (nd d c lf)).1 := by unfold rgS nodeS; rw [if_pos h30]
        rw [e1] at h
        exact tyO_base (nd d c lf) ⟨w0, wc, trivial⟩ x h.symm
      · obtain ⟨rc, h1, h2, h3⟩ := nd_inv (by omega) h.symm
        refine ownS_base he w0.2.1.1 (fun y hy => ?_) h2
        obtain ⟨-, -, e3⟩ := allS_get h1
        obtain ⟨l1, l2, -⟩ := allS_get h1
        obtain ⟨k, hk, hy'⟩ := List.getElem_of_mem hy
        have hk' : k < (jdS e c).1.length := by omega
        obtain ⟨y', q1, q2⟩ := l2 k ((jdS e c).1[k]) (List.getElem?_eq_getElem hk')
        rw [List.getElem?_eq_getElem hk, hy'] at q2
        injection q2 with q2
        refine ihc wc y ?_
        rw [q2, ← q1]
        exact List.getElem_mem hk'
    · exact ihs ws x h
end EVB1
