set_option maxRecDepth 100000
/-! what parts come to: environments -/
def FBs (F : Int → FnR) (n : Int) : Prop := ∀ k, 0 ≤ k → k < n → okF (F k) ∧ ∀ j, 0 ≤ j → j ≤ (F k).2.1 → ((F k).2.2.2.2.2.1 j).1 < 20000
section EVE
variable {F : Int → FnR}
theorem fndS_base {R : Option R3} {f : FnR} : ∀ (l : List R3) (k : Int) (acc : Option R3), (∀ x, x ∈ l → Bse R x.1) → (∀ x, acc = some x → Bse R x.1) → ∀ z, fndS f k acc l = some z → Bse R z.1 := by
  intro l
  induction l with
  | nil => intro k acc _ ha z h; exact ha z h
  | cons a l ih =>
    intro k acc hl ha z h
    have Ba := hl a (by simp)
    have hl' : ∀ x, x ∈ l → Bse R x.1 := fun x hx => hl x (List.mem_cons_of_mem _ hx)
    unfold fndS at h
    by_cases c : f.2.2.2.2.1 k = 0
    · rw [if_pos c] at h; exact ih _ _ hl' ha z h
    rw [if_neg c] at h
    by_cases c : a.1 = -2
    · rw [if_pos c] at h; cases h
    rw [if_neg c] at h
    cases acc with
    | none => exact ih _ _ hl' (fun x hx => by injection hx with hx; rw [← hx]; exact Ba) z h
    | some r =>
      simp only at h
      cases hj : jn r (askS f k a) with
      | none => rw [hj] at h; cases h
      | some j =>
        rw [hj] at h
        exact ih _ _ hl' (fun x hx => by injection hx with hx; rw [← hx]; exact Bse.jn (ha r rfl) (y := askS f k a) Ba hj) z h
theorem foundS_base {R : Option R3} {f : FnR} {l : List R3} {z : R3} (hl : ∀ x, x ∈ l → Bse R x.1) (h : foundS f l = some z) : Bse R z.1 := by
  unfold foundS at h
  cases hf : fndS f 1 none l with
  | none => rw [hf] at h; cases h
  | some r =>
    have Br := fndS_base l 1 none hl (fun x hx => by cases hx) r hf
    rw [hf] at h
    simp only at h
    by_cases c : canS f (fldQ f r)
    · rw [if_pos c] at h
      injection h with h
      rw [← h]
      unfold fldQ
      by_cases c : f.2.2.1 = 3 ∧ r = (0, 0, 0)
      · rw [if_pos c]; exact .inl (by decide)
      · rw [if_neg c]; exact Br
    · rw [if_neg c] at h; cases h
theorem candS_cs {f : FnR} {l : List R3} {p : Int} {R : Option R3} (h : candS f l = some (p, R)) : R = none ∨ R = foundS f l := by
  unfold candS at h
  by_cases c : f.2.1 ≠ (l.length : Int)
  · rw [if_pos c] at h; cases h
  rw [if_neg c] at h
  by_cases c : f.2.2.1 = 0
  · rw [if_pos c] at h
    cases hp : prcS f none 1 0 l with
    | none => rw [hp] at h; cases h
    | some p => rw [hp] at h; injection h with h; injection h with h1 h2; exact .inl h2.symm
  rw [if_neg c] at h
  cases hf : foundS f l with
  | none => rw [hf] at h; cases h
  | some r =>
    rw [hf] at h
    simp only at h
    cases hp : prcS f (some r) 1 0 l with
    | none => rw [hp] at h; cases h
    | some p => rw [hp] at h; injection h with h; injection h with h1 h2; exact .inr h2.symm
theorem mtS_base {R0 : Option R3} {n w : Int} {rc : List R3} {f : Int} {R : Option R3} {z : R3} (hF : FBs F n) (hr : ∀ x, x ∈ rc → Bse R0 x.1) (h : mtS F n w rc = some (f, R, z)) : Bse R0 z.1 ∧ ∀ r, R = some r → Bse R0 r.1 := by
  unfold mtS at h
  by_cases c : 3 < rc.length
  · rw [if_pos c] at h; cases h
  rw [if_neg c] at h
  cases hb : bestS F w rc n.toNat with
  | none => rw [hb] at h; cases h
  | some x =>
    obtain ⟨j, p, R1⟩ := x
    rw [hb] at h
    simp only at h
    obtain ⟨b1, b2, -⟩ := bestS_bd _ _ _ _ hb
    cases hi : instS (F j) 0 R1 with
    | none => rw [hi] at h; cases h
    | some z1 =>
      rw [hi] at h
      injection h with h
      injection h with h1 h2
      injection h2 with h2 h3
      subst h1 h2 h3
      have FBj := hF j b1.1 (by omega)
      have Bz := instS_base (FBj.2 0 (Int.le_refl _) (by have := FBj.1.1; omega)) hi
      have BR : ∀ r, R1 = some r → Bse R0 r.1 := by
        intro r hr'
        rcases candS_cs b2 with e | e
        · rw [e] at hr'; cases hr'
        · rw [e] at hr'; exact foundS_base hr hr'
      refine ⟨?_, BR⟩
      rcases Bz with hz | ⟨r, hr1, hr2⟩
      · exact .inl hz
      · rw [← hr2]; exact BR r hr1
theorem JEb_f {f : Int} {R : Option R3} (f0 : 0 ≤ f) (hF : FBs F (f + 1)) : JEb (JEf F f R) := by
  have Ff := hF f f0 (by omega)
  refine ⟨fun w i y h => ?_, fun v y _ h => (by cases h), fun w rc g R' z hr h => mtS_base hF hr h⟩
  have h : (match fstI (F f).2.2.2.1 w (F f).2.1.toNat 1 with
    | none => none
    | some j => match instS (F f) j R with
      | none => none
      | some z => some (j - 1, z)) = some (i, y) := h
  cases hs : fstI (F f).2.2.2.1 w (F f).2.1.toNat 1 with
  | none => rw [hs] at h; cases h
  | some j =>
    rw [hs] at h
    simp only at h
    have jb := fstI_bd _ _ _ hs
    cases hi : instS (F f) j R with
    | none => rw [hi] at h; cases h
    | some z =>
      rw [hi] at h
      injection h with h
      injection h with h1 h2
      subst h2
      exact instS_base (Ff.2 j (by omega) (by have := Ff.1.1; omega)) hi
theorem JEb_l {n nr nv : Int} {resR varR : Int → R3} {varN : Int → Int} (hF : FBs F n) (h1 : ∀ v, 0 ≤ v → v < nr → (resR v).1 < 20000) (h2 : ∀ v, 0 ≤ v → v < nv → (varR v).1 < 20000) : JEb (JEl F n nr resR nv varN varR) := by
  refine ⟨fun w i y h => ?_, fun v y v0 h => ?_, fun w rc g R' z hr h => mtS_base hF hr h⟩
  · have h : (match fstI varN w nv.toNat 0 with
      | none => none
      | some v => some (v, varR v)) = some (i, y) := h
    cases hs : fstI varN w nv.toNat 0 with
    | none => rw [hs] at h; cases h
    | some j =>
      rw [hs] at h
      injection h with h
      injection h with h3 h4
      subst h4
      have jb := fstI_bd _ _ _ hs
      exact .inl (h2 j (by omega) (by omega))
  · have h : (if v < nr then some (resR v) else none) = some y := h
    by_cases c : v < nr
    · rw [if_pos c] at h
      injection h with h
      rw [← h]; exact .inl (h1 v v0 c)
    · rw [if_neg c] at h; cases h
/-! R as a function knows it -/
theorem nrm_cs {R : Option R3} {r : R3} (h : R = some r) (ho : ok3 r) (hb : r.1 ≠ -2) : ∃ r', nrmR R = some r' ∧ r'.2 = r.2 ∧ ok3 r' ∧ r'.1 ≠ -2 ∧ (∀ mo, muR r'.1 (ownM mo R) = muR r.1 mo) ∧ (r'.1 = 20000 ∧ isPb r.1 ∨ r'.1 = 20001 ∧ ¬ isPb r.1 ∨ r'.1 = r.1 ∧ (r.1 ≤ 1 ∨ 20000 ≤ r.1)) := by
  subst h
  unfold nrmR
  simp only
  by_cases c : 1 < r.1 ∧ r.1 < 20000
  · rw [if_pos c]
    have mu1 : muR r.1 = fun _ => r.1 := by
      funext mo
      unfold muR
      rw [if_neg hb, if_pos c.2]
    have own1 : ∀ mo, ownM mo (some r) = r.1 := fun mo => by
      show (if 20000 ≤ r.1 then mo else r.1) = r.1
      rw [if_neg (by omega)]
    by_cases p : isPb r.1
    · rw [if_pos p]
      refine ⟨(20000, r.2.1, r.2.2), rfl, rfl, ?_, by show (20000 : Int) ≠ -2; decide, fun mo => ?_, .inl ⟨rfl, p⟩⟩
      · rcases ho with h | h
        · exact absurd h.1 hb
        · exact .inr ⟨by show okb 20000; decide, h.2⟩
      · rw [own1, mu1]
        show (if (20000 : Int) = -2 then 0 else if (20000 : Int) < 20000 then 20000 else r.1) = r.1
        rw [if_neg (by decide), if_neg (by decide)]
    · rw [if_neg p]
      refine ⟨(20001, r.2.1, r.2.2), rfl, rfl, ?_, by show (20001 : Int) ≠ -2; decide, fun mo => ?_, .inr (.inl ⟨rfl, p⟩)⟩
      · rcases ho with h | h
        · exact absurd h.1 hb
        · exact .inr ⟨by show okb 20001; decide, h.2⟩
      · rw [own1, mu1]
        show (if (20001 : Int) = -2 then 0 else if (20001 : Int) < 20000 then 20001 else r.1) = r.1
        rw [if_neg (by decide), if_neg (by decide)]
  · rw [if_neg c]
    refine ⟨r, rfl, rfl, ho, hb, fun mo => ?_, .inr (.inr ⟨rfl, by omega⟩)⟩
    show muR r.1 (if 20000 ≤ r.1 then mo else r.1) = muR r.1 mo
    by_cases c2 : 20000 ≤ r.1
    · rw [if_pos c2]
    · rw [if_neg c2]
      unfold muR
      rw [if_neg hb, if_pos (by omega), if_neg hb, if_pos (by omega)]
theorem nrm_mo {R : Option R3} {r r' : R3} {mo : Int} (h : R = some r) (ho : ok3 r) (hb : r.1 ≠ -2) (hm : okMo r.1 mo) (h' : nrmR R = some r') : okMo r'.1 (ownM mo R) := by
  obtain ⟨r1, a1, a2, a3, a4, a5, a6⟩ := nrm_cs h ho hb
  rw [h'] at a1
  injection a1 with a1
  subst a1
  have bd : r.1 < 20000 → 0 ≤ r.1 ∧ r.1 ≤ 9973 := by
    intro z
    rcases ho with w | w
    · exact absurd w.1 hb
    · have := w.1; omega
  subst h
  have own : r.1 < 20000 → ownM mo (some r) = r.1 := fun z => by
    show (if 20000 ≤ r.1 then mo else r.1) = r.1
    rw [if_neg (by omega)]
  have own2 : 20000 ≤ r.1 → ownM mo (some r) = mo := fun z => if_pos z
  by_cases c : r.1 < 20000
  · rw [own c]
    have b := bd c
    refine ⟨fun z => ?_, fun z => ?_⟩
    · rcases a6 with ⟨-, p⟩ | ⟨e, -⟩ | ⟨e, -⟩
      · rcases p with p | p
        · omega
        · exact ⟨p.2, p.1⟩
      · omega
      · omega
    · rcases a6 with ⟨e, -⟩ | ⟨-, p⟩ | ⟨e, -⟩
      · omega
      · refine ⟨?_, b.2⟩
        have : 1 < r.1 := by
          unfold nrmR at h'
          simp only at h'
          by_cases c2 : 1 < r.1 ∧ r.1 < 20000
          · exact c2.1
          · rw [if_neg c2] at h'
            injection h' with h'
            rw [← h'] at z
            omega
        omega
      · omega
  · rw [own2 (by omega)]
    rcases a6 with ⟨e, p⟩ | ⟨e, p⟩ | ⟨e, -⟩
    · unfold nrmR at h'
      simp only at h'
      rw [if_neg (by omega)] at h'
      injection h' with h'
      rw [← h']; exact hm
    · unfold nrmR at h'
      simp only at h'
      rw [if_neg (by omega)] at h'
      injection h' with h'
      rw [← h']; exact hm
    · rw [e]; exact hm
/-- a function's ring by R, and by R as it knows it -/
theorem inst_nrm {f : FnR} {k mo : Int} {R : Option R3} {z : R3} (hR : ∀ r, R = some r → ok3 r ∧ r.1 ≠ -2) (hc : (f.2.2.2.2.2.1 k).1 < 20000) (h : instS f k R = some z) : ∃ z', instS f k (nrmR R) = some z' ∧ z'.2 = z.2 ∧ muR z'.1 (ownM mo R) = muR z.1 mo ∧ (z'.1 = -2 ↔ z.1 = -2) := by
  unfold instS at h ⊢
  by_cases c : f.2.2.2.2.1 k = 0
  · rw [if_pos c] at h ⊢
    injection h with h
    subst h
    refine ⟨_, rfl, rfl, ?_, Iff.rfl⟩
    unfold muR
    by_cases c1 : (f.2.2.2.2.2.1 k).1 = -2
    · rw [if_pos c1, if_pos c1]
    · rw [if_neg c1, if_neg c1, if_pos hc, if_pos hc]
  · rw [if_neg c] at h ⊢
    cases hr : R with
    | none => rw [hr] at h; cases h
    | some r =>
      obtain ⟨ho, hb⟩ := hR r hr
      obtain ⟨r', a1, a2, a3, a4, a5, a6⟩ := nrm_cs hr ho hb
      rw [hr] at h a1 a5
      rw [a1]
      simp only at h ⊢
      have e21 : r'.2.1 = r.2.1 := by rw [a2]
      have e22 : r'.2.2 = r.2.2 := by rw [a2]
      rw [e21, e22]
      by_cases c2 : (¬ ((f.2.2.2.2.2.1 k).2.1 = 0 ∧ (f.2.2.2.2.2.1 k).2.2 = 0) ∧ r.2.2 ≠ 0) ∨ 2 < r.2.1 + (f.2.2.2.2.2.1 k).2.1
      · rw [if_pos c2] at h; cases h
      · rw [if_neg c2] at h ⊢
        injection h with h
        subst h
        exact ⟨_, rfl, rfl, a5 mo, ⟨fun z => absurd z a4, fun z => absurd z hb⟩⟩
theorem VR_nrm {mo mo' : Int} {z z' : R3} {V : VV} (h : VR mo z V) (e2 : z'.2 = z.2) (em : muR z'.1 mo' = muR z.1 mo) (eb : z'.1 = -2 ↔ z.1 = -2) : VR mo' z' V := by
  refine ⟨?_, fun q => h.2 (eb.1 q)⟩
  rw [em, e2]; exact h.1
theorem can_nrm {f : FnR} {R : Option R3} {r r' : R3} (h : R = some r) (ho : ok3 r) (hb : r.1 ≠ -2) (hc : canS f r) (h' : nrmR R = some r') (hF : ∀ k, 0 ≤ k → k ≤ f.2.1 → (f.2.2.2.2.2.1 k).1 < 20000) : canS f r' := by
  obtain ⟨r1, a1, a2, a3, a4, a5, a6⟩ := nrm_cs h ho hb
  rw [h'] at a1
  injection a1 with a1
  subst a1
  obtain ⟨c1, c2, c3, c4⟩ := hc
  have e21 : r'.2.1 = r.2.1 := by rw [a2]
  have e22 : r'.2.2 = r.2.2 := by rw [a2]
  refine ⟨a4, by rw [e22]; exact c2, ?_, fun k k0 k1 => ?_⟩
  · rw [e21, e22]
    intro z
    refine c3 ⟨z.1, ?_⟩
    rcases z.2 with z | z | z
    · exact .inl z
    · exact .inr (.inl z)
    · refine .inr (.inr (fun w => z ?_))
      rcases a6 with ⟨e, p⟩ | ⟨e, p⟩ | ⟨e, p⟩
      · exact .inr (.inl e)
      · exfalso
        rcases w with w | w
        · have : 1 < r.1 ∧ r.1 < 20000 ∨ r' = r := by
            subst h
            unfold nrmR at h'
            simp only at h'
            by_cases c : 1 < r.1 ∧ r.1 < 20000
            · exact .inl c
            · rw [if_neg c] at h'; injection h' with h'; exact .inr h'.symm
          rcases this with t | t
          · omega
          · rw [t] at e; omega
        · exact p w
      · rw [e]; exact w
  · cases hi : instS f k (some r) with
    | none => exact absurd hi (c4 k k0 k1)
    | some z =>
      obtain ⟨z', q1, -⟩ := inst_nrm (mo := 0) (R := R) (fun x hx => by rw [h] at hx; injection hx with hx; rw [← hx]; exact ⟨ho, hb⟩) (hF k k0 k1) (by rw [h]; exact hi)
      rw [h'] at q1
      rw [q1]; exact fun z => by cases z
end EVE
