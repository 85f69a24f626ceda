set_option maxRecDepth 100000
/-! what a part can speak of -/
def fstI (g : Int → Int) (w : Int) : Nat → Int → Option Int
  | 0, _ => none
  | n + 1, k => if g k = w then some k else fstI g w n (k + 1)
theorem fstI_bd {g : Int → Int} {w : Int} : ∀ (n : Nat) (k j : Int), fstI g w n k = some j → k ≤ j ∧ j < k + (n : Int) ∧ g j = w := by
  intro n
  induction n with
  | zero => intro k j h; cases h
  | succ n ih =>
    intro k j h
    unfold fstI at h
    split at h
    case isTrue c => cases h; exact ⟨by omega, by omega, c⟩
    · have := ih (k + 1) j h
      exact ⟨by omega, by omega, this.2.2⟩
noncomputable def mtS (F : Int → FnR) (n : Int) (w : Int) (rc : List R3) : Option (Int × Option R3 × R3) := if 3 < rc.length then none else match bestS F w rc n.toNat with
  | none => none
  | some x => match instS (F x.1) 0 x.2.2 with
    | none => none
    | some z => some (x.1, x.2.2, z)
def knS (F : Int → FnR) (n : Int) (w : Int) : Prop := ∃ k, 0 ≤ k ∧ k < n ∧ (F k).1 = w
noncomputable def JEf (F : Int → FnR) (f : Int) (R : Option R3) : JE := (fun w => match fstI (F f).2.2.2.1 w (F f).2.1.toNat 1 with
  | none => none
  | some j => match instS (F f) j R with
    | none => none
    | some z => some (j - 1, z), fun _ => none, knS F (f + 1), mtS F (f + 1), R)
noncomputable def JEl (F : Int → FnR) (n nr : Int) (resR : Int → R3) (nv : Int) (varN : Int → Int) (varR : Int → R3) : JE := (fun w => match fstI varN w nv.toNat 0 with
  | none => none
  | some v => some (v, varR v), fun v => if v < nr then some (resR v) else none, knS F n, mtS F n, none)
/-- results, variables, in the component's book -/
def RSc (m : MM) (nr : Int) (resR : Int → R3) (nv : Int) (varN : Int → Int) (varR : Int → R3) : Prop := (m 3 3 = nr ∧ (0 ≤ nr ∧ nr ≤ 200) ∧ ∀ k, 0 ≤ k → k < nr → m 7 k = encC (resR k) ∧ ok3 (resR k)) ∧ (m 3 2 = nv ∧ (0 ≤ nv ∧ nv ≤ 20) ∧ ∀ k, 0 ≤ k → k < nv → m 5 k = varN k ∧ m 6 k = encC (varR k) ∧ ok3 (varR k) ∧ RL (varN k))
def ECj (m : MM) (b : Int) (e : JE) : Prop := m 372 1 = b ∧ isTx b ∧ m 372 3 = encO e.2.2.2.2 ∧ (∀ x, e.2.2.2.2 = some x → ok3 x ∧ x.1 ≠ -2) ∧ ((∃ F f R, e = JEf F f R ∧ BKh m F (f + 1) ∧ (0 ≤ f ∧ f ≤ 20) ∧ b = 8 + 17 * f ∧ m 372 4 = 1 ∧ m 372 2 = f + 1 ∧ (R = none → (F f).2.2.1 = 0) ∧ ∀ k, 0 ≤ k → k ≤ (F f).2.1 → instS (F f) k R ≠ none) ∨ (∃ F n nr resR nv varN varR, e = JEl F n nr resR nv varN varR ∧ BKh m F n ∧ m 372 4 = 0 ∧ m 372 2 = n ∧ RSc m nr resR nv varN varR))
/-- what judging may change -/
def FJd (b lo hi : Int) (m m' : MM) : Prop := ∀ c i, ¬ ((c = b + 6 ∨ c = b + 7 ∨ c = b + 8) ∧ lo ≤ i ∧ i < hi) → ¬ (c = 372 ∧ (i = 5 ∨ i = 6)) → c ≠ 373 → ¬ (c = 3 ∧ i = 7) → m' c i = m c i
theorem FJd.refl {b lo hi : Int} (m : MM) : FJd b lo hi m m := fun _ _ _ _ _ _ => rfl
theorem FJd.trans {b lo hi : Int} {m m1 m2 : MM} (h : FJd b lo hi m m1) (k : FJd b lo hi m1 m2) : FJd b lo hi m m2 := fun c i a1 a2 a3 a4 => (k c i a1 a2 a3 a4).trans (h c i a1 a2 a3 a4)
theorem FJd.mono {b lo hi lo' hi' : Int} {m m' : MM} (h : FJd b lo hi m m') (h1 : lo' ≤ lo) (h2 : hi ≤ hi') : FJd b lo' hi' m m' := fun c i a1 a2 a3 a4 => h c i (fun z => a1 ⟨z.1, by omega, by omega⟩) a2 a3 a4
theorem Fnt.fj {b lo hi : Int} {m m' : MM} (h : Fnt m m') : FJd b lo hi m m' := fun c i _ a2 _ _ => h c i a2
theorem FWt.fj {b lo hi : Int} {m m' : MM} (h : FWt m m') : FJd b lo hi m m' := fun c i _ _ _ a4 => h c i a4
theorem BKh.fr {m m' : MM} {F : Int → FnR} {n : Int} (h : BKh m F n) (g : ∀ c i, (∃ b, isTx b ∧ (c = b ∧ (i = 16 ∨ i = 5 ∨ i = 22) ∨ (b + 9 < c ∧ c < b + 17))) → m' c i = m c i) : BKh m' F n := by
  refine ⟨h.1, fun k k0 k1 => ?_⟩
  have tx := isTx_k (k := k) (by have := h.1; omega)
  exact ⟨(h.2 k k0 k1).1, (h.2 k k0 k1).2.fr tx (fun c i z => g c i ⟨_, tx, z⟩)⟩
theorem tx_ne {b b' c : Int} (hb : isTx b) (hb' : isTx b') (h : c = b' ∨ b' + 9 < c ∧ c < b' + 17) : ¬ (c = b + 6 ∨ c = b + 7 ∨ c = b + 8) := by
  unfold isTx at hb hb'
  omega
theorem ECj.fj {m m' : MM} {b lo hi : Int} {e : JE} (h : ECj m b e) (f : FJd b lo hi m m') : ECj m' b e := by
  obtain ⟨h1, hb, h3, h4, h5⟩ := h
  have bx := hb
  unfold isTx at bx
  have o : ∀ c i, ¬ (c = b + 6 ∨ c = b + 7 ∨ c = b + 8) → ¬ (c = 372 ∧ (i = 5 ∨ i = 6)) → c ≠ 373 → ¬ (c = 3 ∧ i = 7) → m' c i = m c i := fun c i a1 => f c i (fun z => a1 z.1)
  have bk : ∀ {F : Int → FnR} {n : Int}, BKh m F n → BKh m' F n := fun k => k.fr (fun c i z => by
    obtain ⟨b', tx, z⟩ := z
    have q := tx
    unfold isTx at q
    exact o c i (tx_ne hb tx (by omega)) (by omega) (by omega) (by omega))
  refine ⟨by rw [o 372 1 (by omega) (by decide) (by decide) (by decide)]; exact h1, hb, by rw [o 372 3 (by omega) (by decide) (by decide) (by decide)]; exact h3, h4, ?_⟩
  have e4 := o 372 4 (by omega) (by decide) (by decide) (by decide)
  have e2 := o 372 2 (by omega) (by decide) (by decide) (by decide)
  rcases h5 with ⟨F, g, R, q1, q2, q3, q4, q5, q6, q7⟩ | ⟨F, n, nr, rR, nv, vN, vR, q1, q2, q3, q4, q5⟩
  · exact Or.inl ⟨F, g, R, q1, bk q2, q3, q4, by rw [e4]; exact q5, by rw [e2]; exact q6, q7⟩
  · refine Or.inr ⟨F, n, nr, rR, nv, vN, vR, q1, bk q2, by rw [e4]; exact q3, by rw [e2]; exact q4, ⟨?_, q5.1.2.1, fun k k0 k1 => ?_⟩, ?_, q5.2.2.1, fun k k0 k1 => ?_⟩
    · rw [o 3 3 (by omega) (by decide) (by decide) (by decide)]; exact q5.1.1
    · rw [o 7 k (by omega) (by omega) (by decide) (by omega)]; exact q5.1.2.2 k k0 k1
    · rw [o 3 2 (by omega) (by decide) (by decide) (by decide)]; exact q5.2.1
    · rw [o 5 k (by omega) (by omega) (by decide) (by omega), o 6 k (by omega) (by omega) (by decide) (by omega)]; exact q5.2.2.2 k k0 k1
theorem ECj.cl {m : MM} {b : Int} {e : JE} (h : ECj m b e) : ∃ F n, BKh m F n ∧ m 372 2 = n ∧ e.2.2.1 = knS F n ∧ e.2.2.2.1 = mtS F n := by
  rcases h.2.2.2.2 with ⟨F, g, R, q1, q2, q3, q4, q5, q6, q7⟩ | ⟨F, n, nr, rR, nv, vN, vR, q1, q2, q3, q4, q5⟩
  · exact ⟨F, g + 1, q2, q6, by rw [q1]; rfl, by rw [q1]; rfl⟩
  · exact ⟨F, n, q2, q4, by rw [q1]; rfl, by rw [q1]; rfl⟩
section ENV
variable {Q : Int → MM → Prop} {b : Int}
noncomputable def knN (F : Int → FnR) (n w : Int) : Int := @ite _ (knS F n w) (Classical.propDecidable _) 1 0
theorem c_isCalledC {m : MM} {F : Int → FnR} {n w : Int} (hB : BKh m F n) (hw : RL w) (h1 : knS F n w → Q 1 m) (h0 : ¬ knS F n w → Q 0 m) : P_X1_isCalled w n m Q := by
  obtain ⟨hn, hF⟩ := hB
  have L : ∀ (r : Nat) (k : Int), 0 ≤ k → k + r = n → (∀ j, 0 ≤ j → j < k → (F j).1 ≠ w) → P_X1_isCalled_3 Q (r + 1) w n k m := by
    intro r
    induction r with
    | zero =>
      intro k k0 k1 hj
      refine ⟨by constructor <;> omega, by constructor <;> omega, ?_⟩
      rw [if_pos (by omega)]
      exact h0 (fun ⟨j, j0, j1, j2⟩ => hj j j0 (by omega) j2)
    | succ r ih =>
      intro k k0 k1 hj
      have hk := hF k k0 (by omega)
      refine ⟨by constructor <;> omega, by constructor <;> omega, ?_⟩
      rw [if_neg (by omega), hk.2.1]
      refine ⟨by omega, isTx_k (by omega), hk.1.2.2.1, hw, ?_⟩
      by_cases c : (F k).1 = w
      · rw [if_pos c]; exact h1 ⟨k, k0, by omega, c⟩
      · rw [if_neg c]
        refine ih (k + 1) (by omega) (by omega) (fun j j0 j1 => ?_)
        by_cases e : j = k
        · rw [e]; exact c
        · exact hj j j0 (by omega)
  exact ⟨_, L n.toNat 0 (by decide) (by omega) (fun j j0 j1 => by omega)⟩
theorem c_variableC {m : MM} {nv w : Int} {vN : Int → Int} (h2 : m 3 2 = nv) (hn : 0 ≤ nv ∧ nv ≤ 20) (hv : ∀ k, 0 ≤ k → k < nv → m 5 k = vN k ∧ RL (vN k)) (hw : RL w) (h : Q (encP (fstI vN w nv.toNat 0)) m) : P_X1_variable w m Q := by
  obtain ⟨fd, hfd⟩ : ∃ fd, fd = fstI vN w nv.toNat 0 := ⟨_, rfl⟩
  rw [← hfd] at h
  have L : ∀ (r : Nat) (k : Int), 0 ≤ k → k + r = nv → fd = fstI vN w r k → P_X1_variable_2 Q (r + 1) w k m := by
    intro r
    induction r with
    | zero =>
      intro k k0 k1 e
      unfold P_X1_variable_2
      rw [h2]
      refine ⟨by constructor <;> omega, by constructor <;> omega, ?_⟩
      rw [if_pos (by omega)]
      rw [e] at h
      exact h
    | succ r ih =>
      intro k k0 k1 e
      have hk := hv k k0 (by omega)
      unfold P_X1_variable_2
      rw [h2, hk.1]
      refine ⟨by constructor <;> omega, by constructor <;> omega, ?_⟩
      rw [if_neg (by omega)]
      refine ⟨by omega, hk.2, hw, ?_⟩
      unfold fstI at e
      by_cases c : vN k = w
      · rw [if_pos c] at e ⊢
        rw [e] at h
        exact h
      · rw [if_neg c] at e ⊢
        exact ih (k + 1) (by omega) (by omega) e
  exact ⟨_, L nv.toNat 0 (by decide) (by omega) hfd⟩
/-- a name -/
theorem c_namedC {m : MM} {e : JE} {n : Nte} {k w p : Int} (hE : ECj m b e) (hn : NC m n) (hk : 0 ≤ k ∧ k < 160) (hw : RL w) (ew : m (b + 9) k = w) (ep : m (b + 5) k = p) (hp : 0 ≤ p ∧ p ≤ 400) (h1 : ∀ i x m', e.1 w = some (i, x) → ok3 x → (0 ≤ i ∧ i < 20) → FJd b k (k + 1) m m' → NC m' n → m' (b + 7) k = i → Q (encC x) m') (h0 : ∀ m', e.1 w = none → FJd b k (k + 1) m m' → NC m' (mn n (some (p, 3))) → Q (-3) m') : P_X5_named k m Q := by
  obtain ⟨e1, hb, e3, hR, e5⟩ := hE
  have bx := hb
  unfold isTx at bx
  have mean : ∀ (i : Int) (x : R3), e.1 w = some (i, x) → ok3 x → (0 ≤ i ∧ i < 20) → P_X5_mean k i (encC x) m Q := by
    intro i x hi hx ib
    unfold P_X5_mean
    rw [e1]
    refine ⟨hb, hk, ?_⟩
    rintro _ rfl
    refine h1 i x _ hi hx ib (fun c j a1 a2 a3 a4 => up_ne (fun z => a1 ⟨Or.inr (Or.inl z.1), by omega, by omega⟩)) (hn.congr (up_ne (by omega)) (up_ne (by omega))) (up_at ..)
  have bad : e.1 w = none → P_X5_fail 3 p m Q := fun q => c_failC hn (by decide) hp (fun m' f' n' => h0 m' q f'.fj n')
  rcases e5 with ⟨F, g, R, q1, q2, q3, q4, q5, q6, q7, q8⟩ | ⟨F, nn, nr, rR, nv, vN, vR, q1, q2, q3, q4, q5⟩
  · obtain ⟨ok, tx⟩ := q2.2 g (by omega) (by omega)
    rw [← q4] at tx
    have np := ok.1
    have eR : e.2.2.2.2 = R := by rw [q1]; rfl
    rw [eR] at hR e3
    unfold P_X5_named
    rw [q5]
    refine ⟨by decide, ?_⟩
    rw [if_neg (by decide)]
    have e1w : ∀ o, o = fstI (F g).2.2.2.1 w (F g).2.1.toNat 1 → e.1 w = (match o with
        | none => none
        | some j => match instS (F g) j R with
          | none => none
          | some z => some (j - 1, z)) := by
      intro o ho
      rw [q1, ho]
      rfl
    obtain ⟨fd, hfd⟩ : ∃ fd, fd = fstI (F g).2.2.2.1 w (F g).2.1.toNat 1 := ⟨_, rfl⟩
    have e1w' := e1w fd hfd
    have L : ∀ (r : Nat) (j : Int), 1 ≤ j → j + r = (F g).2.1 + 1 → fd = fstI (F g).2.2.2.1 w r j → P_X5_named_9 Q (r + 1) k j m := by
      intro r
      induction r with
      | zero =>
        intro j j0 j1 z
        unfold P_X5_named_9
        rw [e1, tx.2.1]
        refine ⟨hb, by constructor <;> omega, by constructor <;> omega, ?_⟩
        rw [if_pos (by omega)]
        unfold P_X5_named_71
        rw [e1, ep]
        refine ⟨hb, hk, bad ?_⟩
        rw [e1w', z]
        rfl
      | succ r ih =>
        intro j j0 j1 z
        have hj := tx.2.2.2.2 j j0 (by omega)
        unfold P_X5_named_9
        rw [e1, tx.2.1, hj, ew]
        refine ⟨hb, by constructor <;> omega, by constructor <;> omega, ?_⟩
        rw [if_neg (by omega)]
        refine ⟨by omega, hk, ok.2.2.2.2 j j0 (by omega), hw, ?_⟩
        unfold fstI at z
        by_cases c : (F g).2.2.2.1 j = w
        · rw [if_pos c] at z ⊢
          unfold P_X5_named_44
          rw [e1, e3]
          rcases hz : instS (F g) j R with - | x
          · exact absurd hz (q8 j (by omega) (by omega))
          · refine c_ringC hb ok tx ⟨by omega, by omega⟩ hR q7 ?_
            rw [hz]
            refine mean (j - 1) x ?_ (instS_ok ok ⟨by omega, by omega⟩ hR hz) (by omega)
            rw [e1w', z]
            simp only
            rw [hz]
        · rw [if_neg c] at z ⊢
          exact ih (j + 1) (by omega) (by omega) z
    exact ⟨_, L (F g).2.1.toNat 1 (by decide) (by omega) hfd⟩
  · unfold P_X5_named
    rw [q3]
    refine ⟨by decide, ?_⟩
    rw [if_pos rfl, e1, ew]
    have e1w : ∀ o, o = fstI vN w nv.toNat 0 → e.1 w = (match o with
        | none => none
        | some v => some (v, vR v)) := by
      intro o ho
      rw [q1, ho]
      rfl
    refine ⟨hb, hk, c_variableC q5.2.1 q5.2.2.1 (fun j j0 j1 => ⟨(q5.2.2.2 j j0 j1).1, (q5.2.2.2 j j0 j1).2.2.2⟩) hw ?_⟩
    rcases hv : fstI vN w nv.toNat 0 with - | v
    · refine ⟨by decide, ?_⟩
      rw [if_pos (show encP none = -1 from rfl), e1, ep]
      exact ⟨hb, bad (e1w none hv.symm)⟩
    · have vb := fstI_bd _ _ _ hv
      have nvb := q5.2.2.1
      rw [show encP (some v) = v from rfl]
      refine ⟨by constructor <;> omega, ?_⟩
      rw [if_neg (by omega), (q5.2.2.2 v (by omega) (by omega)).2.1]
      exact ⟨by omega, mean v (vR v) (e1w (some v) hv.symm) (q5.2.2.2 v (by omega) (by omega)).2.2.1 (by omega)⟩
end ENV
