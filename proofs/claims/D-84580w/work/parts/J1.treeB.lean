set_option maxRecDepth 100000
/-! the model's parser: a node is made; trees that are being built -/
/-- items, one behind another, their numbers growing -/
def ITB (m : MM) (hi : Int) : Int → Int → List Int → Prop
  | _, i, [] => i = -1
  | lo, i, c :: cs => (lo ≤ i ∧ i < hi) ∧ m 591 i = c ∧ ITB m hi (i + 1) (m 594 i) cs
def RWB (m : MM) (hi : Int) : Int → Int → List (List Int) → Prop
  | _, i, [] => i = -1
  | lo, i, r :: rs => (lo ≤ i ∧ i < hi) ∧ ITB m i lo (m 591 i) r ∧ 1 ≤ r.length ∧ RWB m hi (i + 1) (m 594 i) rs
def LKb (m : MM) (lo hi : Int) (d : ND) (n : Int) (cs : List Int) : Prop :=
  (d.1 = 5 ∨ d.1 = 6 → ITB m hi lo (m 591 n) cs) ∧
  (d.1 = 7 → ∃ rs : List (List Int), RWB m hi lo (m 591 n) rs ∧ cs = rs.flatten ∧ d.2.2.1 = (if (∀ r, r ∈ rs → r.length = rs.length) ∧ rs.length ≤ 3 then (rs.length : Int) else 0) ∧ 1 ≤ rs.length) ∧
  (d.1 = 8 → cs = [m 591 n, m 592 n, m 593 n]) ∧
  (d.1 = 9 ∨ d.1 = 10 ∨ 12 ≤ d.1 ∧ d.1 ≤ 21 → cs = [m 591 n, m 592 n] ∧ m 593 n = -1) ∧
  (d.1 = 11 ∨ d.1 = 22 → cs = [m 591 n]) ∧
  (d.1 = 23 → cs = [m 591 n] ∧ m 592 n = -1 ∧ m 593 n = -1) ∧
  (d.1 = 24 ∨ d.1 = 25 → cs = [m 591 n, m 593 n] ∧ m 592 n = -1) ∧
  (30 ≤ d.1 ∧ d.1 ≤ 33 → m 591 n = -1) ∧
  (34 ≤ d.1 → cs = [m 591 n])
def TB (m : MM) : TT → Int → Int → List Int → Prop
  | .leaf, lo, hi, ns => ns = [] ∧ lo ≤ hi
  | .inner _ d _ c s, lo, hi, ns => ∃ n ns' mid, ns = n :: ns' ∧ mid ≤ hi ∧ (∃ cl ch cs, ((0 ≤ lo ∧ lo ≤ n ∧ n < mid ∧ mid ≤ 12000) ∧ (lo ≤ cl ∧ cl ≤ ch ∧ ch ≤ mid) ∧ (n < cl ∨ ch ≤ n)) ∧ NM m d n ∧ LKb m lo mid d n cs ∧ TB m c cl ch cs) ∧ TB m s mid hi ns'
def TNB (m : MM) (a : PT) (lo hi n : Int) : Prop := ∃ cl ch cs, ((0 ≤ lo ∧ lo ≤ n ∧ n < hi ∧ hi ≤ 12000) ∧ (lo ≤ cl ∧ cl ≤ ch ∧ ch ≤ hi) ∧ (n < cl ∨ ch ≤ n)) ∧ NM m a.1 n ∧ LKb m lo hi a.1 n cs ∧ TB m a.2 cl ch cs
theorem TB_cons {m : MM} {a : PT} {ps : List PT} {lo hi : Int} {ns : List Int} : TB m (chT (a :: ps)) lo hi ns ↔ ∃ n ns' mid, ns = n :: ns' ∧ mid ≤ hi ∧ TNB m a lo mid n ∧ TB m (chT ps) mid hi ns' := Iff.rfl
def AgM (lo hi : Int) (m m' : MM) : Prop := ∀ c i, 590 ≤ c ∧ c ≤ 605 → lo ≤ i → i < hi → m' c i = m c i
section TREEM
variable {m m' : MM} {lo hi n k : Int} {a : PT} {Q : Int → MM → Prop}
theorem ITB.fr {hi' : Int} (h2 : hi ≤ hi') : ∀ {cs : List Int} {lo lo' i : Int}, AgM lo hi m m' → lo' ≤ lo → ITB m hi lo i cs → ITB m' hi' lo' i cs := by
  intro cs
  induction cs with
  | nil => intro lo lo' i _ _ h; exact h
  | cons c cs ih =>
    intro lo lo' i f h1 h
    obtain ⟨a1, a2, a3⟩ := h
    exact ⟨by omega, by rw [f _ _ (by decide) a1.1 a1.2]; exact a2, by rw [f _ _ (by decide) a1.1 a1.2]; exact ih (fun c i z z1 z2 => f c i z (by omega) z2) (Int.le_refl _) a3⟩
theorem RWB.fr {hi' : Int} (h2 : hi ≤ hi') : ∀ {rs : List (List Int)} {lo lo' i : Int}, AgM lo hi m m' → lo' ≤ lo → RWB m hi lo i rs → RWB m' hi' lo' i rs := by
  intro rs
  induction rs with
  | nil => intro lo lo' i _ _ h; exact h
  | cons r rs ih =>
    intro lo lo' i f h1 h
    obtain ⟨a1, a2, a3, a4⟩ := h
    exact ⟨by omega, by rw [f _ _ (by decide) a1.1 a1.2]; exact a2.fr (Int.le_refl _) (fun c j z z1 z2 => f c j z z1 (by omega)) h1, a3, by rw [f _ _ (by decide) a1.1 a1.2]; exact ih (fun c i z z1 z2 => f c i z (by omega) z2) (Int.le_refl _) a4⟩
theorem LKb.fr {lo' hi' : Int} {d : ND} {cs : List Int} (f : AgM lo hi m m') (hn : lo ≤ n ∧ n < hi) (h1 : lo' ≤ lo) (h2 : hi ≤ hi') (h : LKb m lo hi d n cs) : LKb m' lo' hi' d n cs := by
  have e1 := f 591 n (by decide) hn.1 hn.2
  have e2 := f 592 n (by decide) hn.1 hn.2
  have e3 := f 593 n (by decide) hn.1 hn.2
  unfold LKb at h ⊢
  rw [e1, e2, e3]
  refine ⟨fun q => (h.1 q).fr h2 f h1, fun q => ?_, h.2.2⟩
  obtain ⟨rs, g1, g2⟩ := h.2.1 q
  exact ⟨rs, g1.fr h2 f h1, g2⟩
theorem NM.frr {d : ND} (f : ∀ c, 590 ≤ c ∧ c ≤ 605 → m' c n = m c n) (h : NM m d n) : NM m' d n := by
  obtain ⟨h1, h2, h3, h4, h5, h6, h7⟩ := h
  exact ⟨fun q => by rw [f _ (by decide)]; exact h1 q, by rw [f _ (by decide)]; exact h2, fun q => by rw [f _ (by decide)]; exact h3 q, fun q => by rw [f _ (by decide)]; exact h4 q, fun q => by rw [f _ (by decide)]; exact h5 q, fun q => by rw [f _ (by decide)]; exact h6 q, fun q => by rw [f _ (by decide)]; exact h7 q⟩
theorem TB.fr : ∀ {t : TT} {lo hi : Int} {ns : List Int}, AgM lo hi m m' → TB m t lo hi ns → TB m' t lo hi ns := by
  intro t
  induction t with
  | leaf => intro lo hi ns _ h; exact h
  | inner z d u c s ihc ihs =>
    intro lo hi ns f h
    obtain ⟨n, ns', mid, h1, h2, ⟨cl, ch, cs, h3, h4, h5, h7⟩, h8⟩ := h
    refine ⟨n, ns', mid, h1, h2, ⟨cl, ch, cs, h3, h4.frr (fun c z => f c n z (by omega) (by omega)), h5.fr (fun c i z z1 z2 => f c i z z1 (by omega)) (by omega) (Int.le_refl _) (Int.le_refl _), ihc (fun c i z z1 z2 => f c i z (by omega) (by omega)) h7⟩, ihs (fun c i z z1 z2 => f c i z (by omega) z2) h8⟩
theorem TNB.rng (h : TNB m a lo hi n) : 0 ≤ lo ∧ lo ≤ n ∧ n < hi ∧ hi ≤ 12000 := by
  obtain ⟨cl, ch, cs, h2, -⟩ := h
  exact h2.1
theorem AgM.refl : AgM lo hi m m := fun _ _ _ _ _ => rfl
theorem TNB.fr {lo' hi' : Int} (h : TNB m a lo hi n) (f : AgM lo hi m m') (h0 : 0 ≤ lo') (h1 : lo' ≤ lo) (h2 : hi ≤ hi') (h3 : hi' ≤ 12000) : TNB m' a lo' hi' n := by
  obtain ⟨cl, ch, cs, g2, g4, g5, g7⟩ := h
  exact ⟨cl, ch, cs, by omega, g4.frr (fun c z => f c n z (by omega) (by omega)), g5.fr f (by omega) h1 h2, g7.fr (fun c i z z1 z2 => f c i z (by omega) (by omega))⟩
theorem TNB.one (h : TNB m a lo hi n) : TB m (chT [a]) lo hi [n] := ⟨n, [], hi, rfl, Int.le_refl _, h, rfl, Int.le_refl _⟩
theorem TB.le {t : TT} {ns : List Int} (h : TB m t lo hi ns) : lo ≤ hi := by
  cases t with
  | leaf => exact h.2
  | inner z d u c s =>
    obtain ⟨n, ns', mid, h1, h2, ⟨cl, ch, cs, h3, -⟩, h8⟩ := h
    omega
/-- chains, one behind another -/
theorem TB.app {ns2 : List Int} {mid : Int} {rs : List PT} (g : TB m (chT rs) mid hi ns2) : ∀ {ps : List PT} {lo : Int} {ns : List Int}, 0 ≤ lo → TB m (chT ps) lo mid ns → TB m (chT (ps ++ rs)) lo hi (ns ++ ns2) := by
  intro ps
  induction ps with
  | nil =>
    intro lo ns l0 h
    obtain ⟨rfl, h1⟩ := h
    cases rs with
    | nil => exact ⟨g.1, by have := g.2; omega⟩
    | cons r rs =>
      obtain ⟨n, ns', md, g1, g2, g3, g4⟩ := g
      have r3 := TNB.rng g3
      exact ⟨n, ns', md, g1, g2, TNB.fr g3 AgM.refl l0 h1 (Int.le_refl _) r3.2.2.2, g4⟩
  | cons a ps ih =>
    intro lo ns l0 h
    obtain ⟨n, ns', md, h1, h2, h3, h4⟩ := h
    have r3 := TNB.rng h3
    subst h1
    have le := g.le
    exact ⟨n, ns' ++ ns2, md, rfl, by omega, h3, ih (by omega) h4⟩
theorem TB.len : ∀ {ps : List PT} {lo hi : Int} {ns : List Int}, TB m (chT ps) lo hi ns → ns.length = ps.length := by
  intro ps
  induction ps with
  | nil => intro lo hi ns h; rw [h.1]; rfl
  | cons a ps ih =>
    intro lo hi ns h
    obtain ⟨n, ns', md, h1, h2, h3, h4⟩ := h
    rw [h1, List.length_cons, List.length_cons, ih h4]
/-- a node of the model is made -/
theorem c_nodeM {kd x2 x3 x4 t : Int} (hk : m 582 15 = k) (kb : 0 ≤ k ∧ k < 12000) (tb : 0 ≤ t ∧ t < 420) (h : ∀ m', (∀ c i, ¬ (c = 582 ∧ i = 15) → ¬ (590 ≤ c ∧ c ≤ 605 ∧ i = k) → m' c i = m c i) → m' 582 15 = k + 1 → m' 590 k = kd → m' 591 k = x2 → m' 592 k = x3 → m' 593 k = x4 → m' 594 k = -1 → m' 595 k = m 588 t → m' 597 k = -1 → m' 605 k = m 589 t → Q k m') : P_X10_node kd x2 x3 x4 t m Q := by
  unfold P_X10_node
  rw [hk]
  intro m1 h1
  refine ⟨kb, ?_⟩
  intro m2 h2 m3 h3 m4 h4 m5 h5 m6 h6
  refine ⟨tb, ?_⟩
  intro m7 h7 m8 h8 m9 h9 m10 h10 m11 h11 m12 h12 m13 h13 m14 h14 m15 h15 m16 h16 m17 h17
  have e6 : m6 588 t = m 588 t := by subst h1 h2 h3 h4 h5 h6; simp [up]
  have e16 : m16 589 t = m 589 t := by rw [h16, h15, h14, h13, h12, h11, h10, h9, h8, h7, h6, h5, h4, h3, h2, h1]; simp [up]
  rw [e16] at h17
  rw [e6] at h7
  refine h m17 (fun c i z z' => ?_) ?_ ?_ ?_ ?_ ?_ ?_ ?_ ?_ ?_
  · rw [h17, up_ne (by omega), h16, up_ne (by omega), h15, up_ne (by omega), h14, up_ne (by omega), h13, up_ne (by omega), h12, up_ne (by omega), h11, up_ne (by omega), h10, up_ne (by omega), h9, up_ne (by omega), h8, up_ne (by omega), h7, up_ne (by omega), h6, up_ne (by omega), h5, up_ne (by omega), h4, up_ne (by omega), h3, up_ne (by omega), h2, up_ne (by omega), h1, up_ne (by omega)]
  · rw [h17, h16, h15, h14, h13, h12, h11, h10, h9, h8, h7, h6, h5, h4, h3, h2, h1]; simp [up]
  · rw [h17, h16, h15, h14, h13, h12, h11, h10, h9, h8, h7, h6, h5, h4, h3, h2]; simp [up]
  · rw [h17, h16, h15, h14, h13, h12, h11, h10, h9, h8, h7, h6, h5, h4, h3]; simp [up]
  · rw [h17, h16, h15, h14, h13, h12, h11, h10, h9, h8, h7, h6, h5, h4]; simp [up]
  · rw [h17, h16, h15, h14, h13, h12, h11, h10, h9, h8, h7, h6, h5]; simp [up]
  · rw [h17, h16, h15, h14, h13, h12, h11, h10, h9, h8, h7, h6]; simp [up]
  · rw [h17, h16, h15, h14, h13, h12, h11, h10, h9, h8, h7]; simp [up]
  · rw [h17, h16, h15, h14, h13, h12, h11, h10, h9]; simp [up]
  · rw [h17]; simp [up]
variable {tk : Int → TK} {N p o : Int} {e : Int × Int} {q : Int}
theorem PM.nd (h : PM m tk N p o k) (f : ∀ c i, ¬ (c = 582 ∧ i = 15) → ¬ (590 ≤ c ∧ c ≤ 605 ∧ i = k) → m' c i = m c i) (e : m' 582 15 = k + 1) : PM m' tk N p o (k + 1) := by
  refine h.fr (fun c i z => f c i (by omega) (by omega)) ⟨?_, h.2.1.2⟩ ?_ ⟨?_, h.2.2.2.1.2⟩ ⟨e, by have := h.2.2.2.2; omega⟩
  · rw [f _ _ (by omega) (by omega)]; exact h.2.1.1
  · rw [f _ _ (by omega) (by omega)]; exact h.2.2.1
  · rw [f _ _ (by omega) (by omega)]; exact h.2.2.2.1.1
theorem PM.up {c i v : Int} (h : PM m tk N p o k) (hc : 590 ≤ c) : PM (up m c i v) tk N p o k := by
  refine h.fr (fun c i z => up_ne (by omega)) ⟨?_, h.2.1.2⟩ ?_ ⟨?_, h.2.2.2.1.2⟩ ⟨?_, h.2.2.2.2.2⟩
  · rw [up_ne (by omega)]; exact h.2.1.1
  · rw [up_ne (by omega)]; exact h.2.2.1
  · rw [up_ne (by omega)]; exact h.2.2.2.1.1
  · rw [up_ne (by omega)]; exact h.2.2.2.2.1
theorem PF.nd (h : PF m e q o k) (f : ∀ c i, ¬ (c = 582 ∧ i = 15) → ¬ (590 ≤ c ∧ c ≤ 605 ∧ i = k) → m' c i = m c i) (e' : m' 582 15 = k + 1) : PF m' e q o (k + 1) := by
  obtain ⟨h1, h2, h3, h4, h5⟩ := h
  refine ⟨⟨by rw [f _ _ (by omega) (by omega)]; exact h1.1, h1.2⟩, ⟨by rw [f _ _ (by omega) (by omega)]; exact h2.1, h2.2⟩, by rw [f _ _ (by omega) (by omega)]; exact h3, ⟨by rw [f _ _ (by omega) (by omega)]; exact h4.1, h4.2⟩, e', by omega⟩
theorem PF.up {c i v : Int} (h : PF m e q o k) (hc : 590 ≤ c) : PF (up m c i v) e q o k := by
  obtain ⟨h1, h2, h3, h4, h5⟩ := h
  exact ⟨⟨by rw [up_ne (by omega)]; exact h1.1, h1.2⟩, ⟨by rw [up_ne (by omega)]; exact h2.1, h2.2⟩, by rw [up_ne (by omega)]; exact h3, ⟨by rw [up_ne (by omega)]; exact h4.1, h4.2⟩, ⟨by rw [up_ne (by omega)]; exact h5.1, h5.2⟩⟩
theorem FwM.ad {k0 : Int} {m0 : MM} (h : FwM k0 m0 m) (hk : k0 ≤ k) (f : ∀ c i, ¬ (c = 582 ∧ i = 15) → ¬ (590 ≤ c ∧ c ≤ 605 ∧ i = k) → m' c i = m c i) : FwM k0 m0 m' := fun c i z z' => (f c i (by omega) (by omega)).trans (h c i z z')
theorem FwM.f11 {k0 : Int} {m0 : MM} (h : FwM k0 m0 m) (f : F911 m m') : FwM k0 m0 m' := h.f582 (fun c i z => f c i (by omega))
theorem FwM.f12 {k0 : Int} {m0 : MM} (h : FwM k0 m0 m) (f : F912 m m') : FwM k0 m0 m' := h.f582 (fun c i z => f c i (by omega))
theorem FwM.ag {lo' hi' : Int} (h : FwM k m m') (hk : hi' ≤ k) : AgM lo' hi' m m' := fun c i z _ z2 => h c i (by omega) (by omega)
/-- a node while a fault stands -/
theorem f_nodeM {kd x2 x3 x4 t k0 : Int} {m0 : MM} (h : PF m e q o k) (kb : k < 12000) (tb : 0 ≤ t ∧ t < 420) (fr : FwM k0 m0 m) (hk : k0 ≤ k) (h1 : ∀ m', PF m' e q o (k + 1) → FwM k0 m0 m' → Q k m') : P_X10_node kd x2 x3 x4 t m Q := by
  have hk5 := h.2.2.2.2
  refine c_nodeM hk5.1 ⟨hk5.2, kb⟩ tb (fun m' f e5 _ _ _ _ _ _ _ _ => h1 m' (h.nd f e5) (fr.ad hk f))
end TREEM
