set_option maxRecDepth 100000
/-! the component: trees in a text -/
def TF (m : MM) (b : Int) : TT → Int → Int → Int → Prop
  | .leaf, lo, hi, k => k = -1 ∧ lo ≤ hi
  | .inner _ d _ c s, lo, hi, k => ∃ mid, mid ≤ hi ∧ (∃ cl ch, ((0 ≤ lo ∧ lo ≤ k ∧ k < mid ∧ mid ≤ 160) ∧ (lo ≤ cl ∧ cl ≤ ch ∧ ch ≤ mid) ∧ (k < cl ∨ ch ≤ k)) ∧ (m (b + 1) k = d.1 ∧ m (b + 4) k = d.2.2.1 ∧ m (b + 5) k = d.2.1 ∧ (d.1 = 4 ∨ d.1 = 5 ∨ d.1 = 33 ∨ d.1 = 35 → m (b + 9) k = d.2.2.2)) ∧ TF m b c cl ch (m (b + 2) k)) ∧ TF m b s mid hi (m (b + 3) k)
/-- one part -/
def TN (m : MM) (b : Int) (d : ND) (c : TT) (lo hi k : Int) : Prop := ∃ cl ch, ((0 ≤ lo ∧ lo ≤ k ∧ k < hi ∧ hi ≤ 160) ∧ (lo ≤ cl ∧ cl ≤ ch ∧ ch ≤ hi) ∧ (k < cl ∨ ch ≤ k)) ∧ (m (b + 1) k = d.1 ∧ m (b + 4) k = d.2.2.1 ∧ m (b + 5) k = d.2.1 ∧ (d.1 = 4 ∨ d.1 = 5 ∨ d.1 = 33 ∨ d.1 = 35 → m (b + 9) k = d.2.2.2)) ∧ TF m b c cl ch (m (b + 2) k)
theorem TF_cons {m : MM} {b : Int} {z : Nat} {d : ND} {u : Unit} {c s : TT} {lo hi k : Int} : TF m b (.inner z d u c s) lo hi k ↔ ∃ mid, mid ≤ hi ∧ TN m b d c lo mid k ∧ TF m b s mid hi (m (b + 3) k) := Iff.rfl
theorem TF.fr {m m' : MM} {b : Int} (f : ∀ i, m' (b + 1) i = m (b + 1) i ∧ m' (b + 2) i = m (b + 2) i ∧ m' (b + 3) i = m (b + 3) i ∧ m' (b + 4) i = m (b + 4) i ∧ m' (b + 5) i = m (b + 5) i ∧ m' (b + 9) i = m (b + 9) i) : ∀ {t : TT} {lo hi k : Int}, TF m b t lo hi k → TF m' b t lo hi k := by
  intro t
  induction t with
  | leaf => intro lo hi k h; exact h
  | inner z d u c s ihc ihs =>
    intro lo hi k h
    obtain ⟨mid, h1, ⟨cl, ch, h2, ⟨h3, h4, h5, h6⟩, h7⟩, h8⟩ := h
    obtain ⟨f1, f2, f3, f4, f5, f6⟩ := f k
    refine ⟨mid, h1, ⟨cl, ch, h2, ⟨by rw [f1]; exact h3, by rw [f4]; exact h4, by rw [f5]; exact h5, fun w => by rw [f6]; exact h6 w⟩, ?_⟩, ?_⟩
    · rw [f2]; exact ihc h7
    · rw [f3]; exact ihs h8
theorem TF.mono {m : MM} {b : Int} : ∀ {t : TT} {lo hi hi' k : Int}, TF m b t lo hi k → hi ≤ hi' → TF m b t lo hi' k := by
  intro t
  induction t with
  | leaf => intro lo hi hi' k h w; exact ⟨h.1, by have := h.2; omega⟩
  | inner z d u c s ihc ihs =>
    intro lo hi hi' k h w
    obtain ⟨mid, h1, h2, h3⟩ := h
    exact ⟨mid, by omega, h2, ihs h3 w⟩
theorem TF.le {m : MM} {b : Int} {t : TT} {lo hi k : Int} (h : TF m b t lo hi k) : lo ≤ hi := by
  cases t with
  | leaf => exact h.2
  | inner z d u c s =>
    obtain ⟨mid, h1, ⟨cl, ch, h2, h3⟩, h4⟩ := h
    omega
/-! notes -/
def encX (o : Option R3) : Int := match o with
  | none => -3
  | some x => encC x
theorem encX_ri {o : Option R3} (h : ∀ x, o = some x → ok3 x) : RI (encX o) := by
  rcases o with - | x
  · decide
  · exact (encC_bd (h x rfl)).1
theorem encX_3 {o : Option R3} (h : ∀ x, o = some x → ok3 x) : encX o = -3 ↔ o = none := by
  rcases o with - | x
  · exact ⟨fun _ => rfl, fun _ => rfl⟩
  · refine ⟨fun q => ?_, fun q => by cases q⟩
    exfalso
    have e := encC_bd (h x rfl)
    have q1 : encC x = -3 := q
    by_cases c : x.1 = -2
    · have := e.2.1 c; omega
    · have := e.2.2 c; omega
def NC (m : MM) (n : Nte) : Prop := match n with
  | none => m 372 5 = 0
  | some (p, k) => m 372 5 = k ∧ m 372 6 = p ∧ (1 ≤ k ∧ k ≤ 6) ∧ (0 ≤ p ∧ p ≤ 400)
def Fnt (m m' : MM) : Prop := ∀ c i, ¬ (c = 372 ∧ (i = 5 ∨ i = 6)) → m' c i = m c i
theorem Fnt.refl (m : MM) : Fnt m m := fun _ _ _ => rfl
theorem Fnt.trans {m m1 m2 : MM} (h : Fnt m m1) (k : Fnt m1 m2) : Fnt m m2 := fun c i z => (k c i z).trans (h c i z)
theorem TF.fn {m m' : MM} {b lo hi k : Int} {t : TT} (hb : isTx b) (f : Fnt m m') (h : TF m b t lo hi k) : TF m' b t lo hi k := by
  unfold isTx at hb
  exact h.fr (fun i => ⟨f _ _ (by omega), f _ _ (by omega), f _ _ (by omega), f _ _ (by omega), f _ _ (by omega), f _ _ (by omega)⟩)
theorem NC.congr {m m' : MM} {n : Nte} (h : NC m n) (e5 : m' 372 5 = m 372 5) (e6 : m' 372 6 = m 372 6) : NC m' n := by
  rcases n with - | ⟨p, k⟩
  · exact e5.trans h
  · exact ⟨e5.trans h.1, e6.trans h.2.1, h.2.2⟩
section TYC
variable {Q : Int → MM → Prop} {b : Int}
theorem c_failC {m : MM} {n : Nte} {k p : Int} (hn : NC m n) (hk : 1 ≤ k ∧ k ≤ 6) (hp : 0 ≤ p ∧ p ≤ 400) (h : ∀ m', Fnt m m' → NC m' (mn n (some (p, k))) → Q (-3) m') : P_X5_fail k p m Q := by
  have fr : Fnt m (up (up m 372 5 k) 372 6 p) := fun c i z => by rw [up_ne (fun q => z ⟨q.1, Or.inr q.2⟩), up_ne (fun q => z ⟨q.1, Or.inl q.2⟩)]
  have e5 : up (up m 372 5 k) 372 6 p 372 5 = k := by rw [up_neI (by decide), up_at]
  have e6 : up (up m 372 5 k) 372 6 p 372 6 = p := up_at ..
  rcases n with - | ⟨p', k'⟩
  · have h5 : m 372 5 = 0 := hn
    refine ⟨by rw [h5]; decide, ?_⟩
    rw [if_pos h5]
    rintro _ rfl _ rfl
    exact h _ fr ⟨e5, e6, hk, hp⟩
  · obtain ⟨h5, h6, hk', hp'⟩ := hn
    refine ⟨by rw [h5]; constructor <;> omega, ?_⟩
    rw [if_neg (by omega)]
    refine ⟨by constructor <;> omega, by rw [h6]; constructor <;> omega, ?_⟩
    rw [h5, h6]
    unfold mn at h
    simp only at h
    by_cases c1 : p < p'
    · rw [if_pos c1]
      rintro _ rfl _ rfl
      rw [if_pos (by omega)] at h
      exact h _ fr ⟨e5, e6, hk, hp⟩
    · rw [if_neg c1]
      by_cases c2 : p = p'
      · rw [if_pos c2]
        refine ⟨by constructor <;> omega, ?_⟩
        by_cases c3 : k' ≤ k
        · rw [if_pos c3]
          rw [if_neg (by omega)] at h
          exact h m (Fnt.refl m) ⟨h5, h6, hk', hp'⟩
        · rw [if_neg c3]
          rintro _ rfl _ rfl
          rw [if_pos (by omega)] at h
          exact h _ fr ⟨e5, e6, hk, hp⟩
      · rw [if_neg c2]
        rw [if_neg (by omega)] at h
        exact h m (Fnt.refl m) ⟨h5, h6, hk', hp'⟩
theorem of_enc {m : MM} {x : R3} (h : ok3 x) (hb : x.1 ≠ -2) (k : Q (encC x) m) : P_X11_of x.1 x.2.1 x.2.2 m Q := by
  unfold P_X11_of
  have g := encC_RG h hb
  obtain ⟨g1, g2, g3, g4⟩ := g
  rw [ofR (by omega) (by omega) (by omega), ← g1]
  exact k
theorem c_typeC (hb : isTx b) {R : Option R3} (hR : ∀ x, R = some x → ok3 x ∧ x.1 ≠ -2) {T : MM → Prop} : ∀ (t : TT), wfT t → isTy t → ∀ {m : MM} {n : Nte} {lo hi k : Int} {dep : Nat} {Q : Int → MM → Prop}, 2 * htT t ≤ dep → m 372 1 = b → m 372 3 = encO R → TF m b t lo hi k → NC m n → (∀ m', Fnt m m' → NC m' (mn n (tyO R t).2) → Q (encX (tyO R t).1) m') → R_X5_type dep 1 [k] m Q T := by
  intro t
  induction t with
  | leaf => intro _ h; exact h.elim
  | inner z d u c s ihc ihs =>
    intro w ht m n lo hi k dep Q hdep h1 h3 hT hn h
    have hk := ht.1
    have bx := hb
    unfold isTx at bx
    have hR3 : ∀ x, R = some x → ok3 x := fun x q => (hR x q).1
    obtain ⟨w0, wc, -⟩ := id w
    have pb := w0.1
    have vb := w0.2.1
    have hht : htT c + 1 ≤ htT (Std.DTreeMap.Internal.Impl.inner z d u c s) := by
      show htT c + 1 ≤ max (htT c + 1) (htT s)
      omega
    obtain ⟨mid, g1, ⟨cl, ch, g2, ⟨e1, e4, e5, e9⟩, g7⟩, g8⟩ := hT
    obtain ⟨dep, rfl⟩ : ∃ q, dep = q + 1 := ⟨dep - 1, by omega⟩
    show W_X5_type (R_X5_type dep) k m Q T
    unfold W_X5_type
    rw [h1, e1]
    refine ⟨hb, by omega, by constructor <;> omega, ?_⟩
    unfold tyO at h
    by_cases k30 : d.1 = 30
    · rw [if_pos k30] at h ⊢
      have v1 := w0.2.2.2.2.2.2.1 k30
      rw [e4]
      refine of_enc (x := (d.2.2.1, 0, 0)) (by unfold ok3; simp only; omega) (by show d.2.2.1 ≠ -2; omega) ?_
      have := h m (Fnt.refl m) (by rw [mn_none]; exact hn)
      exact this
    rw [if_neg k30] at h ⊢
    by_cases k31 : d.1 = 31
    · rw [if_pos k31] at h ⊢
      exact h m (Fnt.refl m) (by rw [mn_none]; exact hn)
    rw [if_neg k31] at h ⊢
    by_cases k32 : d.1 = 32
    · rw [if_pos k32] at h ⊢
      rw [h3]
      rcases R with - | x
      · refine ⟨by decide, ?_⟩
        rw [if_pos (show encO none = -1 from rfl), e5]
        exact c_failC hn (by decide) pb h
      · have ex := encC_bd (hR x rfl).1
        have e0 := ex.2.2 (hR x rfl).2
        refine ⟨ex.1, ?_⟩
        show (if encC x = -1 then _ else Q (encC x) m)
        rw [if_neg (by omega)]
        exact h m (Fnt.refl m) (by rw [mn_none]; exact hn)
    rw [if_neg k32] at h ⊢
    by_cases k33 : d.1 = 33
    · rw [if_pos k33] at h ⊢
      have w9 := e9 (by omega)
      have wb := w0.2.2.2.1 (by omega)
      rw [e4]
      have bad : (d.2.2.1 < 2 ∨ 9973 < d.2.2.1) → P_X5_type_120 (R_X5_type dep) Q T k m := by
        intro q
        rw [if_pos q] at h
        unfold P_X5_type_120
        rw [h1, w9]
        exact ⟨hb, by omega, c_failC hn (by decide) wb h⟩
      refine ⟨by constructor <;> omega, ?_⟩
      by_cases q1 : d.2.2.1 < 2
      · rw [if_pos q1]; exact bad (Or.inl q1)
      · rw [if_neg q1]
        by_cases q2 : d.2.2.1 ≤ 9973
        · rw [if_pos q2]
          rw [if_neg (by omega)] at h
          refine of_enc (x := (d.2.2.1, 0, 0)) (by unfold ok3; simp only; omega) (by show d.2.2.1 ≠ -2; omega) ?_
          exact h m (Fnt.refl m) (by rw [mn_none]; exact hn)
        · rw [if_neg q2]; exact bad (by omega)
    rw [if_neg k33] at h ⊢
    have hc : isTy c := by
      rcases w0.2.2.2.2.2.2.2.2 with q | q | q | q
      · exfalso; have := q.1; unfold arT at this; omega
      · exfalso; omega
      · exfalso; omega
      · exact q.2
    have kc : 0 ≤ m (b + 2) k ∧ m (b + 2) k < 160 := by
      cases c with
      | leaf => exact hc.elim
      | inner zc dc uc cc sc => obtain ⟨mc, i1, ⟨cl', ch', i2, i3⟩, i4⟩ := g7; omega
    have pc : m (b + 5) (m (b + 2) k) = plT c ∧ (0 ≤ plT c ∧ plT c ≤ 400) := by
      cases c with
      | leaf => exact hc.elim
      | inner zc dc uc cc sc => obtain ⟨mc, i1, ⟨cl', ch', i2, i3, i5⟩, i4⟩ := g7; exact ⟨i3.2.2.1, wc.1.1⟩
    have okc := fun x hx => tyO_ok hR3 c wc hc x hx
    -- what lies within
    have inner : ∀ {m1 : MM} {n1 : Nte} {Q1 : Int → MM → Prop}, Fnt m m1 → NC m1 n1 → (∀ m', Fnt m1 m' → ((tyO R c).1 = none → NC m' (mn n1 (tyO R c).2) → Q1 (-3) m') ∧ (∀ x, (tyO R c).1 = some x → (x.1 = -2 ∨ x.2.2 ≠ 0) → NC m' (mn n1 (mn (tyO R c).2 (some (plT c, 4)))) → Q1 (-3) m') ∧ (∀ x, (tyO R c).1 = some x → ¬ (x.1 = -2 ∨ x.2.2 ≠ 0) → NC m' (mn n1 (tyO R c).2) → Q1 (encC x) m')) → R_X5_type dep 0 [k] m1 Q1 T := by
      intro m1 n1 Q1 f1 hn1 q
      obtain ⟨dep, rfl⟩ : ∃ q, dep = q + 1 := ⟨dep - 1, by omega⟩
      show W_X5_inner (R_X5_type dep) k m1 Q1 T
      unfold W_X5_inner
      rw [f1 372 1 (by decide), h1, f1 (b + 2) k (by omega)]
      refine ⟨hb, by omega, ihc wc hc (n := n1) (lo := cl) (hi := ch) (by omega) (by rw [f1 372 1 (by decide)]; exact h1) (by rw [f1 372 3 (by decide)]; exact h3) (g7.fn hb f1) hn1 (fun m2 f2 hn2 => ?_)⟩
      refine ⟨encX_ri okc, ?_⟩
      have qq := q m2 f2
      have bad : ∀ {m3 : MM} (x : R3), m3 = m2 → (tyO R c).1 = some x → (x.1 = -2 ∨ x.2.2 ≠ 0) → P_X5_inner_38 (R_X5_type dep) Q1 T (m (b + 2) k) m3 := by
        intro m3 x e hx hx2
        subst e
        have o : ∀ c i, ¬ (c = 372 ∧ (i = 5 ∨ i = 6)) → m3 c i = m c i := fun c i z => (f2 c i z).trans (f1 c i z)
        unfold P_X5_inner_38
        rw [o 372 1 (by decide), h1, o (b + 5) _ (by omega), pc.1]
        refine ⟨hb, kc, c_failC hn2 (by decide) pc.2 (fun m4 f4 hn4 => ?_)⟩
        exact (q m4 (f2.trans f4)).2.1 x hx hx2 (by rw [← mn_assoc]; exact hn4)
      rcases hx : (tyO R c).1 with - | x
      · rw [show encX (none : Option R3) = -3 from rfl, if_pos rfl]
        exact qq.1 hx hn2
      · have ox := okc x hx
        have ex := encC_bd ox
        rw [show encX (some x) = encC x from rfl]
        by_cases xB : x.1 = -2
        · have := ex.2.1 xB
          rw [if_neg (by omega), if_pos this]
          exact bad x rfl hx (Or.inl xB)
        · have := ex.2.2 xB
          rw [if_neg (by omega), if_neg (by omega)]
          refine c_size (encC_RG ox xB) ?_
          have sx : 0 ≤ x.2.2 ∧ x.2.2 ≤ 3 := by unfold ok3 at ox; omega
          refine ⟨by constructor <;> omega, ?_⟩
          by_cases s0 : x.2.2 = 0
          · rw [if_pos s0]
            exact qq.2.2 x hx (by omega) hn2
          · rw [if_neg s0]
            exact bad x rfl hx (Or.inr s0)
    unfold overO at h
    simp only at h
    by_cases k34 : d.1 = 34
    · have nb : ¬ badM d := fun q => by have := q.1; omega
      rw [if_pos k34]
      rw [if_neg nb] at h
      refine inner (Fnt.refl m) hn (fun m1 f1 => ⟨fun hx hn1 => ?_, fun x hx hx2 hn1 => ?_, fun x hx hx2 hn1 => ?_⟩)
      · refine ⟨by decide, ?_⟩
        rw [if_pos rfl]
        rw [hx] at h
        exact h m1 f1 hn1
      · refine ⟨by decide, ?_⟩
        rw [if_pos rfl]
        rw [hx] at h
        simp only at h
        rw [if_pos hx2] at h
        exact h m1 f1 hn1
      · have ox := okc x hx
        have ex := encC_bd ox
        have e0 := ex.2.2 (fun q => hx2 (Or.inl q))
        rw [hx] at h
        simp only at h
        rw [if_neg hx2, if_pos k34] at h
        refine ⟨ex.1, ?_⟩
        rw [if_neg (by omega)]
        refine c_depth (encC_RG ox (fun q => hx2 (Or.inl q))) ?_
        have dx : 0 ≤ x.2.1 ∧ x.2.1 ≤ 2 := by unfold ok3 at ox; omega
        refine ⟨by constructor <;> omega, ?_⟩
        by_cases d2 : x.2.1 = 2
        · rw [if_pos d2] at h ⊢
          rw [f1 372 1 (by decide), h1, f1 (b + 5) k (by omega), e5]
          exact ⟨hb, c_failC hn1 (by decide) pb (fun m2 f2 hn2 => h m2 (f1.trans f2) (by rw [← mn_assoc]; exact hn2))⟩
        · rw [if_neg d2] at h ⊢
          have := h m1 f1 hn1
          have e : encX (some (x.1, x.2.1 + 1, x.2.2)) = encC x + 4 := by
            unfold encX encC
            simp only
            rw [if_neg (fun q => hx2 (Or.inl q)), if_neg (fun q => hx2 (Or.inl q))]
            omega
          rw [e] at this
          exact this
    · rw [if_neg k34, e4]
      have k35 : d.1 = 35 := by omega
      have w9 := e9 (by omega)
      have wb := w0.2.2.2.1 (by omega)
      refine ⟨by constructor <;> omega, ?_⟩
      have bad : badM d → P_X5_type_217 (R_X5_type dep) Q T k d.2.2.1 m := by
        intro q
        rw [if_pos q] at h
        unfold P_X5_type_217
        rw [h1, w9]
        refine ⟨hb, by omega, c_failC hn (by decide) wb (fun m1 f1 hn1 => inner f1 hn1 (fun m2 f2 => ⟨fun hx hn2 => ?_, fun x hx hx2 hn2 => ?_, fun x hx hx2 hn2 => ?_⟩))⟩
        · refine ⟨by decide, ?_⟩
          rw [if_pos rfl]
          rw [hx] at h
          exact h m2 (f1.trans f2) (by rw [← mn_assoc]; exact hn2)
        · refine ⟨by decide, ?_⟩
          rw [if_pos rfl]
          rw [hx] at h
          simp only at h
          rw [if_pos hx2] at h
          exact h m2 (f1.trans f2) (by rw [← mn_assoc]; exact hn2)
        · refine ⟨by decide, ?_⟩
          rw [if_pos rfl]
          rw [hx] at h
          simp only at h
          rw [if_neg hx2, if_neg k34, if_pos q] at h
          exact h m2 (f1.trans f2) (by rw [← mn_assoc]; exact hn2)
      by_cases q1 : d.2.2.1 < 1
      · rw [if_pos q1]; exact bad ⟨k35, Or.inl q1⟩
      · rw [if_neg q1]
        by_cases q2 : d.2.2.1 ≤ 3
        · rw [if_pos q2]
          have nb : ¬ badM d := fun q => by have := q.2; omega
          rw [if_neg nb] at h
          refine inner (Fnt.refl m) hn (fun m1 f1 => ⟨fun hx hn1 => ?_, fun x hx hx2 hn1 => ?_, fun x hx hx2 hn1 => ?_⟩)
          · refine ⟨by decide, ?_⟩
            rw [if_neg (by decide)]
            refine ⟨by decide, ?_⟩
            rw [if_pos rfl]
            rw [hx] at h
            exact h m1 f1 hn1
          · refine ⟨by decide, ?_⟩
            rw [if_neg (by decide)]
            refine ⟨by decide, ?_⟩
            rw [if_pos rfl]
            rw [hx] at h
            simp only at h
            rw [if_pos hx2] at h
            exact h m1 f1 hn1
          · have ox := okc x hx
            have ex := encC_bd ox
            have e0 := ex.2.2 (fun q => hx2 (Or.inl q))
            rw [hx] at h
            simp only at h
            rw [if_neg hx2, if_neg k34, if_neg nb] at h
            refine ⟨by decide, ?_⟩
            rw [if_neg (by decide)]
            refine ⟨ex.1, ?_⟩
            rw [if_neg (by omega)]
            have := h m1 f1 hn1
            have e : encX (some (x.1, x.2.1, d.2.2.1)) = encC x + d.2.2.1 := by
              unfold encX encC
              simp only
              rw [if_neg (fun q => hx2 (Or.inl q)), if_neg (fun q => hx2 (Or.inl q))]
              omega
            rw [e] at this
            exact this
        · rw [if_neg q2]; exact bad ⟨k35, Or.inr (by omega)⟩
end TYC
