set_option maxRecDepth 100000
/-! the component: judging trees -/
def AnF (m : MM) (b : Int) (e : JE) : TT → Int → Prop
  | .leaf, _ => True
  | .inner _ d _ c s, k => ((∀ x, rgS e d c = some x → m (b + 6) k = encC x) ∧ (d.1 = 4 → ∀ i x, e.1 d.2.2.2 = some (i, x) → m (b + 7) k = i) ∧ (d.1 = 5 → ∀ rc f R z, allS (jdS e c).1 = some rc → e.2.2.2.1 d.2.2.2 rc = some (f, R, z) → m (b + 7) k = f ∧ m (b + 8) k = encO R) ∧ (d.1 < 30 → AnF m b e c (m (b + 2) k))) ∧ AnF m b e s (m (b + 3) k)
def AnR (m : MM) (b : Int) (e : JE) (d : ND) (c : TT) (k : Int) : Prop := (d.1 = 4 → ∀ i x, e.1 d.2.2.2 = some (i, x) → m (b + 7) k = i) ∧ (d.1 = 5 → ∀ rc f R z, allS (jdS e c).1 = some rc → e.2.2.2.1 d.2.2.2 rc = some (f, R, z) → m (b + 7) k = f ∧ m (b + 8) k = encO R) ∧ (d.1 < 30 → AnF m b e c (m (b + 2) k))
def AnN (m : MM) (b : Int) (e : JE) (d : ND) (c : TT) (k : Int) : Prop := (∀ x, rgS e d c = some x → m (b + 6) k = encC x) ∧ AnR m b e d c k
theorem AnF_cons {m : MM} {b : Int} {e : JE} {z : Nat} {d : ND} {u : Unit} {c s : TT} {k : Int} : AnF m b e (.inner z d u c s) k ↔ AnN m b e d c k ∧ AnF m b e s (m (b + 3) k) := Iff.rfl
theorem AnF.fr {m m' : MM} {b : Int} {e : JE} (f : ∀ i, m' (b + 2) i = m (b + 2) i ∧ m' (b + 3) i = m (b + 3) i) : ∀ {t : TT} {lo hi k : Int}, TF m b t lo hi k → (∀ i, lo ≤ i → i < hi → m' (b + 6) i = m (b + 6) i ∧ m' (b + 7) i = m (b + 7) i ∧ m' (b + 8) i = m (b + 8) i) → AnF m b e t k → AnF m' b e t k := by
  intro t
  induction t with
  | leaf => intro lo hi k _ _ _; trivial
  | inner z d u c s ihc ihs =>
    intro lo hi k hT g h
    obtain ⟨mid, t1, ⟨cl, ch, t2, t3, t4⟩, t5⟩ := hT
    obtain ⟨⟨h1, h2, h3, h4⟩, h5⟩ := h
    have gk := g k (by omega) (by omega)
    refine ⟨⟨fun x hx => by rw [gk.1]; exact h1 x hx, fun q i x hx => by rw [gk.2.1]; exact h2 q i x hx, fun q rc f R z a1 a2 => by rw [gk.2.1, gk.2.2]; exact h3 q rc f R z a1 a2, fun q => ?_⟩, ?_⟩
    · rw [(f k).1]
      exact ihc t4 (fun i i0 i1 => g i (by omega) (by omega)) (h4 q)
    · rw [(f k).2]
      exact ihs t5 (fun i i0 i1 => g i (by omega) (by omega)) h5
theorem FJd.st {m m' : MM} {b lo hi : Int} (hb : isTx b) (f : FJd b lo hi m m') {c : Int} (hc : c = b ∨ b + 1 ≤ c ∧ c ≤ b + 5 ∨ b + 9 ≤ c ∧ c ≤ b + 16) (i : Int) : m' c i = m c i := by
  unfold isTx at hb
  exact f c i (by omega) (by omega) (by omega) (by omega)
theorem TF.fj {m m' : MM} {b lo hi lo' hi' k : Int} {t : TT} (hb : isTx b) (f : FJd b lo hi m m') (h : TF m b t lo' hi' k) : TF m' b t lo' hi' k := h.fr (fun i => ⟨f.st hb (by omega) i, f.st hb (by omega) i, f.st hb (by omega) i, f.st hb (by omega) i, f.st hb (by omega) i, f.st hb (by omega) i⟩)
theorem TN.fj {m m' : MM} {b lo hi lo' hi' k : Int} {d : ND} {c : TT} (hb : isTx b) (f : FJd b lo hi m m') (h : TN m b d c lo' hi' k) : TN m' b d c lo' hi' k := by
  have q : TF m b (nd d c lf) lo' (hi' + 1) k ∨ True := Or.inr trivial
  obtain ⟨cl, ch, t2, ⟨e1, e4, e5, e9⟩, t4⟩ := h
  refine ⟨cl, ch, t2, ⟨by rw [f.st hb (by omega)]; exact e1, by rw [f.st hb (by omega)]; exact e4, by rw [f.st hb (by omega)]; exact e5, fun w => by rw [f.st hb (by omega)]; exact e9 w⟩, ?_⟩
  rw [f.st hb (by omega)]
  exact t4.fj hb f
theorem AnF.fj {m m' : MM} {b lo hi lo' hi' k : Int} {e : JE} {t : TT} (hb : isTx b) (f : FJd b lo hi m m') (hT : TF m b t lo' hi' k) (dj : hi' ≤ lo ∨ hi ≤ lo') (h : AnF m b e t k) : AnF m' b e t k := by
  have bx := hb
  unfold isTx at bx
  exact AnF.fr (fun i => ⟨f.st hb (by omega) i, f.st hb (by omega) i⟩) hT (fun i i0 i1 => ⟨f _ _ (by omega) (by omega) (by omega) (by omega), f _ _ (by omega) (by omega) (by omega) (by omega), f _ _ (by omega) (by omega) (by omega) (by omega)⟩) h
abbrev RecT : Type := Nat → List Int → MM → (Int → MM → Prop) → (MM → Prop) → Prop
def JPost (m : MM) (b : Int) (e : JE) (d : ND) (c : TT) (lo hi k : Int) (n : Nte) (Q : Int → MM → Prop) : Prop := ∀ m', FJd b lo hi m m' → NC m' (mn n (ntS e d c)) → (∀ x, rgS e d c = some x → AnR m' b e d c k) → Q (encX (rgS e d c)) m'
def JCon (rec : RecT) (b : Int) (e : JE) (T : MM → Prop) : TT → Prop
  | .leaf => True
  | .inner _ d _ c s => (d.1 < 30 → ∀ (m : MM) (n : Nte) (lo hi k : Int) (Q : Int → MM → Prop), ECj m b e → TN m b d c lo hi k → NC m n → (∀ m', FJd b lo hi m m' → NC m' (mn n (ntS e d c)) → (∀ x, rgS e d c = some x → AnN m' b e d c k) → Q (encX (rgS e d c)) m') → rec 4 [k] m Q T) ∧ JCon rec b e T s
theorem TF_len {m : MM} {b : Int} : ∀ {t : TT} {lo hi k : Int}, TF m b t lo hi k → (lenT t : Int) ≤ hi - lo := by
  intro t
  induction t with
  | leaf => intro lo hi k h; have := h.2; show ((0 : Nat) : Int) ≤ hi - lo; omega
  | inner z d u c s ihc ihs =>
    intro lo hi k h
    obtain ⟨mid, t1, ⟨cl, ch, t2, t3, t4⟩, t5⟩ := h
    have := ihs t5
    show ((lenT s + 1 : Nat) : Int) ≤ hi - lo
    omega
theorem TF_ht {m : MM} {b : Int} : ∀ {t : TT} {lo hi k : Int}, TF m b t lo hi k → (htT t : Int) ≤ hi - lo := by
  intro t
  induction t with
  | leaf => intro lo hi k h; have := h.2; show ((0 : Nat) : Int) ≤ hi - lo; omega
  | inner z d u c s ihc ihs =>
    intro lo hi k h
    obtain ⟨mid, t1, ⟨cl, ch, t2, t3, t4⟩, t5⟩ := h
    have h1 := ihs t5
    have h2 := ihc t4
    show ((max (htT c + 1) (htT s) : Nat) : Int) ≤ hi - lo
    omega
section WALKC
variable {Q : Int → MM → Prop} {T : MM → Prop} {b : Int} {e : JE} {rec : RecT}
theorem iAnd_f {g x : Int} (hg : g = 0 ∨ g = 1) : iAnd g (if x = -3 then 0 else 1) = if x = -3 then 0 else g := by
  by_cases c : x = -3
  · rw [if_pos c, if_pos c]
    rcases hg with rfl | rfl <;> decide
  · rw [if_neg c, if_neg c]
    rcases hg with rfl | rfl <;> decide
theorem AnN.fj {m m' : MM} {lo hi lo' hi' k : Int} {d : ND} {c : TT} (hb : isTx b) (f : FJd b lo hi m m') (hT : TN m b d c lo' hi' k) (dj : hi' ≤ lo ∨ hi ≤ lo') (h : AnN m b e d c k) : AnN m' b e d c k := by
  have bx := hb
  unfold isTx at bx
  obtain ⟨cl, ch, t2, t3, t4⟩ := hT
  obtain ⟨h1, h2, h3, h4⟩ := h
  have g6 : m' (b + 6) k = m (b + 6) k := f _ _ (by omega) (by omega) (by omega) (by omega)
  have g7 : m' (b + 7) k = m (b + 7) k := f _ _ (by omega) (by omega) (by omega) (by omega)
  have g8 : m' (b + 8) k = m (b + 8) k := f _ _ (by omega) (by omega) (by omega) (by omega)
  refine ⟨fun x hx => by rw [g6]; exact h1 x hx, fun q i x hx => by rw [g7]; exact h2 q i x hx, fun q rc f' R z a1 a2 => by rw [g7, g8]; exact h3 q rc f' R z a1 a2, fun q => ?_⟩
  rw [f.st hb (by omega)]
  exact (h4 q).fj hb f t4 (by omega)
theorem allS_cons {o : Option R3} {l : List (Option R3)} : allS (o :: l) ≠ none ↔ o ≠ none ∧ allS l ≠ none := by
  rcases o with - | a
  · exact ⟨fun q => absurd rfl q, fun q => absurd rfl q.1⟩
  · show (match allS l with
      | none => none
      | some r => some (a :: r)) ≠ none ↔ _
    rcases allS l with - | r
    · exact ⟨fun q => absurd rfl q, fun q => absurd rfl q.2⟩
    · exact ⟨fun _ => ⟨fun q => (by cases q), fun q => (by cases q)⟩, fun _ q => (by cases q)⟩
theorem partsC : ∀ (t : TT), JCon rec b e T t → allP t → wfT t → ∀ {m : MM} {n : Nte} {lo hi k g : Int} {Q : Int → MM → Prop}, ECj m b e → TF m b t lo hi k → NC m n → (g = 0 ∨ g = 1) → (∀ m' g', FJd b lo hi m m' → NC m' (mn n (jdS e t).2) → (g' = 0 ∨ g' = 1) → (g' = 1 ↔ g = 1 ∧ allS (jdS e t).1 ≠ none) → (allS (jdS e t).1 ≠ none → AnF m' b e t k) → Q g' m') → P_X5_parts_12 rec Q T (lenT t + 1) g k m := by
  intro t
  induction t with
  | leaf =>
    intro _ _ _ m n lo hi k g Q hE hT hn hg h
    have k1 : k = -1 := hT.1
    refine ⟨by rw [k1]; decide, ?_⟩
    rw [if_pos k1]
    exact ⟨hg, h m g (FJd.refl m) (by rw [show (jdS e .leaf).2 = none from rfl, mn_none]; exact hn) hg ⟨fun q => ⟨q, fun z => by cases z⟩, fun q => q.1⟩ (fun _ => trivial)⟩
  | inner z d u c s ihc ihs =>
    intro hC hP w m n lo hi k g Q hE hT hn hg h
    have hb := hE.2.1
    obtain ⟨mid, t1, tn, t5⟩ := TF_cons.1 hT
    have kb : 0 ≤ k ∧ k < 160 := by obtain ⟨cl, ch, t2, -⟩ := tn; omega
    have lm : lo ≤ mid := by obtain ⟨cl, ch, t2, -⟩ := tn; omega
    refine ⟨by constructor <;> omega, ?_⟩
    rw [if_neg (by omega)]
    refine hC.1 (by have := hP.1; omega) m n lo mid k _ hE tn hn (fun m1 f1 n1 a1 => ?_)
    have ok := fun x hx => rgS_ok hE.ok w.1 w.2.1 (x := x) hx
    have e1 := f1.st hb (c := b + 3) (by omega) k
    have E1 := hE.fj f1
    refine ⟨encX_ri ok, by rw [E1.1]; exact hb, kb, ?_⟩
    rw [E1.1, e1, iAnd_f hg]
    have h3 := encX_3 ok
    refine ihs hC.2 hP.2 w.2.2 (n := mn n (ntS e d c)) (lo := mid) (hi := hi) E1 (t5.fj hb f1) n1 (by split <;> omega) (fun m2 g2 f2 n2 b2 i2 a2 => ?_)
    refine h m2 g2 ((f1.mono (by omega) t1).trans (f2.mono lm (Int.le_refl _))) (by rw [show (jdS e (.inner z d u c s)).2 = mn (ntS e d c) (jdS e s).2 from rfl, ← mn_assoc]; exact n2) b2 ?_ (fun q => ?_)
    · rw [show (jdS e (.inner z d u c s)).1 = rgS e d c :: (jdS e s).1 from rfl, allS_cons, i2]
      by_cases q : rgS e d c = none
      · rw [if_pos (h3.2 q)]
        exact ⟨fun z => absurd z.1 (by decide), fun z => absurd q z.2.1⟩
      · rw [if_neg (fun z => q (h3.1 z))]
        exact ⟨fun z => ⟨z.1, q, z.2⟩, fun z => ⟨z.1, z.2.2⟩⟩
    · rw [show (jdS e (.inner z d u c s)).1 = rgS e d c :: (jdS e s).1 from rfl, allS_cons] at q
      have aS := a2 q.2
      rcases hx : rgS e d c with - | x
      · exact absurd hx q.1
      · have a3 := a1 x hx
        refine AnF_cons.2 ⟨a3.fj hb f2 (tn.fj hb f1) (Or.inl (Int.le_refl _)), ?_⟩
        rw [f2.st hb (by omega), e1]
        exact aS
/-! rings along a chain of parts -/
def chR (m : MM) (b : Int) : Int → List R3 → Prop
  | k, [] => k = -1
  | k, x :: l => (0 ≤ k ∧ k < 160) ∧ m (b + 6) k = encC x ∧ ok3 x ∧ chR m b (m (b + 3) k) l
theorem AnF.ch {m : MM} (he : JEok e) : ∀ (t : TT), wfT t → ∀ {lo hi k : Int} {rc : List R3}, TF m b t lo hi k → AnF m b e t k → allS (jdS e t).1 = some rc → chR m b k rc ∧ rc.length = lenT t := by
  intro t
  induction t with
  | leaf => intro _ lo hi k rc hT _ h; cases h; exact ⟨hT.1, rfl⟩
  | inner z d u c s ihc ihs =>
    intro w lo hi k rc hT hA h
    obtain ⟨mid, t1, tn, t5⟩ := TF_cons.1 hT
    obtain ⟨hN, hS⟩ := AnF_cons.1 hA
    rw [show (jdS e (.inner z d u c s)).1 = rgS e d c :: (jdS e s).1 from rfl] at h
    rcases hx : rgS e d c with - | x
    · rw [hx] at h; cases h
    · rw [hx] at h
      unfold allS at h
      split at h
      · cases h
      case h_2 r hr =>
        cases h
        obtain ⟨i1, i2⟩ := ihs w.2.2 t5 hS hr
        refine ⟨⟨by obtain ⟨cl, ch, t2, -⟩ := tn; omega, hN.1 x hx, rgS_ok he w.1 w.2.1 hx, i1⟩, ?_⟩
        show r.length + 1 = lenT s + 1
        rw [i2]
section ND
variable {d : ND} {c : TT} {m m1 : MM} {n : Nte} {lo hi k : Int} {rc : List R3} {x : R3}
theorem nd_none (h30 : d.1 < 30) (h5 : d.1 = 5 → e.2.2.1 d.2.2.2) (h : allS (jdS e c).1 = none) : rgS e d c = none ∧ ntS e d c = (jdS e c).2 := by
  have e0 : nodeS e d c (jdS e c) = (none, (jdS e c).2) := by
    unfold nodeS
    rw [if_neg (by omega), if_neg (fun q => q.2 (h5 q.1)), h]
  exact ⟨congrArg Prod.fst e0, congrArg Prod.snd e0⟩
theorem nd_some (h30 : d.1 < 30) (h5 : d.1 = 5 → e.2.2.1 d.2.2.2) (h : allS (jdS e c).1 = some rc) (hx : ownS e d rc = some x) : rgS e d c = some x ∧ ntS e d c = (jdS e c).2 := by
  have e0 : nodeS e d c (jdS e c) = (some x, (jdS e c).2) := by
    unfold nodeS
    rw [if_neg (by omega), if_neg (fun q => q.2 (h5 q.1)), h]
    simp only
    rw [hx]
  exact ⟨congrArg Prod.fst e0, congrArg Prod.snd e0⟩
theorem nd_bad (h30 : d.1 < 30) (h5 : d.1 = 5 → e.2.2.1 d.2.2.2) (h : allS (jdS e c).1 = some rc) (hx : ownS e d rc = none) : rgS e d c = none ∧ ntS e d c = mn (jdS e c).2 (some (d.2.1, if d.1 = 3 ∨ d.1 = 4 then 3 else 4)) := by
  have e0 : nodeS e d c (jdS e c) = (none, mn (jdS e c).2 (some (d.2.1, if d.1 = 3 ∨ d.1 = 4 then 3 else 4))) := by
    unfold nodeS
    rw [if_neg (by omega), if_neg (fun q => q.2 (h5 q.1)), h]
    simp only
    rw [hx]
  exact ⟨congrArg Prod.fst e0, congrArg Prod.snd e0⟩
theorem own_none (post : JPost m b e d c lo hi k n Q) (f : FJd b lo hi m m1) (hn : NC m1 (mn n (jdS e c).2)) (h30 : d.1 < 30) (h5 : d.1 = 5 → e.2.2.1 d.2.2.2) (h : allS (jdS e c).1 = none) : Q (-3) m1 := by
  obtain ⟨r1, r2⟩ := nd_none h30 h5 h
  have := post m1 f (by rw [r2]; exact hn) (fun x hx => by rw [r1] at hx; cases hx)
  rw [r1] at this
  exact this
theorem own_good (post : JPost m b e d c lo hi k n Q) (f : FJd b lo hi m m1) (hn : NC m1 (mn n (jdS e c).2)) (h30 : d.1 < 30) (h5 : d.1 = 5 → e.2.2.1 d.2.2.2) (h : allS (jdS e c).1 = some rc) (hx : ownS e d rc = some x) (an : AnR m1 b e d c k) : Q (encC x) m1 := by
  obtain ⟨r1, r2⟩ := nd_some h30 h5 h hx
  have := post m1 f (by rw [r2]; exact hn) (fun _ _ => an)
  rw [r1] at this
  exact this
theorem own_bad {kd : Int} (post : JPost m b e d c lo hi k n Q) (f : FJd b lo hi m m1) (hn : NC m1 (mn n (jdS e c).2)) (hp : 0 ≤ d.2.1 ∧ d.2.1 ≤ 400) (hT : m1 (b + 5) k = d.2.1) (hk : kd = if d.1 = 3 ∨ d.1 = 4 then 3 else 4) (h30 : d.1 < 30) (h5 : d.1 = 5 → e.2.2.1 d.2.2.2) (h : allS (jdS e c).1 = some rc) (hx : ownS e d rc = none) : P_X5_fail kd (m1 (b + 5) k) m1 Q := by
  obtain ⟨r1, r2⟩ := nd_bad h30 h5 h hx
  rw [hT]
  refine c_failC hn (by rw [hk]; split <;> decide) hp (fun m2 f2 n2 => ?_)
  have := post m2 (f.trans f2.fj) (by rw [r2, ← mn_assoc, ← hk]; exact n2) (fun x hx => by rw [r1] at hx; cases hx)
  rw [r1] at this
  exact this
theorem parts_nd (hC : JCon rec b e T c) (hP : allP c) (wc : wfT c) (hE : ECj m b e) (hT : TN m b d c lo hi k) (hn : NC m n) (h : ∀ m' g', FJd b lo hi m m' → ECj m' b e → TN m' b d c lo hi k → NC m' (mn n (jdS e c).2) → (g' = 0 ∧ allS (jdS e c).1 = none ∨ g' = 1 ∧ ∃ rc, allS (jdS e c).1 = some rc ∧ chR m' b (m' (b + 2) k) rc ∧ rc.length = lenT c ∧ AnF m' b e c (m' (b + 2) k)) → Q g' m') : W_X5_parts rec k m Q T := by
  have hb := hE.2.1
  obtain ⟨cl, ch, t2, t3, t4⟩ := id hT
  unfold W_X5_parts
  rw [hE.1]
  refine ⟨hb, by omega, lenT c + 1, partsC c hC hP wc hE t4 hn (Or.inr rfl) (fun m' g' f' n' b' i' a' => ?_)⟩
  have f2 := f'.mono (lo' := lo) (hi' := hi) (by omega) (by omega)
  have E' := hE.fj f2
  refine h m' g' f2 E' (hT.fj hb f2) n' ?_
  rcases hrc : allS (jdS e c).1 with - | rc
  · left
    rw [hrc] at i'
    refine ⟨?_, rfl⟩
    rcases b' with q | q
    · exact q
    · exact absurd rfl (i'.1 q).2
  · right
    have nn : allS (jdS e c).1 ≠ none := fun q => by rw [hrc] at q; cases q
    have an := a' nn
    have e2 : m' (b + 2) k = m (b + 2) k := f2.st hb (by omega) k
    have ch' := AnF.ch E'.ok c wc (t4.fj hb f2) an hrc
    rw [e2]
    exact ⟨i'.2 ⟨rfl, nn⟩, rc, rfl, ch'.1, ch'.2, an⟩
end ND
theorem toP0 {dep : Nat} {k : Int} {m : MM} (h : W_X5_call (R_X5_part dep) k m Q T) : R_X5_part (dep + 1) 0 [k] m Q T := h
theorem toP1 {dep : Nat} {k : Int} {m : MM} (h : W_X5_choice (R_X5_part dep) k m Q T) : R_X5_part (dep + 1) 1 [k] m Q T := h
theorem toP2 {dep : Nat} {k : Int} {m : MM} (h : W_X5_function (R_X5_part dep) k m Q T) : R_X5_part (dep + 1) 2 [k] m Q T := h
theorem toP3 {dep : Nat} {k : Int} {m : MM} (h : W_X5_matrix (R_X5_part dep) k m Q T) : R_X5_part (dep + 1) 3 [k] m Q T := h
theorem toP4 {dep : Nat} {k : Int} {m : MM} (h : W_X5_part (R_X5_part dep) k m Q T) : R_X5_part (dep + 1) 4 [k] m Q T := h
theorem toP5 {dep : Nat} {k : Int} {m : MM} (h : W_X5_parts (R_X5_part dep) k m Q T) : R_X5_part (dep + 1) 5 [k] m Q T := h
theorem toP6 {dep : Nat} {k : Int} {m : MM} (h : W_X5_ringOf (R_X5_part dep) k m Q T) : R_X5_part (dep + 1) 6 [k] m Q T := h
theorem toP7 {dep : Nat} {k : Int} {m : MM} (h : W_X5_turned (R_X5_part dep) k m Q T) : R_X5_part (dep + 1) 7 [k] m Q T := h
theorem toP8 {dep : Nat} {k : Int} {m : MM} (h : W_X5_two (R_X5_part dep) k m Q T) : R_X5_part (dep + 1) 8 [k] m Q T := h
end WALKC
