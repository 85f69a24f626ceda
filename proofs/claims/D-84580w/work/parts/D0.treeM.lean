set_option maxRecDepth 100000
/-! the model: trees; notes; rings that are written -/
def kM (k : Int) : Int := if k ≤ 8 then k else if k = 9 then 11 else if k = 10 then 12 else if k = 11 then 9 else if k ≤ 21 then k + 1 else if k = 22 then 10 else k
/-- the built-in functions' names -/
def bfn (k : Int) : Int := if k = 0 then 6775652 else if k = 1 then 6579559 else if k = 2 then 1668244838 else if k = 3 then 24948 else if k = 4 then 6579570 else if k = 5 then 6579572 else if k = 6 then 29810 else if k = 7 then 29808 else if k = 8 then 6382698 else if k = 9 then 6909558 else if k = 10 then 1667785074 else if k = 11 then 491495847027 else if k = 12 then 7239021 else 6579566
def isLf (k : Int) : Prop := k = 9 ∨ k = 10 ∨ (12 ≤ k ∧ k ≤ 21) ∨ (23 ≤ k ∧ k ≤ 25)
theorem kM_left {k : Int} (h : 0 ≤ k ∧ k ≤ 25) : (11 ≤ kM k ∧ kM k ≤ 25) ↔ isLf k := by
  unfold kM isLf
  split
  · omega
  · split
    · omega
    · split
      · omega
      · split
        · omega
        · split
          · omega
          · split <;> omega
/-- a node of the model: kind, place, number, name -/
def NM (m : MM) (d : ND) (n : Int) : Prop := (d.1 < 30 → m 590 n = kM d.1) ∧ m 595 n = d.2.1 ∧ (d.1 = 0 ∨ d.1 = 3 ∨ d.1 = 23 ∨ d.1 = 33 ∨ d.1 = 35 → m 605 n = d.2.2.1) ∧ (d.1 = 4 ∨ d.1 = 5 → m 605 n = d.2.2.2) ∧ (d.1 = 6 → m 605 n = bfn d.2.2.1) ∧ (30 ≤ d.1 → m 597 n = (if d.1 = 30 then d.2.2.1 else if d.1 = 31 then 2 else if d.1 = 32 then 4 else if d.1 = 33 then 3 else if d.1 = 34 then 5 else 6)) ∧ (d.1 = 33 ∨ d.1 = 35 → m 592 n = d.2.2.2)
/-- items one behind another -/
def ITM (m : MM) : Int → List Int → Prop
  | i, [] => i = -1
  | i, c :: cs => (0 ≤ i ∧ i < 12000) ∧ m 591 i = c ∧ ITM m (m 594 i) cs
/-- rows of items -/
def RWM (m : MM) : Int → List (List Int) → Prop
  | i, [] => i = -1
  | i, r :: rs => (0 ≤ i ∧ i < 12000) ∧ ITM m (m 591 i) r ∧ 1 ≤ r.length ∧ RWM m (m 594 i) rs
/-- how a node's parts hang on it -/
def LKm (m : MM) (d : ND) (n : Int) (cs : List Int) : Prop :=
  (d.1 = 5 ∨ d.1 = 6 → ITM m (m 591 n) cs) ∧
  (d.1 = 7 → ∃ rs : List (List Int), RWM m (m 591 n) rs ∧ cs = rs.flatten ∧ d.2.2.1 = (if (∀ r, r ∈ rs → r.length = rs.length) ∧ rs.length ≤ 3 then (rs.length : Int) else 0) ∧ 1 ≤ rs.length) ∧
  (d.1 = 8 → cs = [m 591 n, m 592 n, m 593 n]) ∧
  (d.1 = 9 ∨ d.1 = 10 ∨ 12 ≤ d.1 ∧ d.1 ≤ 21 → cs = [m 591 n, m 592 n] ∧ m 593 n = -1) ∧
  (d.1 = 11 ∨ d.1 = 22 → cs = [m 591 n]) ∧
  (d.1 = 23 → cs = [m 591 n] ∧ m 592 n = -1 ∧ m 593 n = -1) ∧
  (d.1 = 24 ∨ d.1 = 25 → cs = [m 591 n, m 593 n] ∧ m 592 n = -1) ∧
  (30 ≤ d.1 ∧ d.1 ≤ 33 → m 591 n = -1) ∧
  (34 ≤ d.1 → cs = [m 591 n])
/-- trees in the model, with something besides of each node -/
def TM (m : MM) (P : ND → TT → Int → Prop) : TT → Int → Int → List Int → Prop
  | .leaf, lo, hi, ns => ns = [] ∧ lo ≤ hi
  | .inner _ d _ c s, lo, hi, ns => ∃ n ns' mid, ns = n :: ns' ∧ mid ≤ hi ∧ (∃ cl ch cs, ((0 ≤ lo ∧ lo ≤ n ∧ n < mid ∧ mid ≤ 12000) ∧ (lo ≤ cl ∧ cl ≤ ch ∧ ch ≤ mid) ∧ (n < cl ∨ ch ≤ n)) ∧ NM m d n ∧ LKm m d n cs ∧ P d c n ∧ TM m P c cl ch cs) ∧ TM m P s mid hi ns'
def TNM (m : MM) (P : ND → TT → Int → Prop) (d : ND) (c : TT) (lo hi n : Int) : Prop := ∃ cl ch cs, ((0 ≤ lo ∧ lo ≤ n ∧ n < hi ∧ hi ≤ 12000) ∧ (lo ≤ cl ∧ cl ≤ ch ∧ ch ≤ hi) ∧ (n < cl ∨ ch ≤ n)) ∧ NM m d n ∧ LKm m d n cs ∧ P d c n ∧ TM m P c cl ch cs
theorem TM_cons {m : MM} {P : ND → TT → Int → Prop} {z : Nat} {d : ND} {u : Unit} {c s : TT} {lo hi : Int} {ns : List Int} : TM m P (.inner z d u c s) lo hi ns ↔ ∃ n ns' mid, ns = n :: ns' ∧ mid ≤ hi ∧ TNM m P d c lo mid n ∧ TM m P s mid hi ns' := Iff.rfl
/-- what the structure of trees rests on -/
def FSt (m m' : MM) : Prop := ∀ c i, c = 590 ∨ c = 591 ∨ c = 592 ∨ c = 593 ∨ c = 594 ∨ c = 595 ∨ c = 605 → m' c i = m c i
theorem ITM.fr {m m' : MM} (f : FSt m m') : ∀ {cs : List Int} {i : Int}, ITM m i cs → ITM m' i cs := by
  intro cs
  induction cs with
  | nil => intro i h; exact h
  | cons c cs ih => intro i h; exact ⟨h.1, by rw [f _ _ (by omega)]; exact h.2.1, by rw [f _ _ (by omega)]; exact ih h.2.2⟩
theorem RWM.fr {m m' : MM} (f : FSt m m') : ∀ {rs : List (List Int)} {i : Int}, RWM m i rs → RWM m' i rs := by
  intro rs
  induction rs with
  | nil => intro i h; exact h
  | cons r rs ih => intro i h; exact ⟨h.1, by rw [f _ _ (by omega)]; exact h.2.1.fr f, h.2.2.1, by rw [f _ _ (by omega)]; exact ih h.2.2.2⟩
theorem LKm.fr {m m' : MM} {d : ND} {n : Int} {cs : List Int} (f : FSt m m') (h : LKm m d n cs) : LKm m' d n cs := by
  have e1 := f 591 n (by omega)
  have e2 := f 592 n (by omega)
  have e3 := f 593 n (by omega)
  unfold LKm at h ⊢
  rw [e1, e2, e3]
  refine ⟨fun q => (h.1 q).fr f, fun q => ?_, h.2.2⟩
  obtain ⟨rs, h1, h2⟩ := h.2.1 q
  exact ⟨rs, h1.fr f, h2⟩
theorem NM.fr {m m' : MM} {d : ND} {n : Int} (f : FSt m m') (g : 30 ≤ d.1 → m' 597 n = m 597 n) (h : NM m d n) : NM m' d n := by
  obtain ⟨h1, h2, h3, h4, h5, h6, h7⟩ := h
  exact ⟨fun q => by rw [f _ _ (by omega)]; exact h1 q, by rw [f _ _ (by omega)]; exact h2, fun q => by rw [f _ _ (by omega)]; exact h3 q, fun q => by rw [f _ _ (by omega)]; exact h4 q, fun q => by rw [f _ _ (by omega)]; exact h5 q, fun q => by rw [g q]; exact h6 q, fun q => by rw [f _ _ (by omega)]; exact h7 q⟩
/-- only nodes of a range matter -/
theorem TM.fr {m m' : MM} {P P' : ND → TT → Int → Prop} (f : FSt m m') : ∀ {t : TT} {lo hi : Int} {ns : List Int}, TM m P t lo hi ns → (∀ d c n, lo ≤ n → n < hi → okN d c ∨ True → (30 ≤ d.1 → m' 597 n = m 597 n) ∧ (P d c n → P' d c n)) → TM m' P' t lo hi ns := by
  intro t
  induction t with
  | leaf => intro lo hi ns h _; exact h
  | inner z d u c s ihc ihs =>
    intro lo hi ns h g
    obtain ⟨n, ns', mid, h1, h2, ⟨cl, ch, cs, h3, h4, h5, h6, h7⟩, h8⟩ := h
    have gn := g d c n (by omega) (by omega) (Or.inr trivial)
    refine ⟨n, ns', mid, h1, h2, ⟨cl, ch, cs, h3, h4.fr f gn.1, h5.fr f, gn.2 h6, ihc h7 (fun d' c' n' a1 a2 => g d' c' n' (by omega) (by omega))⟩, ihs h8 (fun d' c' n' a1 a2 => g d' c' n' (by omega) (by omega))⟩
theorem TM.mono {m : MM} {P : ND → TT → Int → Prop} : ∀ {t : TT} {lo hi hi' : Int} {ns : List Int}, TM m P t lo hi ns → hi ≤ hi' → TM m P t lo hi' ns := by
  intro t
  induction t with
  | leaf => intro lo hi hi' ns h w; exact ⟨h.1, by have := h.2; omega⟩
  | inner z d u c s ihc ihs =>
    intro lo hi hi' ns h w
    obtain ⟨n, ns', mid, h1, h2, h3, h4⟩ := h
    exact ⟨n, ns', mid, h1, by omega, h3, ihs h4 w⟩
theorem TM_len {m : MM} {P : ND → TT → Int → Prop} : ∀ {t : TT} {lo hi : Int} {ns : List Int}, TM m P t lo hi ns → ns.length = lenT t := by
  intro t
  induction t with
  | leaf => intro lo hi ns h; rw [h.1]; rfl
  | inner z d u c s ihc ihs =>
    intro lo hi ns h
    obtain ⟨n, ns', mid, h1, h2, h3, h4⟩ := h
    rw [h1]
    show ns'.length + 1 = lenT s + 1
    rw [ihs h4]
/-! notes -/
def NN' (m : MM) (n : Nte) : Prop := match n with
  | none => m 582 14 = -1 ∧ m 582 13 = 0
  | some (p, k) => m 582 13 = k ∧ m 582 14 = p ∧ (1 ≤ k ∧ k ≤ 6) ∧ (0 ≤ p ∧ p ≤ 400)
theorem NN'.congr {m m' : MM} {n : Nte} (h : NN' m n) (e3 : m' 582 13 = m 582 13) (e4 : m' 582 14 = m 582 14) : NN' m' n := by
  rcases n with - | ⟨p, k⟩
  · exact ⟨e4.trans h.1, e3.trans h.2⟩
  · exact ⟨e3.trans h.1, e4.trans h.2.1, h.2.2⟩
def Fnm (m m' : MM) : Prop := ∀ c i, ¬ (c = 582 ∧ (i = 13 ∨ i = 14)) → m' c i = m c i
section NOTEM
variable {Q : Int → MM → Prop}
theorem c_noteM {m : MM} {n : Nte} {k p : Int} (hn : NN' m n) (hk : 1 ≤ k ∧ k ≤ 6) (hp : 0 ≤ p ∧ p ≤ 400) (h : ∀ m', Fnm m m' → NN' m' (mn n (some (p, k))) → Q 0 m') : P_X10_note k p m Q := by
  have fr : Fnm m (up (up m 582 13 k) 582 14 p) := fun c i z => by rw [up_ne (fun q => z ⟨q.1, Or.inr q.2⟩), up_ne (fun q => z ⟨q.1, Or.inl q.2⟩)]
  have e5 : up (up m 582 13 k) 582 14 p 582 13 = k := by rw [up_neI (by decide), up_at]
  have e6 : up (up m 582 13 k) 582 14 p 582 14 = p := up_at ..
  unfold P_X10_note
  rcases n with - | ⟨p', k'⟩
  · obtain ⟨h14, h13⟩ := hn
    rw [h14]
    refine ⟨⟨by decide, by rw [if_pos (by decide)]; trivial⟩, by rw [if_pos (by decide)]; decide, ?_⟩
    rw [if_neg (show ¬ (if (-1 : Int) < 0 then (1 : Int) else _) = 0 by rw [if_pos (by decide)]; decide)]
    rintro _ rfl _ rfl
    exact h _ fr ⟨e5, e6, hk, hp⟩
  · obtain ⟨h13, h14, hk', hp'⟩ := hn
    rw [h13, h14]
    refine ⟨⟨by constructor <;> omega, ?_⟩, ?_, ?_⟩
    · rw [if_neg (by omega)]
      refine ⟨by constructor <;> omega, ?_⟩
      split
      · trivial
      · split
        · exact ⟨by constructor <;> omega, by constructor <;> omega⟩
        · trivial
    · split
      · decide
      · split
        · decide
        · split
          · split <;> decide
          · decide
    unfold mn at h
    simp only at h
    by_cases c1 : p < p' ∨ p = p' ∧ k < k'
    · have e : (if p' < 0 then (1 : Int) else if p < p' then 1 else if p = p' then if k' ≤ k then 0 else 1 else 0) = 1 := by
        rw [if_neg (by omega)]
        by_cases c2 : p < p'
        · rw [if_pos c2]
        · rw [if_neg c2, if_pos (by omega), if_neg (by omega)]
      rw [e, if_neg (by decide)]
      rw [if_pos c1] at h
      rintro _ rfl _ rfl
      exact h _ fr ⟨e5, e6, hk, hp⟩
    · have e : (if p' < 0 then (1 : Int) else if p < p' then 1 else if p = p' then if k' ≤ k then 0 else 1 else 0) = 0 := by
        rw [if_neg (by omega), if_neg (by omega)]
        by_cases c2 : p = p'
        · rw [if_pos c2, if_pos (by omega)]
        · rw [if_neg c2]
      rw [e, if_pos rfl]
      rw [if_neg c1] at h
      exact h m (fun _ _ _ => rfl) ⟨h13, h14, hk', hp'⟩
/-- a ring of a node -/
def rgM (m : MM) (n : Int) (o : Option R3) : Prop := match o with
  | none => m 598 n = -9
  | some x => m 598 n = bM x.1 ∧ m 599 n = x.2.1 ∧ m 600 n = x.2.2
theorem rgM.ri {m : MM} {n : Int} {o : Option R3} (h : rgM m n o) (ho : ∀ x, o = some x → ok3 x) : RI (m 598 n) ∧ (m 598 n = -9 ↔ o = none) := by
  rcases o with - | x
  · have h' : m 598 n = -9 := h
    exact ⟨by rw [h']; decide, fun _ => rfl, fun _ => h'⟩
  · obtain ⟨h1, -, -⟩ := h
    have b := bM_bd (ok3_b (ho x rfl))
    exact ⟨by rw [h1]; constructor <;> omega, fun q => by exfalso; omega, fun q => by cases q⟩
theorem c_setRingM {m : MM} {n b d s : Int} (hn : 0 ≤ n ∧ n < 12000) (h : ∀ m', (∀ c i, ¬ ((c = 598 ∨ c = 599 ∨ c = 600) ∧ i = n) → m' c i = m c i) → m' 598 n = b → m' 599 n = d → m' 600 n = s → Q 0 m') : P_X10_setRing n b d s m Q := by
  refine ⟨hn, ?_⟩
  rintro m1 rfl m2 rfl m3 rfl
  refine h _ (fun c i z => by rw [up_ne (fun q => z ⟨by omega, q.2⟩), up_ne (fun q => z ⟨by omega, q.2⟩), up_ne (fun q => z ⟨by omega, q.2⟩)]) ?_ ?_ (up_at ..)
  · rw [up_ne (by omega), up_ne (by omega), up_at]
  · rw [up_ne (by omega), up_at]
theorem c_wrongM {m : MM} {n : Nte} {k p : Int} (hk : 0 ≤ k ∧ k < 12000) (hn : NN' m n) (hp : 0 ≤ p ∧ p ≤ 400) (ep : m 595 k = p) (h : ∀ m', (∀ c i, ¬ (c = 598 ∧ i = k) → ¬ (c = 582 ∧ (i = 13 ∨ i = 14)) → m' c i = m c i) → NN' m' (mn n (some (p, 4))) → m' 598 k = -9 → Q 0 m') : P_X10_wrong k m Q := by
  unfold P_X10_wrong
  rw [ep]
  refine ⟨hk, c_noteM hn (by decide) hp (fun m1 f1 n1 => ?_)⟩
  rintro m2 rfl
  exact h _ (fun c i z1 z2 => by rw [up_ne z1]; exact f1 c i z2) (n1.congr (up_ne (by omega)) (up_ne (by omega))) (up_at ..)
/-- R, on the model's side -/
def RM (m : MM) (R : Option R3) : Prop := match R with
  | none => m 582 62 = -9
  | some x => m 582 62 = bM x.1 ∧ m 582 63 = x.2.1 ∧ m 582 64 = x.2.2
def FRg (lo hi : Int) (m m' : MM) : Prop := ∀ c i, ¬ ((c = 598 ∨ c = 599 ∨ c = 600) ∧ lo ≤ i ∧ i < hi) → ¬ (c = 582 ∧ (i = 13 ∨ i = 14)) → m' c i = m c i
theorem FRg.st {lo hi : Int} {m m' : MM} (f : FRg lo hi m m') : FSt m m' := fun c i z => f c i (by omega) (by omega)
/-- the ring of a written ring lies at it -/
def AnT (m : MM) (R : Option R3) : ND → TT → Int → Prop := fun d c n => rgM m n (tyO R (nd d c lf)).1
theorem AnT.fr {m m' : MM} {R : Option R3} {d : ND} {c : TT} {n : Int} (h : AnT m R d c n) (g : ∀ c', c' = 598 ∨ c' = 599 ∨ c' = 600 → m' c' n = m c' n) : AnT m' R d c n := by
  unfold AnT at h ⊢
  generalize (tyO R (nd d c lf)).1 = o at h ⊢
  rcases o with - | x
  · exact (g _ (by omega)).trans h
  · exact ⟨(g _ (by omega)).trans h.1, (g _ (by omega)).trans h.2.1, (g _ (by omega)).trans h.2.2⟩
theorem bM_small {b : Int} (h : b ≤ 9973) : bM b = b := by
  unfold bM
  rw [if_neg (by omega), if_neg (by omega)]
theorem c_judgeRingM {R : Option R3} (hR : ∀ x, R = some x → ok3 x ∧ x.1 ≠ -2) {P : ND → TT → Int → Prop} {T : MM → Prop} : ∀ (t : TT), wfT t → isTy t → ∀ {m : MM} {n : Nte} {lo hi k : Int} {dep : Nat} {Q : Int → MM → Prop}, htT t ≤ dep → RM m R → TM m P t lo hi [k] → NN' m n → (∀ m', FRg lo hi m m' → NN' m' (mn n (tyO R t).2) → TM m' (AnT m' R) t lo hi [k] → rgM m' k (tyO R t).1 → Q 0 m') → R_X10_judgeRing dep 0 [k] m Q T := by
  intro t
  induction t with
  | leaf => intro _ h; exact h.elim
  | inner z d u c s ihc ihs =>
    intro w ht m n lo hi k dep Q hdep hRM hT hn h
    have hk := ht.1
    have hs : s = .leaf := ht.2
    subst hs
    have hR3 : ∀ x, R = some x → ok3 x := fun x q => (hR x q).1
    obtain ⟨w0, wc, -⟩ := id w
    have pb := w0.1
    have vb := w0.2.1
    have hht : htT c + 1 ≤ htT (Std.DTreeMap.Internal.Impl.inner z d u c .leaf) := by
      show htT c + 1 ≤ max (htT c + 1) 0
      omega
    obtain ⟨k', ns', mid, g1, g2, ⟨cl, ch, cs, g3, g4, g5, g6, g7⟩, g8⟩ := hT
    obtain ⟨rfl, rfl⟩ : k = k' ∧ ns' = [] := by cases g1; exact ⟨rfl, rfl⟩
    obtain ⟨dep, rfl⟩ : ∃ q, dep = q + 1 := ⟨dep - 1, by omega⟩
    have kb : 0 ≤ k ∧ k < 12000 := by omega
    -- the end: a ring is laid, or not
    have ty1 : tyO R (nd d c lf) = tyO R (.inner z d u c .leaf) := rfl
    have fin : ∀ m', FRg lo hi m m' → NN' m' (mn n (tyO R (.inner z d u c .leaf)).2) → TM m' (AnT m' R) c cl ch cs → rgM m' k (tyO R (.inner z d u c .leaf)).1 → Q 0 m' := by
      intro m' f' n' t' r'
      refine h m' f' n' ⟨k, [], mid, rfl, g2, ⟨cl, ch, cs, g3, g4.fr f'.st (fun _ => f' _ _ (by omega) (by omega)), g5.fr f'.st, ?_, t'⟩, rfl, g2⟩ r'
      unfold AnT
      rw [ty1]
      exact r'
    show W_X10_judgeRing (R_X10_judgeRing dep) k m Q T
    refine ⟨kb, ?_⟩
    rintro m1 rfl
    have f1 : FRg lo hi m (up m 598 k (-9)) := fun c' i q1 q2 => up_ne (fun z => q1 ⟨Or.inl z.1, by omega, by omega⟩)
    have n1 : NN' (up m 598 k (-9)) n := hn.congr (up_ne (by omega)) (up_ne (by omega))
    have e98 : up m 598 k (-9) 598 k = -9 := up_at ..
    obtain ⟨m1, hm1⟩ : ∃ m1, m1 = up m 598 k (-9) := ⟨_, rfl⟩
    rw [← hm1] at f1 n1 e98 ⊢
    have e91 : m1 591 k = m 591 k := f1 _ _ (by omega) (by omega)
    rw [e91]
    by_cases k34 : d.1 < 34
    · -- without a ring within
      have a1 : m 591 k = -1 := g5.2.2.2.2.2.2.2.1 ⟨by omega, by omega⟩
      have cl' : c = .leaf := by
        rcases w0.2.2.2.2.2.2.2.2 with q | q | q | q
        · exfalso; have := q.1; unfold arT at this; omega
        · exfalso; omega
        · exact q.2
        · exfalso; omega
      subst cl'
      have t0 : ∀ m', TM m' (AnT m' R) .leaf cl ch cs := fun m' => g7
      rw [a1]
      refine ⟨by decide, ?_⟩
      rw [if_pos (by decide)]
      have NM1 := g4.fr f1.st (fun _ => f1 _ _ (by omega) (by omega))
      obtain ⟨-, e95, e05, -, -, e97, e92⟩ := NM1
      unfold P_X10_judgeRing_24
      rw [e97 (by omega)]
      unfold tyO at fin
      have setr : ∀ (x : R3), (∀ m', FRg lo hi m m' → NN' m' n → rgM m' k (some x) → Q 0 m') → P_X10_setRing k (bM x.1) x.2.1 x.2.2 m1 (fun r1 m1 => Q 0 m1) := by
        intro x hx
        refine c_setRingM kb (fun m2 f2 a b c => ?_)
        refine hx m2 (fun c' i q1 q2 => by rw [f2 c' i (fun z => q1 ⟨by omega, by omega, by omega⟩)]; exact f1 c' i q1 q2) (n1.congr (f2 _ _ (by omega)) (f2 _ _ (by omega))) ⟨a, b, c⟩
      by_cases k30 : d.1 = 30
      · simp only [if_pos k30] at fin ⊢
        have v1 := w0.2.2.2.2.2.2.1 k30
        refine ⟨kb, by constructor <;> omega, ?_⟩
        have fin' : ∀ m', FRg lo hi m m' → NN' m' n → rgM m' k (some (d.2.2.1, 0, 0)) → Q 0 m' := fun m' a b c => fin m' a (by rw [mn_none]; exact b) (t0 m') c
        have st := setr (d.2.2.1, 0, 0) fin'
        rw [show bM (d.2.2.1, 0, 0).1 = d.2.2.1 from bM_small (show d.2.2.1 ≤ 9973 by omega)] at st
        by_cases v0 : d.2.2.1 = 0
        · rw [if_pos v0]
          rw [v0] at st
          exact st
        · rw [if_neg v0, if_pos (by omega)]
          rw [show d.2.2.1 = 1 by omega] at st
          exact st
      simp only [if_neg k30] at fin ⊢
      by_cases k31 : d.1 = 31
      · simp only [if_pos k31] at fin ⊢
        refine ⟨kb, by decide, ?_⟩
        rw [if_neg (by decide), if_neg (by decide), if_pos trivial]
        exact setr (-2, 0, 0) (fun m' a b c => fin m' a (by rw [mn_none]; exact b) (t0 m') c)
      simp only [if_neg k31] at fin ⊢
      by_cases k32 : d.1 = 32
      · simp only [if_pos k32] at fin ⊢
        refine ⟨kb, by decide, ?_⟩
        rw [if_neg (by decide), if_neg (by decide), if_neg (by decide), if_neg (by decide), if_pos trivial]
        have r62 : m1 582 62 = m 582 62 := f1 _ _ (by omega) (by omega)
        have r63 : m1 582 63 = m 582 63 := f1 _ _ (by omega) (by omega)
        have r64 : m1 582 64 = m 582 64 := f1 _ _ (by omega) (by omega)
        rw [r62, r63, r64, e95]
        rcases R with - | x
        · have q : m 582 62 = -9 := hRM
          rw [q]
          refine ⟨by decide, ?_⟩
          rw [if_pos rfl]
          refine c_noteM n1 (by decide) pb (fun m2 f2 n2 => ?_)
          exact fin m2 (fun c' i q1 q2 => (f2 c' i q2).trans (f1 c' i q1 q2)) n2 (t0 m2) (show m2 598 k = -9 by rw [f2 _ _ (by omega)]; exact e98)
        · obtain ⟨q1, q2, q3⟩ := hRM
          have xb := bM_bd (ok3_b (hR x rfl).1)
          rw [q1, q2, q3]
          refine ⟨by constructor <;> omega, ?_⟩
          rw [if_neg (by omega)]
          exact setr x (fun m' a b c => fin m' a (by rw [mn_none]; exact b) (t0 m') c)
      simp only [if_neg k32] at fin ⊢
      have k33 : d.1 = 33 := by omega
      simp only [if_pos k33] at fin ⊢
      have wb := w0.2.2.2.1 (by omega)
      refine ⟨kb, by decide, ?_⟩
      rw [if_neg (by decide), if_neg (by decide), if_neg (by decide), if_pos trivial, e05 (by omega)]
      refine ⟨by constructor <;> omega, ?_⟩
      have bad : (d.2.2.1 < 2 ∨ 9973 < d.2.2.1) → P_X10_judgeRing_141 (R_X10_judgeRing dep) Q T k m1 := by
        intro q
        simp only [if_pos q] at fin
        unfold P_X10_judgeRing_141
        rw [e92 (by omega)]
        refine ⟨kb, c_noteM n1 (by decide) wb (fun m2 f2 n2 => ?_)⟩
        exact fin m2 (fun c' i q1 q2 => (f2 c' i q2).trans (f1 c' i q1 q2)) n2 (t0 m2) (show m2 598 k = -9 by rw [f2 _ _ (by omega)]; exact e98)
      by_cases q1 : d.2.2.1 < 2
      · rw [if_pos q1]; exact bad (Or.inl q1)
      rw [if_neg q1]
      by_cases q2 : 9973 < d.2.2.1
      · rw [if_pos q2]; exact bad (Or.inr q2)
      rw [if_neg q2]
      simp only [if_neg (show ¬ (d.2.2.1 < 2 ∨ 9973 < d.2.2.1) by omega)] at fin
      have st := setr (d.2.2.1, 0, 0) (fun m' a b c => fin m' a (by rw [mn_none]; exact b) (t0 m') c)
      rw [show bM (d.2.2.1, 0, 0).1 = d.2.2.1 from bM_small (show d.2.2.1 ≤ 9973 by omega)] at st
      exact st
    · -- with one
      have hc : isTy c := by
        rcases w0.2.2.2.2.2.2.2.2 with q | q | q | q
        · exfalso; have := q.1; unfold arT at this; omega
        · exfalso; omega
        · exfalso; omega
        · exact q.2
      have cs1 : cs = [m 591 k] := g5.2.2.2.2.2.2.2.2 (by omega)
      subst cs1
      have okc := fun x hx => tyO_ok hR3 c wc hc x hx
      have kc : 0 ≤ m 591 k ∧ m 591 k < 12000 ∧ cl ≤ m 591 k ∧ m 591 k < ch := by
        cases c with
        | leaf => exact hc.elim
        | inner zc dc uc cc sc => obtain ⟨n', ns', mc, i0, i1, ⟨cl', ch', cs', i2, i3⟩, i4⟩ := g7; cases i0; omega
      have pc : m 595 (m 591 k) = plT c ∧ (0 ≤ plT c ∧ plT c ≤ 400) := by
        cases c with
        | leaf => exact hc.elim
        | inner zc dc uc cc sc => obtain ⟨n', ns', mc, i0, i1, ⟨cl', ch', cs', i2, i3, i5⟩, i4⟩ := g7; cases i0; exact ⟨i3.2.1, wc.1.1⟩
      refine ⟨by constructor <;> omega, ?_⟩
      rw [if_neg (by omega)]
      have g71 : TM m1 P c cl ch [m 591 k] := g7.fr f1.st (fun d' c' n' a1 a2 _ => ⟨fun _ => f1 _ _ (by omega) (by omega), id⟩)
      refine ihc wc hc (n := n) (by omega) (by
        rcases R with - | x
        · exact (f1 582 62 (by omega) (by omega)).trans hRM
        · exact ⟨(f1 582 62 (by omega) (by omega)).trans hRM.1, (f1 582 63 (by omega) (by omega)).trans hRM.2.1, (f1 582 64 (by omega) (by omega)).trans hRM.2.2⟩) g71 n1 (fun m2 f2 n2 t2 r2 => ?_)
      have f2' : FRg lo hi m m2 := fun c' i q1 q2 => (f2 c' i (fun z => q1 ⟨z.1, by omega, by omega⟩) q2).trans (f1 c' i q1 q2)
      have e298 : m2 598 k = -9 := by rw [f2 _ _ (by omega) (by omega)]; exact e98
      have NM2 := g4.fr f2'.st (fun _ => f2' _ _ (by omega) (by omega))
      obtain ⟨-, e95, e05, -, -, e97, e92⟩ := NM2
      have e97' : m2 597 k = if d.1 = 34 then 5 else 6 := by
        rw [e97 (by omega), if_neg (by omega), if_neg (by omega), if_neg (by omega), if_neg (by omega)]
      unfold P_X10_judgeRing_24
      rw [e97']
      refine ⟨kb, by split <;> decide, ?_⟩
      rw [if_neg (by split <;> decide), if_neg (by split <;> decide), if_neg (by split <;> decide), if_neg (by split <;> decide), if_neg (by split <;> decide)]
      rw [show tyO R (.inner z d u c .leaf) = overO d (plT c) (tyO R c).1 (tyO R c).2 by
        show (if d.1 = 30 then _ else _) = _
        rw [if_neg (by omega), if_neg (by omega), if_neg (by omega), if_neg (by omega)]] at fin
      unfold overO at fin
      simp only at fin
      have rr := r2.ri okc
      have pcc : m2 595 (m 591 k) = plT c := by rw [f2' _ _ (by omega) (by omega)]; exact pc.1
      have t2' : ∀ m3, (∀ c' i, ¬ ((c' = 598 ∨ c' = 599 ∨ c' = 600) ∧ i = k) → ¬ (c' = 582 ∧ (i = 13 ∨ i = 14)) → m3 c' i = m2 c' i) → TM m3 (AnT m3 R) c cl ch [m 591 k] := fun m3 f3 => t2.fr (fun c' i z => f3 c' i (by omega) (by omega)) (fun d' c' n' a1 a2 _ => ⟨fun _ => f3 _ _ (by omega) (by omega), fun q => q.fr (fun c'' z => f3 _ _ (by omega) (by omega))⟩)
      -- behind the size
      have l68 : ∀ (m3 : MM) (x3 x4 : Int) (n0 : Nte), Fnm m2 m3 → NN' m3 (mn n (mn n0 (tyO R c).2)) → x3 = (if d.1 = 34 then 0 else 1) → (n0 = none ∧ x4 = 1 ∧ ¬ badM d ∨ n0 = some (d.2.2.2, 4) ∧ x4 = 0 ∧ badM d) → P_X10_judgeOver_68 (fun r7 m7 => Q 0 m7) k (m 591 k) x3 x4 m3 := by
        intro m3 x3 x4 n0 f3 n3 h3 h4
        have hm32 : ∀ c' i, ¬ (c' = 582 ∧ (i = 13 ∨ i = 14)) → m3 c' i = m2 c' i := f3
        have f3' : FRg lo hi m m3 := fun c' i q1 q2 => (f3 c' i q2).trans (f2' c' i q1 q2)
        have eN : ∀ {β : Type} (a b' : β), @ite _ (badM d) (Classical.propDecidable _) a b' = if x4 = 0 then a else b' := by
          intro β a b'
          rcases h4 with ⟨-, q1, q2⟩ | ⟨-, q1, q2⟩
          · rw [if_neg q2, if_neg (by omega)]
          · rw [if_pos q2, if_pos q1]
        have en0 : @ite Nte (badM d) (Classical.propDecidable _) (some (d.2.2.2, 4)) none = n0 := by
          rcases h4 with ⟨q0, q1, q2⟩ | ⟨q0, q1, q2⟩
          · rw [if_neg q2, q0]
          · rw [if_pos q2, q0]
        simp only [en0] at fin
        have done : ∀ m4, Fnm m3 m4 → TM m4 (AnT m4 R) c cl ch [m 591 k] ∧ FRg lo hi m m4 ∧ m4 598 k = -9 := fun m4 f4 => ⟨t2' m4 (fun c' i q1 q2 => (f4 c' i q2).trans (f3 c' i q2)), fun c' i q1 q2 => (f4 c' i q2).trans (f3' c' i q1 q2), by rw [f4 _ _ (by omega), f3 _ _ (by omega)]; exact e298⟩
        unfold P_X10_judgeOver_68
        rw [hm32 598 _ (by omega), hm32 599 _ (by omega), hm32 600 _ (by omega), hm32 595 _ (by omega), hm32 595 k (by omega), pcc]
        refine ⟨by omega, rr.1, ?_⟩
        rcases hx : (tyO R c).1 with - | x
        · rw [if_pos (rr.2.2 hx)]
          rw [hx] at fin
          have q := done m3 (fun _ _ _ => rfl)
          exact fin m3 q.2.1 n3 q.1 q.2.2
        · have ox := okc x hx
          rw [hx] at r2 fin
          obtain ⟨y1, y2, y3⟩ := r2
          have xb := bM_bd (ok3_b ox)
          have s3 : (0 ≤ x.2.1 ∧ x.2.1 ≤ 2) ∧ (0 ≤ x.2.2 ∧ x.2.2 ≤ 3) := by unfold ok3 at ox; omega
          rw [if_neg (fun q => by have := rr.2.1 q; rw [hx] at this; cases this), y1, y2, y3]
          simp only at fin
          refine ⟨by split; trivial; constructor <;> omega, by split; decide; split <;> decide, ?_⟩
          by_cases gx : x.1 = -2 ∨ x.2.2 ≠ 0
          · have e : (if bM x.1 = -2 then (0 : Int) else if x.2.2 = 0 then 1 else 0) = 0 := by
              by_cases q : x.1 = -2
              · rw [if_pos (xb.2.2.1.2 q)]
              · rw [if_neg (fun z => q (xb.2.2.1.1 z)), if_neg (by omega)]
            rw [if_pos e]
            rw [if_pos gx] at fin
            refine c_noteM n3 (by decide) pc.2 (fun m4 f4 n4 => ?_)
            have q := done m4 f4
            exact fin m4 q.2.1 (by rw [mn_assoc, mn_assoc] at n4; exact n4) q.1 q.2.2
          · have e : (if bM x.1 = -2 then (0 : Int) else if x.2.2 = 0 then 1 else 0) = 1 := by
              rw [if_neg (fun z => gx (Or.inl (xb.2.2.1.1 z))), if_pos (by omega)]
            rw [if_neg (by rw [e]; decide)]
            rw [if_neg gx] at fin
            have l154 : ¬ (d.1 = 34 ∧ x.2.1 = 2) → P_X10_judgeOver_154 (fun r7 m7 => Q 0 m7) k (m 591 k) x3 x4 m3 := by
              intro g2
              unfold P_X10_judgeOver_154
              rw [hm32 598 _ (by omega), hm32 599 _ (by omega), hm32 605 k (by omega), y1, y2]
              refine ⟨by rcases h4 with q | q <;> (constructor <;> omega), ?_⟩
              rcases h4 with ⟨q0, q1, q2⟩ | ⟨q0, q1, q2⟩
              · rw [if_neg (by omega)]
                refine ⟨by omega, by rw [h3]; split <;> decide, ⟨by rw [h3]; split <;> decide, by split; trivial; exact kb⟩, ?_⟩
                refine c_setRingM kb (fun m4 f4 a b c' => ?_)
                have q := t2' m4 (fun c'' i q1 q2 => by rw [f4 c'' i q1]; exact f3 c'' i q2)
                have fr4 : FRg lo hi m m4 := fun c'' i q1 q2 => by rw [f4 c'' i (fun z => q1 ⟨z.1, by omega, by omega⟩)]; exact f3' c'' i q1 q2
                have n4 : NN' m4 (mn n (tyO R c).2) := by
                  rw [q0] at n3
                  exact n3.congr (f4 _ _ (by omega)) (f4 _ _ (by omega))
                by_cases k34' : d.1 = 34
                · rw [if_pos k34', if_neg (fun z => g2 ⟨k34', z⟩)] at fin
                  rw [h3, if_pos k34', if_pos rfl] at b c'
                  refine fin m4 fr4 n4 q ⟨a, b, ?_⟩
                  rw [c']
                  show (0 : Int) = x.2.2
                  omega
                · rw [if_neg k34', eN, if_neg (by omega)] at fin
                  rw [h3, if_neg k34', if_neg (by decide)] at b c'
                  refine fin m4 fr4 n4 q ⟨a, by rw [b]; show x.2.1 + 0 = x.2.1; omega, ?_⟩
                  rw [c', e05 (by omega)]
              · rw [if_pos q1]
                have q' := done m3 (fun _ _ _ => rfl)
                have k34' : d.1 ≠ 34 := fun z => by have := q2.1; omega
                rw [if_neg k34', eN, if_pos q1] at fin
                exact fin m3 q'.2.1 n3 q'.1 q'.2.2
            refine ⟨by rw [h3]; split <;> decide, ?_⟩
            by_cases k34' : d.1 = 34
            · rw [if_pos (by rw [h3, if_pos k34'])]
              refine ⟨by constructor <;> omega, ?_⟩
              by_cases d2 : x.2.1 = 2
              · rw [if_pos d2, e95]
                rw [if_pos k34', if_pos d2] at fin
                have nb : ¬ badM d := fun z => by have := z.1; omega
                have q0 : n0 = none := by
                  rcases h4 with q | q
                  · exact q.1
                  · exact absurd q.2.2 nb
                rw [q0] at n3
                refine ⟨kb, c_noteM n3 (by decide) pb (fun m4 f4 n4 => ?_)⟩
                have q := done m4 f4
                exact fin m4 q.2.1 (by rw [mn_none', mn_assoc] at n4; exact n4) q.1 q.2.2
              · rw [if_neg d2]
                exact l154 (fun z => d2 z.2)
            · rw [if_neg (by rw [h3, if_neg k34']; decide)]
              exact l154 (fun z => k34' z.1)
      unfold P_X10_judgeOver
      have ex3 : (if m2 597 k = 6 then (1 : Int) else 0) = if d.1 = 34 then 0 else 1 := by
        rw [e97']
        by_cases q : d.1 = 34
        · rw [if_pos q, if_neg (by decide), if_pos q]
        · rw [if_neg q, if_pos rfl, if_neg q]
      rw [ex3]
      refine ⟨kb, by rw [e97']; split <;> decide, ⟨by split <;> decide, by
        by_cases q : d.1 = 34
        · rw [if_pos q, if_pos rfl]; trivial
        · rw [if_neg q, if_neg (by decide), e05 (by omega)]; constructor <;> omega⟩, ?_⟩
      by_cases k34' : d.1 = 34
      · have e4 : (if (if d.1 = 34 then (0 : Int) else 1) = 0 then (1 : Int) else if m2 605 k < 1 then 0 else if 3 < m2 605 k then 0 else 1) = 1 := by rw [if_pos k34', if_pos rfl]
        rw [e4]
        refine ⟨by decide, ?_⟩
        rw [if_neg (by decide)]
        exact l68 m2 _ _ none (fun _ _ _ => rfl) n2 rfl (Or.inl ⟨rfl, rfl, fun z => by have := z.1; omega⟩)
      · have e4 : (if (if d.1 = 34 then (0 : Int) else 1) = 0 then (1 : Int) else if m2 605 k < 1 then 0 else if 3 < m2 605 k then 0 else 1) = if d.2.2.1 < 1 ∨ 3 < d.2.2.1 then 0 else 1 := by
          rw [if_neg k34', if_neg (by decide), e05 (by omega)]
          by_cases q1 : d.2.2.1 < 1
          · rw [if_pos q1, if_pos (Or.inl q1)]
          · rw [if_neg q1]
            by_cases q2 : 3 < d.2.2.1
            · rw [if_pos q2, if_pos (Or.inr q2)]
            · rw [if_neg q2, if_neg (by omega)]
        rw [e4]
        refine ⟨by split <;> decide, ?_⟩
        by_cases q : d.2.2.1 < 1 ∨ 3 < d.2.2.1
        · rw [if_pos q, if_pos rfl, e92 (by omega)]
          have wb := w0.2.2.2.1 (by omega)
          refine c_noteM n2 (by decide) wb (fun m3 f3 n3 => ?_)
          refine l68 m3 _ _ (some (d.2.2.2, 4)) f3 ?_ rfl (Or.inr ⟨rfl, rfl, ⟨by omega, q⟩⟩)
          rw [mn_assoc] at n3
          rw [mn_comm (a := some (d.2.2.2, 4))]
          exact n3
        · rw [if_neg q, if_neg (by decide)]
          exact l68 m2 _ _ none (fun _ _ _ => rfl) n2 rfl (Or.inl ⟨rfl, rfl, fun z => q z.2⟩)
end NOTEM
