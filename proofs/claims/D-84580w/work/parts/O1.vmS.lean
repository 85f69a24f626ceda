set_option maxRecDepth 100000
/-! the model's tasks: state -/
theorem nw_at : ∀ (t : TT) (i : Nat), i < lenT t → i + wT (prT t i) ≤ (nwT t).1 ∧ wT (prT t i) ≤ (nwT t).2.1 ∧ (i = 0 → wT (prT t i) = (nwT t).2.2) := by
  intro t
  induction t with
  | leaf => intro i h; exact absurd h (Nat.not_lt_zero _)
  | inner z d u c s ihc ihs =>
    intro i h
    cases i with
    | zero =>
      show 0 + wT (d, c) ≤ max (wND d (lenT c) (nwT c)) (1 + (nwT s).1) ∧ wT (d, c) ≤ max (wND d (lenT c) (nwT c)) (nwT s).2.1 ∧ (0 = 0 → wT (d, c) = wND d (lenT c) (nwT c))
      have e : wT (d, c) = wND d (lenT c) (nwT c) := rfl
      rw [e]
      omega
    | succ i =>
      have h : i + 1 < lenT s + 1 := h
      obtain ⟨q1, q2, q3⟩ := ihs i (by omega)
      show i + 1 + wT (prT s i) ≤ max (wND d (lenT c) (nwT c)) (1 + (nwT s).1) ∧ wT (prT s i) ≤ max (wND d (lenT c) (nwT c)) (nwT s).2.1 ∧ (i + 1 = 0 → _)
      exact ⟨by omega, by omega, fun z => by omega⟩
theorem wT_pa {a : PT} (nb : ¬ badA a.1 (lenT a.2)) : ((a.1.1 = 8 ∨ a.1.1 = 9 ∨ a.1.1 = 10) → ∀ i, i < lenT a.2 → wT (prT a.2 i) ≤ wT a) ∧ ((a.1.1 = 24 ∨ a.1.1 = 25) → 0 < lenT a.2 → wT (prT a.2 0) ≤ wT a) ∧ (a.1.1 = 7 → ∀ i, i < lenT a.2 → 1 + wT (prT a.2 i) ≤ wT a) ∧ (¬ (a.1.1 = 8 ∨ a.1.1 = 9 ∨ a.1.1 = 10) → ¬ (a.1.1 = 24 ∨ a.1.1 = 25) → a.1.1 ≠ 7 → ∀ i, i < lenT a.2 → i + wT (prT a.2 i) ≤ wT a) ∧ 1 ≤ wT a := by
  have e : wT a = max 1 (if a.1.1 = 8 ∨ a.1.1 = 9 ∨ a.1.1 = 10 then (nwT a.2).2.1 else if a.1.1 = 24 ∨ a.1.1 = 25 then (nwT a.2).2.2 else if a.1.1 = 7 then 1 + (nwT a.2).2.1 else (nwT a.2).1) := by
    unfold wT wND
    rw [if_neg nb]
  refine ⟨fun c i hi => ?_, fun c hi => ?_, fun c i hi => ?_, fun c c2 c3 i hi => ?_, wT_pos a⟩
  · rw [e, if_pos c]
    have := nw_at a.2 i hi
    omega
  · rw [e, if_neg (by omega), if_pos c]
    have := (nw_at a.2 0 hi).2.2 rfl
    omega
  · rw [e, if_neg (by omega), if_neg (by omega), if_pos c]
    have := nw_at a.2 i hi
    omega
  · rw [e, if_neg c, if_neg c2, if_neg c3]
    have := nw_at a.2 i hi
    omega
theorem sz_part : ∀ (t : TT) (i : Nat), i < lenT t → szT (prT t i).2 + 1 ≤ szT t := by
  intro t
  induction t with
  | leaf => intro i h; exact absurd h (Nat.not_lt_zero _)
  | inner z d u c s ihc ihs =>
    intro i h
    cases i with
    | zero => show szT c + 1 ≤ szT c + szT s + 1; omega
    | succ i =>
      have h : i + 1 < lenT s + 1 := h
      have := ihs i (by omega)
      show szT (prT s i).2 + 1 ≤ szT c + szT s + 1
      omega
/-- a task: what, of which part, three numbers besides -/
abbrev Tk : Type := Int × Int × Int × Int × Int
def tkG (m : MM) : List Tk → Prop
  | [] => True
  | t :: T => tkG m T ∧ m 636 (T.length : Int) = t.1 ∧ m 637 (T.length : Int) = t.2.1 ∧ m 638 (T.length : Int) = t.2.2.1 ∧ m 639 (T.length : Int) = t.2.2.2.1 ∧ m 640 (T.length : Int) = t.2.2.2.2
/-- of functions: where their parts lie, the first part; of the line: its expression, where it lies, its first part -/
abbrev SGm : Type := (Int → Int × Int) × (Int → Int) × PT × Int × Int × Int
def RgO (S : SGm) (n : Int) : Prop := (0 ≤ S.2.2.2.1 ∧ S.2.2.2.2.1 ≤ 12000) ∧ ∀ f, 0 ≤ f → f < n → (0 ≤ (S.1 f).1 ∧ (S.1 f).1 ≤ (S.1 f).2 ∧ (S.1 f).2 ≤ S.2.2.2.1) ∧ ∀ g, f < g → g < n → (S.1 f).2 ≤ (S.1 g).1
def AnA (m : MM) (F : Int → FnR) (n : Int) (S : SGm) : Prop := ∀ f, 0 ≤ f → f < n → m 610 f = S.2.1 f ∧ AnB m F f (rootF (F f)).1 (rootF (F f)).2 (S.1 f).1 (S.1 f).2 (S.2.1 f)
def FsM (F : Int → FnR) (n : Int) : Prop := ∀ f, 0 ≤ f → f < n → szT (rootF (F f)).2 ≤ 150 ∧ max (dq (nd (rootF (F f)).1 (rootF (F f)).2 lf)).1 (dq (nd (rootF (F f)).1 (rootF (F f)).2 lf)).2 ≤ 300 ∧ wT (rootF (F f)) ≤ 63
/-- the parts of the expression that is worked have their rings -/
def Hm (F : Int → FnR) (S : SGm) (e : JE) (h : Int) (m : MM) : Prop := (h < 0 → TNM m (AnP m e 1) S.2.2.1.1 S.2.2.1.2 S.2.2.2.1 S.2.2.2.2.1 S.2.2.2.2.2) ∧ (0 ≤ h → TNM m (AnP m e 0) (rootF (F h)).1 (rootF (F h)).2 (S.1 h).1 (S.1 h).2 (S.2.1 h))
def roM (h : Int) : Int := if h < 0 then 1 else 0
def HdE (F : Int → FnR) (n : Int) (E : EVm) (h : Int) : Prop := (h = -1 ∧ E.1.2.2.2.2 = none) ∨ (∃ R, E.1 = JEf F h R ∧ (0 ≤ h ∧ h < n) ∧ (R = none ↔ (F h).2.2.1 = 0) ∧ (∀ x, R = some x → ok3 x ∧ (x.1 = 0 ∨ x.1 = 1 ∨ x.1 = 20000 ∨ x.1 = 20001) ∧ canS (F h) x) ∧ ∀ k, 0 ≤ k → k ≤ (F h).2.1 → instS (F h) k R ≠ none)
def VmI (m : MM) (F : Int → FnR) (n : Int) (S : SGm) (ms : MM) : Prop := (0 ≤ n ∧ n ≤ 20) ∧ BKm m F n ∧ BFM m ∧ AnA m F n S ∧ FSt ms m ∧ m 582 68 = 0 ∧ NN' m none
def VmD (m : MM) (E : EVm) (T : List Tk) (l : List VV) (s : ES) : Prop := m 582 84 = 0 ∧ tkG m T ∧ m 582 99 = (T.length : Int) ∧ stM m l ∧ m 582 86 = (l.length : Int) ∧ m 582 90 = s.1 ∧ m 582 92 = s.2 ∧ m 582 91 = E.2.2.1 ∧ (2 ≤ E.2.1 → m 582 89 = E.2.1)
def VvO (m : MM) (E : EVm) (h : Int) : Prop := (∀ v y, 0 ≤ v → E.1.2.1 v = some y → v < 200 ∧ VM (m 629) (882 * v) (E.2.2.2.2 v)) ∧ (h < 0 → ∀ w i y, E.1.1 w = some (i, y) → (0 ≤ i ∧ i < 20) ∧ VM (m 630) (882 * i) (E.2.2.2.1 i))
def VmE (m : MM) (F : Int → FnR) (n : Int) (S : SGm) (E : EVm) (h pb : Int) : Prop := HdE F n E h ∧ m 582 61 = h ∧ RM m E.1.2.2.2.2 ∧ (0 ≤ h → Rec3 m h E.1.2.2.2.2) ∧ Hm F S E.1 h m ∧ m 582 93 = pb
def VmS (m : MM) (F : Int → FnR) (n : Int) (S : SGm) (ms : MM) (E : EVm) (h pb : Int) (T : List Tk) (l : List VV) (s : ES) : Prop := VmI m F n S ms ∧ VmD m E T l s ∧ VvO m E h ∧ VmE m F n S E h pb ∧ (0 ≤ E.2.2.1 ∧ E.2.2.1 ≤ 20) ∧ (0 ≤ s.1 ∧ s.1 ≤ 20000) ∧ (0 ≤ s.2 ∧ s.2 ≤ 20)
/-- parameters lie in the pile -/
def NmM (E : EVm) (h pb : Int) (l : List VV) : Prop := 0 ≤ h → ∀ w i y, E.1.1 w = some (i, y) → ∃ pre suf, l = pre ++ E.2.2.2.1 i :: suf ∧ pb + i = (suf.length : Int)
/-- what working may change -/
def Fvm (cl lo : Int) (m m' : MM) : Prop := (∀ c i, c ≠ 582 → ¬ (635 ≤ c ∧ c ≤ 640) → ¬ (641 ≤ c ∧ c ≤ 647 ∧ cl ≤ i) → ¬ (596 ≤ c ∧ c ≤ 603 ∧ i < lo) → ¬ (618 ≤ c ∧ c ≤ 620) → ¬ (631 ≤ c ∧ c ≤ 634) → ¬ (648 ≤ c ∧ c ≤ 650) → m' c i = m c i) ∧ ∀ i, ¬ (i = 13 ∨ i = 14 ∨ 61 ≤ i ∧ i ≤ 99) → m' 582 i = m 582 i
def GoM (Q : Int → MM → Prop) (R : Nat) (m : MM) : Prop := ∀ r, R ≤ r → P_X10_eval_10 Q r m
/-- a part lies at a node -/
def SbM (F : Int → FnR) (S : SGm) (ms : MM) (e : JE) (h : Int) (a : PT) (k : Int) : Prop := ∀ m, FSt ms m → Hm F S e h m → ∃ lo hi, TNM m (AnP m e (roM h)) a.1 a.2 lo hi k
/-- a node, its parts' nodes -/
def NdM (m : MM) (e : JE) (ro : Int) (a : PT) (k : Int) (cs : List Int) : Prop := (0 ≤ k ∧ k < 12000) ∧ NM m a.1 k ∧ LKm m a.1 k cs ∧ AnP m e ro a.1 a.2 k ∧ cs.length = lenT a.2 ∧ ∀ (i : Nat) (c : Int), cs[i]? = some c → ∃ lo hi, TNM m (AnP m e ro) (prT a.2 i).1 (prT a.2 i).2 lo hi c
section VMS
variable {Q : Int → MM → Prop} {m m' m1 ms : MM} {F : Int → FnR} {n : Int} {S : SGm} {E : EVm} {h pb : Int} {T T' : List Tk} {l l' : List VV} {s s' : ES} {R : Nat} {a : PT} {k cl lo : Int} {e : JE} {ro : Int} {cs : List Int}
theorem Fvm.refl : Fvm cl lo m m := ⟨fun _ _ _ _ _ _ _ _ _ => rfl, fun _ _ => rfl⟩
theorem Fvm.trans (h : Fvm cl lo m m1) (g : Fvm cl lo m1 m') : Fvm cl lo m m' := ⟨fun c i a1 a2 a3 a4 a5 a6 a7 => (g.1 c i a1 a2 a3 a4 a5 a6 a7).trans (h.1 c i a1 a2 a3 a4 a5 a6 a7), fun i a => (g.2 i a).trans (h.2 i a)⟩
theorem Fvm.le {cl' : Int} (h : Fvm cl lo m m') (hc : cl' ≤ cl) : Fvm cl' lo m m' := ⟨fun c i a1 a2 a3 a4 a5 a6 a7 => h.1 c i a1 a2 (by omega) a4 a5 a6 a7, h.2⟩
theorem tkG.fr : ∀ {T : List Tk}, tkG m T → (∀ c i, 636 ≤ c → c ≤ 640 → 0 ≤ i → i < (T.length : Int) → m' c i = m c i) → tkG m' T := by
  intro T
  induction T with
  | nil => intro _ _; trivial
  | cons t T ih =>
    intro h f
    obtain ⟨h1, h2, h3, h4, h5, h6⟩ := h
    rw [List.length_cons] at f
    refine ⟨ih h1 (fun c i a1 a2 a3 a4 => f c i a1 a2 a3 (by omega)), ?_, ?_, ?_, ?_, ?_⟩
    · rw [f _ _ (by decide) (by decide) (by omega) (by omega)]; exact h2
    · rw [f _ _ (by decide) (by decide) (by omega) (by omega)]; exact h3
    · rw [f _ _ (by decide) (by decide) (by omega) (by omega)]; exact h4
    · rw [f _ _ (by decide) (by decide) (by omega) (by omega)]; exact h5
    · rw [f _ _ (by decide) (by decide) (by omega) (by omega)]; exact h6
theorem TNM.fr2 {d : ND} {c : TT} {lo hi : Int} (h : TNM m (AnP m e ro) d c lo hi k) (f : ∀ c i, 590 ≤ c → c ≤ 605 → lo ≤ i → i < hi → m' c i = m c i) (g : FSt m m') : TNM m' (AnP m' e ro) d c lo hi k := by
  obtain ⟨cl, ch, cs, ⟨b1, b2, b3⟩, h1, h2, h3, h4⟩ := h
  refine ⟨cl, ch, cs, ⟨b1, b2, b3⟩, h1.fr g (fun _ => f _ _ (by decide) (by decide) (by omega) (by omega)), h2.fr g, h3.fr (fun c hc hc' => f c k (by omega) (by omega) (by omega) (by omega)), h4.fr g (fun d c n n0 n1 _ => ⟨fun _ => f _ _ (by decide) (by decide) (by omega) (by omega), fun q => q.fr (fun c hc hc' => f c n (by omega) (by omega) (by omega) (by omega))⟩)⟩
theorem AnB.fr2 {d : ND} {c : TT} {f lo hi : Int} (h : AnB m F f d c lo hi k) (g : ∀ c i, 590 ≤ c → c ≤ 605 → lo ≤ i → i < hi → m' c i = m c i) (g2 : ∀ c, 618 ≤ c → c ≤ 620 → m' c f = m c f) (g3 : FSt m m') : AnB m' F f d c lo hi k := by
  obtain ⟨R, h1, h2, h3, h4⟩ := h
  refine ⟨R, ?_, h2, h3, h4.fr2 g g3⟩
  cases R with
  | none => trivial
  | some r =>
    obtain ⟨a1, a2, a3⟩ := h1
    exact ⟨by rw [g2 _ (by decide) (by decide)]; exact a1, by rw [g2 _ (by decide) (by decide)]; exact a2, by rw [g2 _ (by decide) (by decide)]; exact a3⟩
theorem Hm.fr {x : Int} (H : Hm F S e x m) (f : ∀ c i, 590 ≤ c → c ≤ 605 → m' c i = m c i) : Hm F S e x m' := ⟨fun q => (H.1 q).fr2 (fun c i a1 a2 _ _ => f c i a1 a2) (fun c i a => f c i (by omega) (by omega)), fun q => (H.2 q).fr2 (fun c i a1 a2 _ _ => f c i a1 a2) (fun c i a => f c i (by omega) (by omega))⟩
theorem RM.fr {R : Option R3} (h : RM m R) (f : ∀ i, 62 ≤ i → i ≤ 64 → m' 582 i = m 582 i) : RM m' R := by
  cases R with
  | none => show m' 582 62 = -9; rw [f _ (by decide) (by decide)]; exact h
  | some r =>
    obtain ⟨a1, a2, a3⟩ := h
    exact ⟨by rw [f _ (by decide) (by decide)]; exact a1, by rw [f _ (by decide) (by decide)]; exact a2, by rw [f _ (by decide) (by decide)]; exact a3⟩
theorem Rec3.fr {R : Option R3} {f : Int} (h : Rec3 m f R) (g : ∀ c, 618 ≤ c → c ≤ 620 → m' c f = m c f) : Rec3 m' f R := by
  cases R with
  | none => trivial
  | some r =>
    obtain ⟨a1, a2, a3⟩ := h
    exact ⟨by rw [g _ (by decide) (by decide)]; exact a1, by rw [g _ (by decide) (by decide)]; exact a2, by rw [g _ (by decide) (by decide)]; exact a3⟩
theorem VmI.fr (h : VmI m F n S ms) (f : ∀ c i, 583 ≤ c → c ≤ 622 → m' c i = m c i) (e68 : ∀ i, i = 13 ∨ i = 14 ∨ i = 68 → m' 582 i = m 582 i) : VmI m' F n S ms := by
  obtain ⟨h1, h2, h3, h4, h5, h6, h7⟩ := h
  exact ⟨h1, h2.fr (fun c i q => f c i (by omega) (by omega)), fun k k0 k1 => by rw [f _ _ (by decide) (by decide)]; exact h3 k k0 k1, fun g g0 g1 => ⟨by rw [f _ _ (by decide) (by decide)]; exact (h4 g g0 g1).1, (h4 g g0 g1).2.fr2 (fun c i a1 a2 _ _ => f c i (by omega) (by omega)) (fun c a1 a2 => f c g (by omega) (by omega)) (fun c i q => f c i (by omega) (by omega))⟩, fun c i q => by rw [f c i (by omega) (by omega)]; exact h5 c i q, by rw [e68 _ (by omega)]; exact h6, h7.congr (e68 _ (by omega)) (e68 _ (by omega))⟩
/-- a step that calls nobody -/
theorem VmS.chg (H : VmS m F n S ms E h pb T l s) (f : ∀ c i, ¬ (c = 582 ∧ (i = 84 ∨ (86 ≤ i ∧ i ≤ 88) ∨ i = 90 ∨ i = 92 ∨ i = 99 ∨ (65 ≤ i ∧ i ≤ 67) ∨ (70 ≤ i ∧ i ≤ 72))) → ¬ (635 ≤ c ∧ c ≤ 640) → ¬ (648 ≤ c ∧ c ≤ 650) → m' c i = m c i) (e84 : m' 582 84 = 0) (tk : tkG m' T') (e99 : m' 582 99 = (T'.length : Int)) (st : stM m' l') (e86 : m' 582 86 = (l'.length : Int)) (e90 : m' 582 90 = s'.1) (e92 : m' 582 92 = s'.2) (bs : (0 ≤ s'.1 ∧ s'.1 ≤ 20000) ∧ (0 ≤ s'.2 ∧ s'.2 ≤ 20)) : VmS m' F n S ms E h pb T' l' s' ∧ Fvm E.2.2.1 S.2.2.2.1 m m' := by
  obtain ⟨I, ⟨d1, d2, d3, d4, d5, d6, d7, d8, d9⟩, V, ⟨x1, x2, x3, x4, x5, x6⟩, b, -⟩ := H
  refine ⟨⟨I.fr (fun c i a1 a2 => f c i (by omega) (by omega) (by omega)) (fun i hi => f _ _ (by omega) (by omega) (by omega)), ⟨e84, tk, e99, st, e86, e90, e92, by rw [f _ _ (by decide) (by decide) (by decide)]; exact d8, fun q => by rw [f _ _ (by decide) (by decide) (by decide)]; exact d9 q⟩, ?_, ⟨x1, by rw [f _ _ (by decide) (by decide) (by decide)]; exact x2, x3.fr (fun i a1 a2 => f _ _ (by omega) (by omega) (by omega)), fun q => (x4 q).fr (fun c a1 a2 => f _ _ (by omega) (by omega) (by omega)), x5.fr (fun c i a1 a2 => f c i (by omega) (by omega) (by omega)), by rw [f _ _ (by decide) (by decide) (by decide)]; exact x6⟩, b, bs⟩, fun c i a1 a2 a3 a4 a5 a6 a7 => f c i (fun z => a1 z.1) a2 a7, fun i q => f _ _ (by omega) (by omega) (by omega)⟩
  have e9 : m' 629 = m 629 := funext (fun i => f _ _ (by omega) (by omega) (by omega))
  have e0 : m' 630 = m 630 := funext (fun i => f _ _ (by omega) (by omega) (by omega))
  unfold VvO
  rw [e9, e0]; exact V
theorem VmS.er (H : VmS m F n S ms E h pb T l s) : m 582 84 = 0 := H.2.1.1
theorem VmS.tk (H : VmS m F n S ms E h pb T l s) : tkG m T := H.2.1.2.1
theorem VmS.ts (H : VmS m F n S ms E h pb T l s) : m 582 99 = (T.length : Int) := H.2.1.2.2.1
theorem VmS.st (H : VmS m F n S ms E h pb T l s) : stM m l := H.2.1.2.2.2.1
theorem VmS.tp (H : VmS m F n S ms E h pb T l s) : m 582 86 = (l.length : Int) := H.2.1.2.2.2.2.1
theorem VmS.s1 (H : VmS m F n S ms E h pb T l s) : m 582 90 = s.1 := H.2.1.2.2.2.2.2.1
theorem VmS.s2 (H : VmS m F n S ms E h pb T l s) : m 582 92 = s.2 := H.2.1.2.2.2.2.2.2.1
theorem VmS.bs (H : VmS m F n S ms E h pb T l s) : (0 ≤ s.1 ∧ s.1 ≤ 20000) ∧ (0 ≤ s.2 ∧ s.2 ≤ 20) := H.2.2.2.2.2
/-! nodes -/
theorem ITM_uniq : ∀ {cs cs0 : List Int} {i : Int}, ITM m i cs → ITM m' i cs0 → (∀ c i, c = 591 ∨ c = 594 → m' c i = m c i) → cs = cs0 := by
  intro cs
  induction cs with
  | nil =>
    intro cs0 i h h0 f
    cases cs0 with
    | nil => rfl
    | cons c cs0 =>
      have h : i = -1 := h
      have := h0.1
      omega
  | cons c cs ih =>
    intro cs0 i h h0 f
    cases cs0 with
    | nil =>
      have h0 : i = -1 := h0
      have := h.1
      omega
    | cons c0 cs0 =>
      have e : c = c0 := by rw [← h.2.1, ← h0.2.1, f _ _ (.inl rfl)]
      rw [e, ih h.2.2 (by have := h0.2.2; rw [f _ _ (.inr rfl)] at this; exact this) f]
theorem RWM_uniq : ∀ {rs rs0 : List (List Int)} {i : Int}, RWM m i rs → RWM m' i rs0 → (∀ c i, c = 591 ∨ c = 594 → m' c i = m c i) → rs = rs0 := by
  intro rs
  induction rs with
  | nil =>
    intro rs0 i h h0 f
    cases rs0 with
    | nil => rfl
    | cons c cs0 =>
      have h : i = -1 := h
      have := h0.1
      omega
  | cons r rs ih =>
    intro rs0 i h h0 f
    cases rs0 with
    | nil =>
      have h0 : i = -1 := h0
      have := h.1
      omega
    | cons r0 rs0 =>
      obtain ⟨a1, a2, a3, a4⟩ := h
      obtain ⟨b1, b2, b3, b4⟩ := h0
      rw [f _ _ (.inl rfl)] at b2
      rw [f _ _ (.inr rfl)] at b4
      rw [ITM_uniq a2 b2 f, ih a4 b4 f]
theorem LKm_uniq {d : ND} {cs0 : List Int} (hk : 0 ≤ d.1 ∧ d.1 ≤ 25) (f : FSt m m') (L : LKm m d k cs) (L0 : LKm m' d k cs0) (h4 : d.1 ≤ 4 → cs = [] ∧ cs0 = []) : cs = cs0 := by
  have g : ∀ c i, c = 591 ∨ c = 594 → m' c i = m c i := fun c i q => f c i (by omega)
  have e1 : m' 591 k = m 591 k := f _ _ (by omega)
  have e2 : m' 592 k = m 592 k := f _ _ (by omega)
  have e3 : m' 593 k = m 593 k := f _ _ (by omega)
  obtain ⟨l1, l2, l3, l4, l5, l6, l7, l8, l9⟩ := L
  obtain ⟨k1, k2, k3, k4, k5, k6, k7, k8, k9⟩ := L0
  rw [e1] at k1 k3 k4 k5 k6 k7
  rw [e2] at k3 k4
  rw [e3] at k3 k7
  by_cases c4 : d.1 ≤ 4
  · rw [(h4 c4).1, (h4 c4).2]
  by_cases c5 : d.1 = 5 ∨ d.1 = 6
  · exact ITM_uniq (l1 c5) (k1 c5) g
  by_cases c7 : d.1 = 7
  · obtain ⟨rs, q1, q2, -⟩ := l2 c7
    obtain ⟨rs0, p1, p2, -⟩ := k2 c7
    rw [e1] at p1
    rw [q2, p2, RWM_uniq q1 p1 g]
  by_cases c8 : d.1 = 8
  · rw [l3 c8, k3 c8]
  by_cases c9 : d.1 = 9 ∨ d.1 = 10 ∨ 12 ≤ d.1 ∧ d.1 ≤ 21
  · rw [(l4 c9).1, (k4 c9).1]
  by_cases c11 : d.1 = 11 ∨ d.1 = 22
  · rw [l5 c11, k5 c11]
  by_cases c23 : d.1 = 23
  · rw [(l6 c23).1, (k6 c23).1]
  · rw [(l7 (by omega)).1, (k7 (by omega)).1]
theorem TM_nth {P : ND → TT → Int → Prop} : ∀ {t : TT} {lo hi : Int} {ns : List Int}, TM m P t lo hi ns → ∀ (i : Nat) (c : Int), ns[i]? = some c → ∃ lo hi, TNM m P (prT t i).1 (prT t i).2 lo hi c := by
  intro t
  induction t with
  | leaf =>
    intro lo hi ns h i c hc
    rw [h.1] at hc
    simp at hc
  | inner z d u ch s ihc ihs =>
    intro lo hi ns h i c hc
    obtain ⟨n, ns', mid, rfl, -, h1, h2⟩ := TM_cons.1 h
    cases i with
    | zero =>
      simp at hc
      subst hc
      exact ⟨_, _, h1⟩
    | succ i =>
      simp at hc
      exact ihs h2 i c hc
theorem TNM.view {lo hi : Int} (h : TNM m (AnP m e ro) a.1 a.2 lo hi k) : ∃ cs, NdM m e ro a k cs := by
  obtain ⟨cl, ch, cs, ⟨b1, b2, b3⟩, h1, h2, h3, h4⟩ := h
  exact ⟨cs, by omega, h1, h2, h3, TM_len h4, fun i c hc => TM_nth h4 i c hc⟩
/-- the parts' nodes are the same all the time -/
theorem SbM.part (hS : SbM F S ms e h a k) (hk : 0 ≤ a.1.1 ∧ a.1.1 ≤ 25) (w : okN a.1 a.2) (f : FSt ms m) (N : NdM m e (roM h) a k cs) {i : Nat} {c : Int} (hc : cs[i]? = some c) : SbM F S ms e h (prT a.2 i) c := by
  intro m' f' H'
  obtain ⟨lo, hi, q⟩ := hS m' f' H'
  obtain ⟨cs', N'⟩ := q.view
  have ff : FSt m m' := fun c i z => by rw [f' c i z, f c i z]
  have e : cs = cs' := LKm_uniq hk ff N.2.2.1 N'.2.2.1 (fun z => by
    have l0 : lenT a.2 = 0 := (ar_len (okN_ar2 w (by omega)).1).1 (by omega)
    have n1 := N.2.2.2.2.1
    have n2 := N'.2.2.2.2.1
    rw [l0] at n1 n2
    exact ⟨List.length_eq_zero_iff.1 n1, List.length_eq_zero_iff.1 n2⟩)
  rw [e] at hc
  exact N'.2.2.2.2.2 i c hc
theorem VmS.node (H : VmS m F n S ms E h pb T l s) (hS : SbM F S ms E.1 h a k) : ∃ cs, NdM m E.1 (roM h) a k cs := by
  obtain ⟨lo, hi, q⟩ := hS m H.1.2.2.2.2.1 H.2.2.2.1.2.2.2.2.1
  exact q.view
/-! steps of the loop -/
/-- the latest task is taken -/
theorem runT {t : Tk} (H : VmS m F n S ms E h pb (t :: T) l s) (hT : T.length < 12000) (hl : l.length ≤ 1800) (K : ∀ m1, VmS m1 F n S ms E h pb T l s → Fvm E.2.2.1 S.2.2.2.1 m m1 → ∀ r, R ≤ r → P_X10_task_20 (fun _ m2 => P_X10_eval_10 Q r m2) t.1 t.2.1 t.2.2.1 t.2.2.2.1 t.2.2.2.2 (if l.length = 0 then 0 else 882 * ((l.length : Int) - 1)) m1) : GoM Q (R + 1) m := by
  intro r hr
  obtain ⟨r, rfl⟩ : ∃ r', r = r' + 1 := ⟨r - 1, by omega⟩
  have ts := H.ts
  rw [List.length_cons] at ts
  unfold P_X10_eval_10
  refine ⟨by rw [ts]; constructor <;> omega, ?_⟩
  rw [if_neg (by omega), H.er]
  refine ⟨by decide, ?_⟩
  rw [if_pos rfl]
  intro m1 e1
  have f1 : ∀ c i, ¬ (c = 582 ∧ i = 99) → m1 c i = m c i := fun c i q => by rw [e1, up_ne q]
  have e99 : m1 582 99 = (T.length : Int) := by rw [e1, up_at, ts]; omega
  have tk := H.tk
  obtain ⟨S1, F1⟩ := H.chg (m' := m1) (T' := T) (l' := l) (s' := s) (fun c i q _ _ => f1 c i (by omega)) (by rw [f1 _ _ (by decide)]; exact H.er) (tk.1.fr (fun c i _ _ _ _ => f1 c i (by omega))) e99 (H.st.fr (fun q _ _ => f1 _ _ (by omega))) (by rw [f1 _ _ (by decide)]; exact H.tp) (by rw [f1 _ _ (by decide)]; exact H.s1) (by rw [f1 _ _ (by decide)]; exact H.s2) H.bs
  rw [e99]
  refine ⟨by omega, ?_⟩
  rw [f1 636 _ (by omega), f1 637 _ (by omega), f1 638 _ (by omega), f1 639 _ (by omega), f1 640 _ (by omega), tk.2.1, tk.2.2.1, tk.2.2.2.1, tk.2.2.2.2.1, tk.2.2.2.2.2]
  have kk := K m1 S1 F1 r (by omega)
  unfold P_X10_task
  rw [S1.tp]
  refine ⟨by constructor <;> omega, ?_⟩
  by_cases c : l.length = 0
  · rw [if_pos (by omega)]
    rw [if_pos c] at kk
    exact kk
  · rw [if_neg (by omega)]
    rw [if_neg c] at kk
    exact kk
/-- a task is laid -/
theorem c_later {t : Tk} (H : VmS m F n S ms E h pb T l s) (hT : T.length < 12000) (K : ∀ m', VmS m' F n S ms E h pb (t :: T) l s → Fvm E.2.2.1 S.2.2.2.1 m m' → (∀ c i, ¬ (c = 582 ∧ i = 99) → ¬ (636 ≤ c ∧ c ≤ 640) → m' c i = m c i) → Q 0 m') : P_X10_later_2 t.1 t.2.1 t.2.2.1 t.2.2.2.1 t.2.2.2.2 m Q := by
  have ts := H.ts
  unfold P_X10_later_2
  rw [ts]
  refine ⟨by omega, fun m1 e1 => ?_⟩
  have a1 : m1 582 99 = (T.length : Int) := by rw [e1, up_ne (by omega)]; exact ts
  rw [a1]
  refine ⟨by omega, fun m2 e2 => ?_⟩
  have a2 : m2 582 99 = (T.length : Int) := by rw [e2, up_ne (by omega)]; exact a1
  rw [a2]
  refine ⟨by omega, fun m3 e3 => ?_⟩
  have a3 : m3 582 99 = (T.length : Int) := by rw [e3, up_ne (by omega)]; exact a2
  rw [a3]
  refine ⟨by omega, fun m4 e4 => ?_⟩
  have a4 : m4 582 99 = (T.length : Int) := by rw [e4, up_ne (by omega)]; exact a3
  rw [a4]
  refine ⟨by omega, fun m5 e5 => ?_⟩
  have a5 : m5 582 99 = (T.length : Int) := by rw [e5, up_ne (by omega)]; exact a4
  rw [a5]
  intro m6 e6
  have f5 : ∀ c i, ¬ (636 ≤ c ∧ c ≤ 640 ∧ i = (T.length : Int)) → m5 c i = m c i := fun c i q => by rw [e5, up_ne (by omega), e4, up_ne (by omega), e3, up_ne (by omega), e2, up_ne (by omega), e1, up_ne (by omega)]
  have f6 : ∀ c i, ¬ (c = 582 ∧ i = 99) → m6 c i = m5 c i := fun c i q => by rw [e6, up_ne q]
  have ff : ∀ c i, ¬ (c = 582 ∧ i = 99) → ¬ (636 ≤ c ∧ c ≤ 640 ∧ i = (T.length : Int)) → m6 c i = m c i := fun c i q1 q2 => (f6 c i q1).trans (f5 c i q2)
  have tk6 : tkG m6 (t :: T) := by
    refine ⟨H.tk.fr (fun c i a1 a2 a3 a4 => ff c i (by omega) (by omega)), ?_, ?_, ?_, ?_, ?_⟩
    · rw [f6 _ _ (by omega), e5, up_ne (by omega), e4, up_ne (by omega), e3, up_ne (by omega), e2, up_ne (by omega), e1, up_at]
    · rw [f6 _ _ (by omega), e5, up_ne (by omega), e4, up_ne (by omega), e3, up_ne (by omega), e2, up_at]
    · rw [f6 _ _ (by omega), e5, up_ne (by omega), e4, up_ne (by omega), e3, up_at]
    · rw [f6 _ _ (by omega), e5, up_ne (by omega), e4, up_at]
    · rw [f6 _ _ (by omega), e5, up_at]
  obtain ⟨S6, F6⟩ := H.chg (m' := m6) (T' := t :: T) (l' := l) (s' := s) (fun c i q1 q2 _ => ff c i (by omega) (by omega)) (by rw [ff _ _ (by omega) (by omega)]; exact H.er) tk6 (by rw [e6, up_at, List.length_cons]; omega) (H.st.fr (fun q _ _ => ff _ _ (by omega) (by omega))) (by rw [ff _ _ (by omega) (by omega)]; exact H.tp) (by rw [ff _ _ (by omega) (by omega)]; exact H.s1) (by rw [ff _ _ (by omega) (by omega)]; exact H.s2) H.bs
  exact K m6 S6 F6 (fun c i q1 q2 => ff c i q1 (by omega))
/-- a part is to be worked -/
theorem c_laterP {k : Int} (H : VmS m F n S ms E h pb T l s) (hT : T.length < 12000) (K : ∀ m', VmS m' F n S ms E h pb ((0, k, 0, 0, 0) :: T) l s → Fvm E.2.2.1 S.2.2.2.1 m m' → Q 0 m') : P_X10_later k m Q := by
  unfold P_X10_later
  exact c_later (t := (0, k, 0, 0, 0)) H hT (fun m' q1 q2 _ => K m' q1 q2)
end VMS
