set_option maxRecDepth 100000
/-! the component: code of parts -/
/-- the k-th of a chain in a text -/
def nthF (m : MM) (b : Int) : Nat → Int → Int
  | 0, k => k
  | i + 1, k => nthF m b i (m (b + 3) k)
/-- what the coder rests on -/
def CgE (m : MM) (F : Int → FnR) (e : JE) (fl b : Int) : Prop := JEok e ∧ (m b 1 = fl ∧ (0 ≤ fl ∧ fl ≤ 2)) ∧ ∃ n', (0 ≤ n' ∧ n' ≤ 21) ∧ e.2.2.2.1 = mtS F n' ∧ BKh m F n'
def PaN (F : Int → FnR) (e : JE) (fl b cd : Int) (T : MM → Prop) (rec : RecT) (a : PT) : Prop := ∀ (k lo hi : Int) (m : MM) (p : Int) (Q : Int → MM → Prop), CoS m b cd p → CgE m F e fl b → TN m b a.1 a.2 lo hi k → AnN m b e a.1 a.2 k → rgS e a.1 a.2 ≠ none → p + ((cg F e fl a p).length : Int) ≤ 1199 → (∀ m', CoS m' b cd (p + ((cg F e fl a p).length : Int)) → FwC cd p m m' → CoA m' cd p (cg F e fl a p) → Q 0 m') → rec 3 [k] m Q T
section CGP
variable {F : Int → FnR} {e : JE} {fl b cd p q k : Int} {T : MM → Prop} {Q : Int → MM → Prop} {m m' m1 : MM} {a : PT} {c : TT}
theorem TF.nth : ∀ {t : TT} {lo hi k : Int} {i : Nat}, TF m b t lo hi k → i < lenT t → ∃ lo' hi', TN m b (prT t i).1 (prT t i).2 lo' hi' (nthF m b i k) := by
  intro t
  induction t with
  | leaf => intro lo hi k i _ h; exact absurd h (Nat.not_lt_zero _)
  | inner z d u c s ihc ihs =>
    intro lo hi k i h hi'
    obtain ⟨mid, h1, h2, h3⟩ := h
    cases i with
    | zero => exact ⟨lo, mid, h2⟩
    | succ i => exact ihs h3 (by have hi' : i + 1 < lenT s + 1 := hi'; omega)
theorem AnF.nth : ∀ {t : TT} {k : Int} {i : Nat}, AnF m b e t k → i < lenT t → AnN m b e (prT t i).1 (prT t i).2 (nthF m b i k) := by
  intro t
  induction t with
  | leaf => intro k i _ h; exact absurd h (Nat.not_lt_zero _)
  | inner z d u c s ihc ihs =>
    intro k i h hi'
    cases i with
    | zero => exact h.1
    | succ i => exact ihs h.2 (by have hi' : i + 1 < lenT s + 1 := hi'; omega)
theorem nthF.lo (f : FwC cd p m m') (hb : isTx b) (hc : isCd cd) : ∀ (i : Nat) (k : Int), nthF m' b i k = nthF m b i k := by
  have tb := tx_b2 hb
  intro i
  induction i with
  | zero => intro k; rfl
  | succ i ih => intro k; show nthF m' b i (m' (b + 3) k) = nthF m b i (m (b + 3) k); rw [f.lo hc (by omega), ih]
theorem nthF.end : ∀ {t : TT} {lo hi k : Int}, TF m b t lo hi k → nthF m b (lenT t) k = -1 := by
  intro t
  induction t with
  | leaf => intro lo hi k h; exact h.1
  | inner z d u c s ihc ihs =>
    intro lo hi k h
    obtain ⟨mid, h1, h2, h3⟩ := h
    exact ihs h3
theorem nthF.nx : ∀ (i : Nat) (k : Int), nthF m b (i + 1) k = m (b + 3) (nthF m b i k) := by
  intro i
  induction i with
  | zero => intro k; rfl
  | succ i ih => intro k; exact ih (m (b + 3) k)
theorem TN.lo {d : ND} {lo hi : Int} (h : TN m b d c lo hi k) (f : FwC cd p m m') (hb : isTx b) (hc : isCd cd) : TN m' b d c lo hi k := by
  have tb := tx_b2 hb
  exact h.frr (fun c i z _ _ _ => f.lo hc (by omega))
theorem AnN.lo {d : ND} (h : AnN m b e d c k) (f : FwC cd p m m') (hb : isTx b) (hc : isCd cd) : AnN m' b e d c k := by
  have tb := tx_b2 hb
  obtain ⟨h1, h2, h3, h4⟩ := h
  exact ⟨fun x hx => by rw [f.lo hc (by omega)]; exact h1 x hx, fun q i x hx => by rw [f.lo hc (by omega)]; exact h2 q i x hx, fun q rc g R z hr hz => by rw [f.lo hc (by omega), f.lo hc (by omega)]; exact h3 q rc g R z hr hz, fun q => by rw [f.lo hc (by omega)]; exact AnF.lo f hb hc (h4 q)⟩
theorem CgE.lo (h : CgE m F e fl b) (f : FwC cd p m m') (hb : isTx b) (hc : isCd cd) : CgE m' F e fl b := by
  have tb := tx_b2 hb
  obtain ⟨h1, ⟨h2, h3⟩, n', h4, h5, h6, h7⟩ := h
  refine ⟨h1, ⟨by rw [f.lo hc (by omega)]; exact h2, h3⟩, n', h4, h5, h6, fun k k0 k1 => ?_⟩
  obtain ⟨g1, g2, g3, g4, g5, g6⟩ := h7 k k0 k1
  refine ⟨g1, by rw [f.lo hc (by omega)]; exact g2, by rw [f.lo hc (by omega)]; exact g3, by rw [f.lo hc (by omega)]; exact g4, fun j j0 j1 => ?_, fun j j0 j1 => by rw [f.lo hc (by omega)]; exact g6 j j0 j1⟩
  obtain ⟨w1, w2, w3⟩ := g5 j j0 j1
  exact ⟨by rw [f.lo hc (by omega)]; exact w1, by rw [f.lo hc (by omega)]; exact w2, fun z => by rw [f.lo hc (by omega), f.lo hc (by omega)]; exact w3 z⟩
theorem An_rg {x : R3} (h : AnN m b e a.1 a.2 k) (hx : rgS e a.1 a.2 ≠ none) : m (b + 6) k = encC (rgN e a) := by
  cases hr : rgS e a.1 a.2 with
  | none => exact absurd hr hx
  | some y =>
    have : rgN e a = y := by unfold rgN; rw [hr]; rfl
    rw [this]; exact h.1 y hr
/-- a part, then to a ring -/
theorem c_part2 {d : Nat} {z : R3} {lo hi : Int} (hP : PaN F e fl b cd T (R_X7_part d) a) (hS : CoS m b cd p) (hE : CgE m F e fl b) (hT : TN m b a.1 a.2 lo hi k) (hA : AnN m b e a.1 a.2 k) (hx : rgS e a.1 a.2 ≠ none) (w : okN a.1 a.2) (wc : wfT a.2) (hz : ok3 z) (hl : p + ((cg F e fl a p ++ cgTn (rgN e a) z).length : Int) ≤ 1199) (kq : ∀ m', CoS m' b cd (p + ((cg F e fl a p ++ cgTn (rgN e a) z).length : Int)) → FwC cd p m m' → CoA m' cd p (cg F e fl a p ++ cgTn (rgN e a) z) → Q 0 m') : R_X7_part (d + 1) 4 [k, encC z] m Q T := by
  have hb := hS.1
  have hc := hS.2.1
  have tb := tx_b2 hb
  have cb := cd_b hc
  have r := hT.rng
  rw [List.length_append] at hl kq
  have xo : ok3 (rgN e a) := by
    cases hr : rgS e a.1 a.2 with
    | none => exact absurd hr hx
    | some y =>
      have : rgN e a = y := by unfold rgN; rw [hr]; rfl
      rw [this]; exact rgS_ok hE.1 w wc hr
  show W_X7_part_2 (R_X7_part d) k (encC z) m Q T
  refine hP k lo hi m p _ hS hE hT hA hx (by omega) (fun m1 S1 F1 C1 => ?_)
  rw [S1.2.2.1]
  refine ⟨hb, by omega, ?_⟩
  have e6 : m1 (b + 6) k = encC (rgN e a) := by rw [F1.lo hc (by omega)]; exact An_rg (x := (0, 0, 0)) hA hx
  rw [e6]
  refine c_turnI xo hz S1 (by omega) (fun m2 S2 F2 C2 => ?_)
  have e : p + (((cg F e fl a p).length + (cgTn (rgN e a) z).length : Nat) : Int) = p + ((cg F e fl a p).length : Int) + ((cgTn (rgN e a) z).length : Int) := by omega
  refine kq m2 (by rw [e]; exact S2) (F1.trans F2 (by omega)) (CoA.app.2 ⟨C1.keep F2 (Int.le_refl _), C2⟩)
/-- the same by number in a chain -/
theorem c_part2i {d : Nat} {z : R3} {lo hi : Int} {i : Nat} (hP : PaN F e fl b cd T (R_X7_part d) (prT c i)) (hi' : i < lenT c) (hS : CoS m b cd p) (hE : CgE m F e fl b) (hT : TF m b c lo hi k) (hA : AnF m b e c k) (hx : rgS e (prT c i).1 (prT c i).2 ≠ none) (wc : wfT c) (hz : ok3 z) (hl : p + ((cgT e c (cgC F e fl c) z i p).length : Int) ≤ 1199) (kq : ∀ m', CoS m' b cd (p + ((cgT e c (cgC F e fl c) z i p).length : Int)) → FwC cd p m m' → CoA m' cd p (cgT e c (cgC F e fl c) z i p) → Q 0 m') : R_X7_part (d + 1) 4 [nthF m b i k, encC z] m Q T := by
  obtain ⟨lo', hi'', t⟩ := hT.nth hi'
  have w := prT_wf wc hi'
  unfold cgT at hl kq
  rw [cgC_at hi'] at hl kq
  exact c_part2 hP hS hE t (hA.nth hi') hx w.1 w.2 hz hl kq
theorem c_part3i {d : Nat} {lo hi : Int} {i : Nat} (hP : PaN F e fl b cd T (R_X7_part d) (prT c i)) (hi' : i < lenT c) (hS : CoS m b cd p) (hE : CgE m F e fl b) (hT : TF m b c lo hi k) (hA : AnF m b e c k) (hx : rgS e (prT c i).1 (prT c i).2 ≠ none) (hl : p + ((cgC F e fl c i p).length : Int) ≤ 1199) (kq : ∀ m', CoS m' b cd (p + ((cgC F e fl c i p).length : Int)) → FwC cd p m m' → CoA m' cd p (cgC F e fl c i p) → Q 0 m') : R_X7_part d 3 [nthF m b i k] m Q T := by
  obtain ⟨lo', hi'', t⟩ := hT.nth hi'
  rw [cgC_at hi'] at hl kq
  exact hP _ lo' hi'' m p Q hS hE t (hA.nth hi') hx hl kq
/-- several parts, each to its ring -/
theorem cgN_len0 {f : Nat → Int → List Ins} : ∀ (n k : Nat) (p : Int), cgN f (n + 1) k p = f k p ++ cgN f n (k + 1) (p + ((f k p).length : Int)) := fun _ _ _ => rfl
end CGP
