set_option maxRecDepth 100000
/-! the model: what a part can speak of; what judging leaves -/
def RN (m : MM) (n : Int) (R : Option R3) : Prop := match R with
  | none => m 601 n = -9
  | some r => m 601 n = bM r.1 ∧ m 602 n = r.2.1 ∧ m 603 n = r.2.2
theorem RN.fr {m m' : MM} {n : Int} {R : Option R3} (h : RN m n R) (g : ∀ c, 596 ≤ c → c ≤ 603 → m' c n = m c n) : RN m' n R := by
  rcases R with - | r
  · exact (g _ (by omega) (by omega)).trans h
  · exact ⟨(g _ (by omega) (by omega)).trans h.1, (g _ (by omega) (by omega)).trans h.2.1, (g _ (by omega) (by omega)).trans h.2.2⟩
theorem rgM.fr {m m' : MM} {n : Int} {o : Option R3} (h : rgM m n o) (g : ∀ c, 596 ≤ c → c ≤ 603 → m' c n = m c n) : rgM m' n o := by
  rcases o with - | x
  · exact (g _ (by omega) (by omega)).trans h
  · exact ⟨(g _ (by omega) (by omega)).trans h.1, (g _ (by omega) (by omega)).trans h.2.1, (g _ (by omega) (by omega)).trans h.2.2⟩
def AnX (m : MM) (e : JE) (ro : Int) (d : ND) (c : TT) (n : Int) : Prop := (d.1 = 3 → m 597 n = d.2.2.1) ∧ (d.1 = 4 → m 596 n = ro ∧ ∀ i y, e.1 d.2.2.2 = some (i, y) → m 597 n = i) ∧ (d.1 = 5 → ∀ rc f R z, allS (jdS e c).1 = some rc → e.2.2.2.1 d.2.2.2 rc = some (f, R, z) → m 597 n = f ∧ RN m n R) ∧ (d.1 = 6 → m 597 n = d.2.2.1)
/-- what judging leaves at a node -/
def AnP (m : MM) (e : JE) (ro : Int) : ND → TT → Int → Prop := fun d c n => rgM m n (rgS e d c) ∧ ∀ x, rgS e d c = some x → AnX m e ro d c n
theorem AnX.fr {m m' : MM} {e : JE} {ro : Int} {d : ND} {c : TT} {n : Int} (h : AnX m e ro d c n) (g : ∀ c, 596 ≤ c → c ≤ 603 → m' c n = m c n) : AnX m' e ro d c n := by
  obtain ⟨h1, h2, h3, h4⟩ := h
  have e6 := g 596 (by decide) (by decide)
  have e7 := g 597 (by decide) (by decide)
  refine ⟨fun q => e7.trans (h1 q), fun q => ⟨e6.trans (h2 q).1, fun i y hy => e7.trans ((h2 q).2 i y hy)⟩, fun q rc f R z a b => ⟨e7.trans (h3 q rc f R z a b).1, (h3 q rc f R z a b).2.fr g⟩, fun q => e7.trans (h4 q)⟩
theorem AnP.fr {m m' : MM} {e : JE} {ro : Int} {d : ND} {c : TT} {n : Int} (h : AnP m e ro d c n) (g : ∀ c, 596 ≤ c → c ≤ 603 → m' c n = m c n) : AnP m' e ro d c n := ⟨h.1.fr g, fun x hx => (h.2 x hx).fr g⟩
abbrev scr (i : Int) : Prop := i = 13 ∨ i = 14 ∨ (65 ≤ i ∧ i ≤ 67) ∨ (70 ≤ i ∧ i ≤ 77) ∨ (81 ≤ i ∧ i ≤ 83)
/-- what judging may change -/
def FJm (lo hi sp : Int) (m m' : MM) : Prop := ∀ c i, ¬ ((596 ≤ c ∧ c ≤ 603) ∧ lo ≤ i ∧ i < hi) → ¬ (c = 582 ∧ scr i) → ¬ (c = 631 ∧ sp ≤ i) → ¬ (632 ≤ c ∧ c ≤ 634) → m' c i = m c i
theorem FJm.refl {lo hi sp : Int} (m : MM) : FJm lo hi sp m m := fun _ _ _ _ _ _ => rfl
theorem FJm.trans {lo hi sp : Int} {m m1 m2 : MM} (h : FJm lo hi sp m m1) (k : FJm lo hi sp m1 m2) : FJm lo hi sp m m2 := fun c i a1 a2 a3 a4 => (k c i a1 a2 a3 a4).trans (h c i a1 a2 a3 a4)
theorem FJm.mono {lo hi sp lo' hi' sp' : Int} {m m' : MM} (h : FJm lo hi sp m m') (h1 : lo' ≤ lo) (h2 : hi ≤ hi') (h3 : sp' ≤ sp) : FJm lo' hi' sp' m m' := fun c i a1 a2 a3 a4 => h c i (fun z => a1 ⟨z.1, by omega, by omega⟩) a2 (fun z => a3 ⟨z.1, by omega⟩) a4
theorem FJm.st {lo hi sp : Int} {m m' : MM} (f : FJm lo hi sp m m') : FSt m m' := fun c i z => f c i (by omega) (by omega) (by omega) (by omega)
theorem Fnm.jm {lo hi sp : Int} {m m' : MM} (h : Fnm m m') : FJm lo hi sp m m' := fun c i _ a2 _ _ => h c i (fun z => a2 ⟨z.1, by omega⟩)
theorem FMt.jm {lo hi sp : Int} {m m' : MM} (h : FMt m m') : FJm lo hi sp m m' := fun c i _ a2 _ _ => h c i (fun z => a2 ⟨z.1, by omega⟩)
theorem TM.jm {m m' : MM} {e : JE} {ro lo hi sp lo' hi' : Int} {t : TT} {ns : List Int} (f : FJm lo hi sp m m') (h : TM m (AnP m e ro) t lo' hi' ns) (dj : hi' ≤ lo ∨ hi ≤ lo') : TM m' (AnP m' e ro) t lo' hi' ns := h.fr f.st (fun d c n a1 a2 _ => ⟨fun _ => f _ _ (by omega) (by omega) (by omega) (by omega), fun q => q.fr (fun c' _ _ => f _ _ (by omega) (by omega) (by omega) (by omega))⟩)
/-- the structure alone -/
def Tt : ND → TT → Int → Prop := fun _ _ _ => True
theorem TM.tt {m : MM} {P : ND → TT → Int → Prop} {t : TT} {lo hi : Int} {ns : List Int} (h : TM m P t lo hi ns) : TM m Tt t lo hi ns := h.fr (fun _ _ _ => rfl) (fun _ _ _ _ _ _ => ⟨fun _ => rfl, fun _ => trivial⟩)
/-- nodes of written rings keep which they are -/
theorem TM.jt {m m' : MM} {lo hi sp lo' hi' : Int} {t : TT} {ns : List Int} (f : FJm lo hi sp m m') (h : TM m Tt t lo' hi' ns) (dj : hi' ≤ lo ∨ hi ≤ lo') : TM m' Tt t lo' hi' ns := h.fr f.st (fun d c n a1 a2 _ => ⟨fun _ => f _ _ (by omega) (by omega) (by omega) (by omega), fun _ => trivial⟩)
def RSm (m : MM) (nr : Int) (resR : Int → R3) (nv : Int) (varN : Int → Int) (varR : Int → R3) : Prop := (m 582 34 = nr ∧ (0 ≤ nr ∧ nr ≤ 200) ∧ ∀ k, 0 ≤ k → k < nr → r3M m 626 627 628 k (resR k) ∧ ok3 (resR k)) ∧ (m 582 33 = nv ∧ (0 ≤ nv ∧ nv ≤ 20) ∧ ∀ k, 0 ≤ k → k < nv → m 607 k = varN k ∧ r3M m 623 624 625 k (varR k) ∧ ok3 (varR k) ∧ RL (varN k))
def EMj (m : MM) (e : JE) (ro : Int) : Prop := RM m e.2.2.2.2 ∧ (∀ x, e.2.2.2.2 = some x → ok3 x ∧ x.1 ≠ -2) ∧ BFM m ∧ ((∃ F f R, e = JEf F f R ∧ BKm m F (f + 1) ∧ (0 ≤ f ∧ f ≤ 20) ∧ m 582 61 = f ∧ ro = 0 ∧ (R = none → (F f).2.2.1 = 0) ∧ ∀ k, 0 ≤ k → k ≤ (F f).2.1 → instS (F f) k R ≠ none) ∨ (∃ F n nr resR nv varN varR, e = JEl F n nr resR nv varN varR ∧ BKm m F n ∧ m 582 61 = -1 ∧ m 582 32 = n ∧ ro = 1 ∧ RSm m nr resR nv varN varR))
theorem EMj.jm {m m' : MM} {e : JE} {ro lo hi sp : Int} (h : EMj m e ro) (f : FJm lo hi sp m m') : EMj m' e ro := by
  obtain ⟨h1, h2, h3, h4⟩ := h
  have g : ∀ c i, ¬ (596 ≤ c ∧ c ≤ 603) → ¬ (c = 582 ∧ scr i) → ¬ (631 ≤ c ∧ c ≤ 634) → m' c i = m c i := fun c i a1 a2 a3 => f c i (fun z => a1 z.1) a2 (by omega) (by omega)
  have bk : ∀ {F : Int → FnR} {n : Int}, BKm m F n → BKm m' F n := fun k => k.fr (fun c i z => g c i (by omega) (by omega) (by omega))
  refine ⟨?_, h2, fun k k0 k1 => (g 584 k (by omega) (by omega) (by omega)).trans (h3 k k0 k1), ?_⟩
  · generalize e.2.2.2.2 = o at h1 ⊢
    rcases o with - | x
    · exact (g 582 62 (by omega) (by omega) (by omega)).trans h1
    · exact ⟨(g 582 62 (by omega) (by omega) (by omega)).trans h1.1, (g 582 63 (by omega) (by omega) (by omega)).trans h1.2.1, (g 582 64 (by omega) (by omega) (by omega)).trans h1.2.2⟩
  · have e61 := g 582 61 (by omega) (by omega) (by omega)
    rcases h4 with ⟨F, g', R, q1, q2, q3, q4, q5, q6⟩ | ⟨F, n, nr, rR, nv, vN, vR, q1, q2, q3, q4, q5, q6⟩
    · exact Or.inl ⟨F, g', R, q1, bk q2, q3, e61.trans q4, q5, q6⟩
    · refine Or.inr ⟨F, n, nr, rR, nv, vN, vR, q1, bk q2, e61.trans q3, (g 582 32 (by omega) (by omega) (by omega)).trans q4, q5, ⟨(g 582 34 (by omega) (by omega) (by omega)).trans q6.1.1, q6.1.2.1, fun k k0 k1 => ?_⟩, (g 582 33 (by omega) (by omega) (by omega)).trans q6.2.1, q6.2.2.1, fun k k0 k1 => ?_⟩
      · obtain ⟨a, b⟩ := q6.1.2.2 k k0 k1
        exact ⟨a.fr (fun c z => g c k (by omega) (by omega) (by omega)), b⟩
      · obtain ⟨a, b, c⟩ := q6.2.2.2 k k0 k1
        exact ⟨(g 607 k (by omega) (by omega) (by omega)).trans a, b.fr (fun c z => g c k (by omega) (by omega) (by omega)), c⟩
theorem EMj.ok {m : MM} {e : JE} {ro : Int} (h : EMj m e ro) : JEok e := by
  have hR := h.2.1
  rcases h.2.2.2 with ⟨F, g, R, q1, q2, q3, q4, q5, q7, q8⟩ | ⟨F, n, nr, rR, nv, vN, vR, q1, q2, q3, q4, q5, q6⟩
  · have ok := (q2.2 g (by omega) (by omega)).1
    subst q1
    refine ⟨fun w i x hx => ?_, fun v x _ hx => absurd (show (none : Option R3) = some x from hx) (by intro q; cases q), fun w rc f R' z hr hz => (mtS_ok (by omega) (fun k k0 k1 => (q2.2 k k0 k1).1) hr hz).1, fun x hx => (hR x hx).1⟩
    unfold JEf at hx
    simp only at hx
    split at hx
    · cases hx
    case h_2 j hj =>
      split at hx
      · cases hx
      case h_2 y hy =>
        cases hx
        have jb := fstI_bd _ _ _ hj
        exact instS_ok ok ⟨by omega, by have := ok.1; omega⟩ hR hy
  · subst q1
    refine ⟨fun w i x hx => ?_, fun v x v0 hx => ?_, fun w rc f R' z hr hz => (mtS_ok q2.1.1 (fun k k0 k1 => (q2.2 k k0 k1).1) hr hz).1, fun x hx => (hR x hx).1⟩
    · unfold JEl at hx
      simp only at hx
      split at hx
      · cases hx
      case h_2 j hj =>
        cases hx
        have jb := fstI_bd _ _ _ hj
        exact (q6.2.2.2 _ (by omega) (by omega)).2.2.1
    · unfold JEl at hx
      simp only at hx
      split at hx
      · cases hx; exact (q6.1.2.2 v v0 (by omega)).2
      · cases hx
/-- who can be called -/
theorem EMj.cl {m : MM} {e : JE} {ro : Int} (h : EMj m e ro) : ∃ F n, BKm m F n ∧ (if m 582 61 < 0 then m 582 32 else m 582 61 + 1) = n ∧ RI (m 582 61) ∧ e.2.2.1 = knS F n ∧ e.2.2.2.1 = mtS F n := by
  rcases h.2.2.2 with ⟨F, g, R, q1, q2, q3, q4, q5, q7, q8⟩ | ⟨F, n, nr, rR, nv, vN, vR, q1, q2, q3, q4, q5, q6⟩
  · exact ⟨F, g + 1, q2, by rw [q4, if_neg (by omega)], by rw [q4]; constructor <;> omega, by rw [q1]; rfl, by rw [q1]; rfl⟩
  · exact ⟨F, n, q2, by rw [q3, if_pos (by decide)]; exact q4, by rw [q3]; decide, by rw [q1]; rfl, by rw [q1]; rfl⟩
def szT : TT → Nat
  | .leaf => 0
  | .inner _ _ _ c s => szT c + szT s + 1
/-- how deep judging goes: the first, the others -/
def dq : TT → Nat × Nat
  | .leaf => (0, 0)
  | .inner _ d _ c s => ((if d.1 = 9 ∨ d.1 = 10 ∨ (12 ≤ d.1 ∧ d.1 ≤ 21) ∨ (23 ≤ d.1 ∧ d.1 ≤ 25) then max (dq c).1 ((dq c).2 + 2) else max (dq c).1 (dq c).2 + 3), max (dq s).1 (dq s).2)
def PostM (m : MM) (e : JE) (ro : Int) (d : ND) (c : TT) (lo hi k sp : Int) (n : Nte) (Q : Int → MM → Prop) : Prop := ∀ m', FJm lo hi sp m m' → NN' m' (mn n (ntS e d c)) → TNM m' (AnP m' e ro) d c lo hi k → Q 0 m'
/-- every node of a chain can be judged -/
def JCm (rec : RecT) (e : JE) (ro : Int) (T : MM → Prop) : TT → Prop
  | .leaf => True
  | .inner _ d _ c s => (d.1 < 30 → ∀ (m : MM) (n : Nte) (lo hi k sp : Int) (Q : Int → MM → Prop), EMj m e ro → TNM m Tt d c lo hi k → NN' m n → m 582 68 = sp → (0 ≤ sp ∧ sp + (szT c : Int) + 1 ≤ 5000) → PostM m e ro d c lo hi k sp n Q → rec 0 [k] m Q T) ∧ JCm rec e ro T s
section FINM
variable {Q : Int → MM → Prop} {T : MM → Prop} {e : JE} {ro : Int} {d : ND} {c : TT} {m m1 m2 : MM} {n : Nte} {lo hi k sp cl ch : Int} {cs : List Int}
/-- a node's ring was laid behind its parts' -/
theorem nodeM_fin (post : PostM m e ro d c lo hi k sp n Q) (hb : (0 ≤ lo ∧ lo ≤ k ∧ k < hi ∧ hi ≤ 12000) ∧ (lo ≤ cl ∧ cl ≤ ch ∧ ch ≤ hi) ∧ (k < cl ∨ ch ≤ k)) (hN : NM m d k) (hL : LKm m d k cs) (h30 : d.1 < 30) (f1 : FJm lo hi sp m m1) (T1 : TM m1 (AnP m1 e ro) c cl ch cs) (f2 : FJm k (k + 1) sp m1 m2) (n2 : NN' m2 (mn n (ntS e d c))) (a2 : AnP m2 e ro d c k) : Q 0 m2 := by
  have f12 : FJm lo hi sp m m2 := f1.trans (f2.mono (by omega) (by omega) (Int.le_refl _))
  exact post m2 f12 n2 ⟨cl, ch, cs, hb, hN.fr f12.st (fun q => by omega), hL.fr f12.st, a2, T1.jm f2 (by omega)⟩
end FINM
