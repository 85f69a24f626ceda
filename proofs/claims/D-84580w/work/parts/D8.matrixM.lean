set_option maxRecDepth 100000
/-! the model: rings of matrices; of what is built in -/
def mxA : R3 → List R3 → Option R3
  | acc, [] => some acc
  | acc, a :: l => if a.1 = -2 ∨ a.2.2 ≠ 0 then none else match jn acc a with
    | none => none
    | some j => mxA j l
def stp (st : Option (Option R3)) (o : Option R3) : Option (Option R3) := match st with
  | none => none
  | some g => match o with
    | none => none
    | some a => match g with
      | none => some none
      | some acc => some (mxA acc [a])
def msL : Option (Option R3) → List (Option R3) → Option (Option R3)
  | st, [] => st
  | st, o :: l => msL (stp st o) l
theorem msL_none : ∀ (l : List (Option R3)), msL none l = none := by
  intro l
  induction l with
  | nil => rfl
  | cons o l ih => exact ih
theorem msL_dead : ∀ (l : List (Option R3)), msL (some none) l = match allS l with
    | none => none
    | some _ => some none := by
  intro l
  induction l with
  | nil => rfl
  | cons o l ih =>
    rcases o with - | a
    · exact msL_none l
    · show msL (some none) l = _
      rw [ih]
      show _ = (match (match allS l with
        | none => none
        | some r => some (a :: r)) with
        | none => none
        | some _ => some none)
      rcases allS l with - | r <;> rfl
theorem msL_eq : ∀ (l : List (Option R3)) (acc : R3), msL (some (some acc)) l = match allS l with
    | none => none
    | some rc => some (mxA acc rc) := by
  intro l
  induction l with
  | nil => intro acc; rfl
  | cons o l ih =>
    intro acc
    rcases o with - | a
    · exact msL_none l
    · have h1 : allS (some a :: l) = match allS l with
          | none => none
          | some r => some (a :: r) := rfl
      show msL (some (mxA acc [a])) l = _
      rw [h1]
      have h2 : ∀ rc, mxA acc (a :: rc) = match mxA acc [a] with
          | none => none
          | some j => mxA j rc := by
        intro rc
        show (if a.1 = -2 ∨ a.2.2 ≠ 0 then none else match jn acc a with
          | none => none
          | some j => mxA j rc) = (match (if a.1 = -2 ∨ a.2.2 ≠ 0 then none else match jn acc a with
          | none => none
          | some j => mxA j []) with
          | none => none
          | some j => mxA j rc)
        split
        · rfl
        · rcases jn acc a with - | j <;> rfl
      rcases hm : mxA acc [a] with - | j
      · rw [msL_dead]
        rcases allS l with - | r
        · rfl
        · show some none = some (mxA acc (a :: r))
          rw [h2, hm]
      · rw [ih]
        rcases allS l with - | r
        · rfl
        · show some (mxA j r) = some (mxA acc (a :: r))
          rw [h2, hm]
theorem jn_size {x y z : R3} (hx : ok3 x) (hy : ok3 y) (h : jn x y = some z) : x.2.2 ≤ z.2.2 ∧ y.2.2 ≤ z.2.2 := by
  have := (jn_vals hx hy h).2.2
  omega
theorem jnL_size : ∀ (l : List R3) (j z : R3), ok3 j → (∀ x, x ∈ l → ok3 x) → jnL j l = some z → j.2.2 ≤ z.2.2 ∧ (j.1 = -2 → z.1 = -2) := by
  intro l
  induction l with
  | nil => intro j z _ _ h; cases h; exact ⟨Int.le_refl _, id⟩
  | cons a l ih =>
    intro j z oj hl h
    unfold jnL at h
    split at h
    · cases h
    case h_2 k hk =>
      have oa := hl a (List.mem_cons_self ..)
      have ok := jn_ok oj oa hk
      have := ih k z ok (fun x hx => hl x (List.mem_cons_of_mem _ hx)) h
      have s := jn_size oj oa hk
      refine ⟨by omega, fun q => this.2 ?_⟩
      have g := (jn_gs oj oa hk).2.2.1 q
      rw [← g.1]
      exact q
theorem mxA_eq : ∀ (l : List R3) (acc : R3), ok3 acc → acc.1 ≠ -2 → acc.2.2 = 0 → (∀ x, x ∈ l → ok3 x) → mxA acc l = match jnL acc l with
    | none => none
    | some j => if j.1 ≠ -2 ∧ j.2.2 = 0 then some j else none := by
  intro l
  induction l with
  | nil =>
    intro acc _ h1 h2 _
    show some acc = if acc.1 ≠ -2 ∧ acc.2.2 = 0 then some acc else none
    rw [if_pos ⟨h1, h2⟩]
  | cons a l ih =>
    intro acc oa h1 h2 hl
    have oa' := hl a (List.mem_cons_self ..)
    have hl' := fun x hx => hl x (List.mem_cons_of_mem _ hx)
    have e : jnL acc (a :: l) = match jn acc a with
        | none => none
        | some k => jnL k l := rfl
    have e2 : mxA acc (a :: l) = if a.1 = -2 ∨ a.2.2 ≠ 0 then none else match jn acc a with
        | none => none
        | some j => mxA j l := rfl
    rw [e, e2]
    rcases hj : jn acc a with - | j
    · simp only
      split <;> rfl
    · simp only
      have oj := jn_ok oa oa' hj
      have jB := jn_nB h1 hj
      have js := jn_vals oa oa' hj
      by_cases c : a.1 = -2 ∨ a.2.2 ≠ 0
      · rw [if_pos c]
        have s0 : a.2.2 ≠ 0 := by
          rcases c with c | c
          · have := (jn_gs oa oa' hj).2.1
            have := (gs_vals oa' oj this).2.2.2.1 c
            exact absurd (by rw [← this]; exact c) jB
          · exact c
        rcases hz : jnL j l with - | z
        · rfl
        · have := (jnL_size l j z oj hl' hz).1
          have sj := (jn_size oa oa' hj).2
          have nn : 0 ≤ a.2.2 := (ok3_bd oa').2.2.2.1
          simp only
          rw [if_neg (fun q => by have := q.2; omega)]
      · rw [if_neg c]
        exact ih j oj jB (by have := js.2.2; omega) hl'
theorem mxA_0 {a : R3} {l : List R3} (oa : ok3 a) (hl : ∀ x, x ∈ l → ok3 x) : mxA (0, 0, 0) (a :: l) = match jnL a l with
    | none => none
    | some j => if j.1 ≠ -2 ∧ j.2.2 = 0 then some j else none := by
  have e2 : mxA (0, 0, 0) (a :: l) = if a.1 = -2 ∨ a.2.2 ≠ 0 then none else match jn (0, 0, 0) a with
      | none => none
      | some j => mxA j l := rfl
  rw [e2]
  by_cases c : a.1 = -2 ∨ a.2.2 ≠ 0
  · rw [if_pos c]
    rcases hz : jnL a l with - | z
    · rfl
    · have := jnL_size l a z oa hl hz
      have nn : 0 ≤ a.2.2 := (ok3_bd oa).2.2.2.1
      simp only
      rw [if_neg (fun q => by rcases c with c | c; exact q.1 (this.2 c); have := q.2; omega)]
  · rw [if_neg c]
    have ab := ok3_bd oa
    have j0 : jn (0, 0, 0) a = some a := by
      unfold jn
      by_cases q : ((0, 0, 0) : R3) = a
      · rw [if_pos q, q]
      · rw [if_neg q, if_neg (fun z => by rcases z with z | z; cases z; exact c (Or.inl z)), if_pos ⟨Or.inr (Or.inl rfl), Or.inr (Or.inl rfl)⟩]
        simp only
        rw [if_pos trivial]
        congr 1
        refine Prod.ext rfl (Prod.ext ?_ ?_)
        · show max 0 a.2.1 = a.2.1; omega
        · show max 0 a.2.2 = a.2.2; omega
    rw [j0]
    exact mxA_eq l a oa (fun z => c (Or.inl z)) (by omega) hl
def stR (st : Option (Option R3)) (x4 x5 x7 x8 : Int) : Prop := RI x7 ∧ RI x8 ∧ (x5 = 0 ∨ x5 = 1) ∧ match st with
  | none => x4 = 0
  | some none => x4 = 1 ∧ x5 = 0
  | some (some acc) => x4 = 1 ∧ x5 = 1 ∧ ok3 acc ∧ acc.1 ≠ -2 ∧ acc.2.2 = 0 ∧ x7 = bM acc.1 ∧ x8 = acc.2.1
section MATM
variable {Q : Int → MM → Prop} {T : MM → Prop} {e : JE} {ro : Int} {d : ND} {c : TT} {m m1 m2 : MM} {n : Nte} {lo hi k sp : Int} {rc : List R3} {x : R3} {dep : Nat}
theorem rowsM {N : Int} (rN : RI N) : ∀ (t : TT), JCm (R_X10_judge dep) e ro T t → allP t → wfT t → ∀ {m : MM} {n : Nte} {lo hi : Int} {r : List Int} {rs : List (List Int)} {i x3 x4 x5 x7 x8 x9 x10 : Int} {st : Option (Option R3)}, EMj m e ro → TM m Tt t lo hi (r ++ rs.flatten) → ITM m i r → (0 ≤ x9 ∧ x9 < 12000) → RWM m (m 594 x9) rs → NN' m n → m 582 68 = sp → (0 ≤ sp ∧ sp + (szT t : Int) ≤ 5000) → stR st x4 x5 x7 x8 → (x3 = 0 ∨ x3 = 1) → (0 ≤ x10 ∧ x10 + (szT t : Int) ≤ 5000) → (∀ m' x3' x4' x5' x7' x8', FJm lo hi sp m m' → NN' m' (mn n (jdS e t).2) → TM m' (AnP m' e ro) t lo hi (r ++ rs.flatten) → stR (msL st (jdS e t).1) x4' x5' x7' x8' → (x3' = 0 ∨ x3' = 1) → (x3' = 1 ↔ x3 = 1 ∧ x10 + (r.length : Int) = N ∧ ∀ r', r' ∈ rs → (r'.length : Int) = N) → P_X10_judgeMatrix_248 (R_X10_judge dep) Q T k N x3' x4' x5' x7' x8' m') → P_X10_judgeMatrix_72 (R_X10_judge dep) Q T (fun z0 z1 z2 z3 z4 z5 z6 z7 z8 => P_X10_judgeMatrix_55 (R_X10_judge dep) Q T (rs.length + 1) z0 z1 z2 z3 z4 z5 z6 z7 z8) (r.length + 1) k N x3 x4 x5 x7 x8 x9 x10 i m := by
  intro t
  induction t with
  | leaf =>
    intro _ _ _ m n lo hi r rs i x3 x4 x5 x7 x8 x9 x10 st hE hT hI h9 hR hn h68 hsp hst hx3 hx10 h
    obtain ⟨h0, hlh⟩ := hT
    have r0 : r = [] := (List.append_eq_nil_iff.1 h0).1
    subst r0
    have rs0 : rs = [] := by
      cases rs with
      | nil => rfl
      | cons r1 rs' =>
        exfalso
        have l1 := hR.2.2.1
        have : (r1 ++ rs'.flatten) = [] := h0
        have := (List.append_eq_nil_iff.1 this).1
        rw [this] at l1
        simp at l1
    subst rs0
    have i1 : i = -1 := hI
    have n94 : m 594 x9 = -1 := hR
    show P_X10_judgeMatrix_72 _ _ _ _ (0 + 1) k N x3 x4 x5 x7 x8 x9 x10 i m
    refine ⟨by rw [i1]; decide, ?_⟩
    rw [if_pos (by rw [i1]; decide)]
    refine ⟨⟨by constructor <;> omega, by split; trivial; exact ⟨by constructor <;> omega, rN⟩⟩, h9, ?_⟩
    rw [n94]
    refine ⟨by decide, ?_⟩
    rw [if_pos (by decide)]
    refine h m _ x4 x5 x7 x8 (FJm.refl m) (by rw [show (jdS e .leaf).2 = none from rfl, mn_none]; exact hn) ⟨rfl, hlh⟩ hst (by split; exact Or.inl rfl; split; exact Or.inr rfl; exact Or.inl rfl) ?_
    by_cases z3 : x3 = 0
    · rw [if_pos z3]; exact ⟨fun q => absurd q (by decide), fun q => by omega⟩
    · rw [if_neg z3]
      by_cases zN : x10 = N
      · rw [if_pos zN]; exact ⟨fun _ => ⟨by omega, by show x10 + 0 = N; omega, fun r' hr' => by cases hr'⟩, fun _ => rfl⟩
      · rw [if_neg zN]; exact ⟨fun q => absurd q (by decide), fun q => absurd (by have : x10 + 0 = N := q.2.1; omega) zN⟩
  | inner z d u c s ihc ihs =>
    intro hC hP w
    have ok := fun (he : JEok e) x hx => rgS_ok he w.1 w.2.1 (x := x) hx
    have hs : (szT (Std.DTreeMap.Internal.Impl.inner z d u c s) : Int) = szT c + szT s + 1 := by show ((szT c + szT s + 1 : Nat) : Int) = _; omega
    have e1 : (jdS e (.inner z d u c s)).1 = rgS e d c :: (jdS e s).1 := rfl
    have e2 : (jdS e (.inner z d u c s)).2 = mn (ntS e d c) (jdS e s).2 := rfl
    have pk := hP.1
    -- an item is at hand
    have B : ∀ {m : MM} {n : Nte} {lo hi k1 : Int} {r : List Int} {rs : List (List Int)} {i x3 x4 x5 x7 x8 x9 x10 : Int} {st : Option (Option R3)}, EMj m e ro → TM m Tt (.inner z d u c s) lo hi (k1 :: r ++ rs.flatten) → ITM m i (k1 :: r) → (0 ≤ x9 ∧ x9 < 12000) → RWM m (m 594 x9) rs → NN' m n → m 582 68 = sp → (0 ≤ sp ∧ sp + (szT (Std.DTreeMap.Internal.Impl.inner z d u c s) : Int) ≤ 5000) → stR st x4 x5 x7 x8 → (x3 = 0 ∨ x3 = 1) → (0 ≤ x10 ∧ x10 + (szT (Std.DTreeMap.Internal.Impl.inner z d u c s) : Int) ≤ 5000) → (∀ m' x3' x4' x5' x7' x8', FJm lo hi sp m m' → NN' m' (mn n (jdS e (.inner z d u c s)).2) → TM m' (AnP m' e ro) (.inner z d u c s) lo hi (k1 :: r ++ rs.flatten) → stR (msL st (jdS e (.inner z d u c s)).1) x4' x5' x7' x8' → (x3' = 0 ∨ x3' = 1) → (x3' = 1 ↔ x3 = 1 ∧ x10 + ((k1 :: r).length : Int) = N ∧ ∀ r', r' ∈ rs → (r'.length : Int) = N) → P_X10_judgeMatrix_248 (R_X10_judge dep) Q T k N x3' x4' x5' x7' x8' m') → P_X10_judgeMatrix_72 (R_X10_judge dep) Q T (fun z0 z1 z2 z3 z4 z5 z6 z7 z8 => P_X10_judgeMatrix_55 (R_X10_judge dep) Q T (rs.length + 1) z0 z1 z2 z3 z4 z5 z6 z7 z8) (r.length + 1 + 1) k N x3 x4 x5 x7 x8 x9 x10 i m := by
      intro m n lo hi k1 r rs i x3 x4 x5 x7 x8 x9 x10 st hE hT hI h9 hR hn h68 hsp hst hx3 hx10 h
      obtain ⟨k2, ns', mid, hns, t2, tn, t3⟩ := TM_cons.1 hT
      obtain ⟨rfl, rfl⟩ : k1 = k2 ∧ r ++ rs.flatten = ns' := by
        have hns' : k1 :: (r ++ rs.flatten) = k2 :: ns' := hns
        cases hns'
        exact ⟨rfl, rfl⟩
      obtain ⟨i0, i1, i2⟩ := hI
      have kk := tn.lk
      rw [hs] at hsp hx10
      refine ⟨by constructor <;> omega, ?_⟩
      rw [if_neg (by omega), i1]
      refine ⟨i0, hC.1 (by omega) m n lo mid k1 sp _ hE tn hn h68 (by omega) (fun m1 f1 n1 T1 => ?_)⟩
      have r1 := T1.rg.ri (ok hE.ok)
      have e94 : m1 594 i = m 594 i := f1.st 594 i (by omega)
      have hlm : lo ≤ mid := by omega
      have E1 := hE.jm f1
      -- to the next item
      have next : ∀ (m2 : MM) (x4' x5' x7' x8' : Int), FJm lo mid sp m1 m2 → m2 582 13 = m1 582 13 → m2 582 14 = m1 582 14 → TNM m2 (AnP m2 e ro) d c lo mid k1 → stR (stp st (rgS e d c)) x4' x5' x7' x8' → P_X10_judgeMatrix_72 (R_X10_judge dep) Q T (fun z0 z1 z2 z3 z4 z5 z6 z7 z8 => P_X10_judgeMatrix_55 (R_X10_judge dep) Q T (rs.length + 1) z0 z1 z2 z3 z4 z5 z6 z7 z8) (r.length + 1) k N x3 x4' x5' x7' x8' x9 (x10 + 1) (m2 594 i) m2 := by
        intro m2 x4' x5' x7' x8' f2 g3 g4 T2 st2
        have f12 : FJm lo mid sp m m2 := f1.trans f2
        rw [f2.st 594 i (by omega), e94]
        refine ihs hC.2 hP.2 w.2.2 (n := mn n (ntS e d c)) (st := stp st (rgS e d c)) (hE.jm f12) (t3.jt f12 (Or.inr (Int.le_refl _))) (i2.fr f12.st) h9 (by rw [f12.st 594 x9 (by omega)]; exact hR.fr f12.st) (n1.congr g3 g4) (by rw [f12 582 68 (by omega) (by omega) (by omega) (by omega)]; exact h68) (by omega) st2 hx3 (by omega) (fun m3 x3' x4' x5' x7' x8' f3 n3 T3 st3 b3 i3 => ?_)
        have T2' : TNM m3 (AnP m3 e ro) d c lo mid k1 := by
          obtain ⟨cl', ch', cs', a1, a2, a3, a4, a5⟩ := T2
          exact ⟨cl', ch', cs', a1, a2.fr f3.st (fun q => by omega), a3.fr f3.st, a4.fr (fun c' _ _ => f3 _ _ (by omega) (by omega) (by omega) (by omega)), a5.jm f3 (by omega)⟩
        refine h m3 x3' x4' x5' x7' x8' ((f12.mono (Int.le_refl _) t2 (Int.le_refl _)).trans (f3.mono hlm (Int.le_refl _) (Int.le_refl _))) (by rw [e2, ← mn_assoc]; exact n3) ⟨k1, _, mid, rfl, t2, T2', T3⟩ (by rw [e1]; exact st3) b3 ?_
        rw [i3]
        have ll : ((k1 :: r).length : Int) = (r.length : Int) + 1 := rfl
        rw [ll]
        exact ⟨fun q => ⟨q.1, by omega, q.2.2⟩, fun q => ⟨q.1, by omega, q.2.2⟩⟩
      obtain ⟨s7, s8, s5, sm⟩ := id hst
      rcases st with - | g
      · -- something was wrong before
        have x40 : x4 = 0 := sm
        refine ⟨⟨by rw [x40]; decide, by rw [if_pos x40]; trivial⟩, by rw [if_pos x40]; decide, ?_⟩
        rw [if_pos (if_pos x40), if_pos x40]
        exact ⟨i0, next m1 0 x5 x7 x8 (FJm.refl m1) rfl rfl T1 ⟨s7, s8, s5, rfl⟩⟩
      have x41 : x4 = 1 := by
        rcases g with - | acc
        · exact sm.1
        · exact sm.1
      refine ⟨⟨by rw [x41]; decide, by rw [if_neg (by omega)]; exact ⟨⟨kk.1, kk.2.1⟩, r1.1⟩⟩, by rw [if_neg (by omega)]; split <;> decide, ?_⟩
      rw [if_neg (show ¬ x4 = 0 by omega)]
      rcases hx : rgS e d c with - | a
      · rw [if_pos (r1.2.2 hx), if_pos rfl]
        exact ⟨i0, next m1 0 x5 x7 x8 (FJm.refl m1) rfl rfl T1 ⟨s7, s8, s5, by rw [hx]; rfl⟩⟩
      have e98 : (if m1 598 k1 = -9 then (0 : Int) else 1) = 1 := if_neg (fun q => by have := r1.2.1 q; rw [hx] at this; cases this)
      rw [e98, if_neg (show ¬ (1 : Int) = 0 by decide)]
      have oa := ok hE.ok a hx
      have ab := bM_bd (ok3_b oa)
      have ar := ok3_bd oa
      have rg := T1.rg
      rw [hx] at rg
      obtain ⟨v1, v2, v3⟩ := rg
      -- nothing good any more
      have l185 : stp (some g) (rgS e d c) = some none → P_X10_judgeMatrix_185 (R_X10_judge dep) Q T (fun z0 z1 z2 z3 z4 z5 z6 z7 z8 => P_X10_judgeMatrix_55 (R_X10_judge dep) Q T (rs.length + 1) z0 z1 z2 z3 z4 z5 z6 z7 z8) (fun z0 z1 z2 z3 z4 z5 z6 z7 z8 z9 z10 => P_X10_judgeMatrix_72 (R_X10_judge dep) Q T (fun z0 z1 z2 z3 z4 z5 z6 z7 z8 => P_X10_judgeMatrix_55 (R_X10_judge dep) Q T (rs.length + 1) z0 z1 z2 z3 z4 z5 z6 z7 z8) (r.length + 1) z0 z1 z2 z3 z4 z5 z6 z7 z8 z9 z10) k N x3 1 x7 x8 x9 (x10 + 1) i m1 := by
        intro q
        unfold P_X10_judgeMatrix_185
        rw [if_pos rfl]
        exact ⟨i0, next m1 1 0 x7 x8 (FJm.refl m1) rfl rfl T1 ⟨s7, s8, Or.inl rfl, by rw [q]; exact ⟨rfl, rfl⟩⟩⟩
      refine ⟨by constructor <;> omega, ?_⟩
      rcases g with - | acc
      · obtain ⟨-, x50⟩ := sm
        rw [if_pos x50]
        exact l185 (by rw [hx]; rfl)
      obtain ⟨-, x51, oacc, aB, a0, h7, h8⟩ := sm
      rw [if_neg (by omega), v1, v2, v3]
      have es : stp (some (some acc)) (rgS e d c) = some (mxA acc [a]) := by rw [hx]; rfl
      have em : mxA acc [a] = if a.1 = -2 ∨ a.2.2 ≠ 0 then none else match jn acc a with
          | none => none
          | some j => some j := by
        show (if a.1 = -2 ∨ a.2.2 ≠ 0 then none else match jn acc a with
          | none => none
          | some j => mxA j []) = _
        split
        · rfl
        · rcases jn acc a with - | j <;> rfl
      refine ⟨⟨kk.1, kk.2.1⟩, ar.1, ?_⟩
      by_cases eB : a.1 = -2
      · rw [if_pos (ab.2.2.1.2 eB)]
        exact l185 (by rw [es, em, if_pos (Or.inl eB)])
      rw [if_neg (fun q => eB (ab.2.2.1.1 q))]
      refine ⟨by constructor <;> omega, ?_⟩
      by_cases s0 : a.2.2 = 0
      · rw [if_pos s0, h7, h8]
        have c1 : P_X10_joins (bM acc.1) acc.2.1 acc.2.2 (bM a.1) a.2.1 a.2.2 m1 (fun r2 m2 => ((RI r2)) ∧ (RI (if r2 = 0 then 0 else 1 : Int)) ∧ (if (if r2 = 0 then 0 else 1 : Int) = 0 then P_X10_judgeMatrix_208 (R_X10_judge dep) Q T (fun z0 z1 z2 z3 z4 z5 z6 z7 z8 => P_X10_judgeMatrix_55 (R_X10_judge dep) Q T (rs.length + 1) z0 z1 z2 z3 z4 z5 z6 z7 z8) (fun z0 z1 z2 z3 z4 z5 z6 z7 z8 z9 z10 => P_X10_judgeMatrix_72 (R_X10_judge dep) Q T (fun z0 z1 z2 z3 z4 z5 z6 z7 z8 => P_X10_judgeMatrix_55 (R_X10_judge dep) Q T (rs.length + 1) z0 z1 z2 z3 z4 z5 z6 z7 z8) (r.length + 1) z0 z1 z2 z3 z4 z5 z6 z7 z8 z9 z10) k N x3 1 (if r2 = 0 then 0 else 1 : Int) (bM acc.1) acc.2.1 x9 (x10 + 1) i m2 else P_X10_judgeMatrix_208 (R_X10_judge dep) Q T (fun z0 z1 z2 z3 z4 z5 z6 z7 z8 => P_X10_judgeMatrix_55 (R_X10_judge dep) Q T (rs.length + 1) z0 z1 z2 z3 z4 z5 z6 z7 z8) (fun z0 z1 z2 z3 z4 z5 z6 z7 z8 z9 z10 => P_X10_judgeMatrix_72 (R_X10_judge dep) Q T (fun z0 z1 z2 z3 z4 z5 z6 z7 z8 => P_X10_judgeMatrix_55 (R_X10_judge dep) Q T (rs.length + 1) z0 z1 z2 z3 z4 z5 z6 z7 z8) (r.length + 1) z0 z1 z2 z3 z4 z5 z6 z7 z8 z9 z10) k N x3 1 (if r2 = 0 then 0 else 1 : Int) (m2 582 65) (m2 582 66) x9 (x10 + 1) i m2)) := by
          refine c_joins oacc oa ?_
          have fj : FJm lo mid sp m1 (jm m1 (bM acc.1) acc.2.1 acc.2.2 (bM a.1) a.2.1 a.2.2) := jmFJ (FJm.refl m1)
          have Tj : TNM (jm m1 (bM acc.1) acc.2.1 acc.2.2 (bM a.1) a.2.1 a.2.2) (AnP (jm m1 (bM acc.1) acc.2.1 acc.2.2 (bM a.1) a.2.1 a.2.2) e ro) d c lo mid k1 := by
            have fj0 : FJm hi hi sp m1 (jm m1 (bM acc.1) acc.2.1 acc.2.2 (bM a.1) a.2.1 a.2.2) := jmFJ (FJm.refl m1)
            obtain ⟨cl', ch', cs', a1, a2, a3, a4, a5⟩ := T1
            exact ⟨cl', ch', cs', a1, a2.fr fj.st (fun q => by omega), a3.fr fj.st, a4.fr (fun c' _ _ => jm_o (by omega)), a5.jm fj0 (by omega)⟩
          rcases hj : jn acc a with - | j
          · rw [show (if (none : Option R3).isSome = true then (1 : Int) else 0) = 0 from rfl]
            refine ⟨by decide, by decide, ?_⟩
            rw [if_pos (show (if (0 : Int) = 0 then (0 : Int) else 1) = 0 from rfl), if_pos (show (0 : Int) = 0 from rfl)]
            refine ⟨i0, next _ 1 0 (bM acc.1) acc.2.1 fj (jm_o (by omega)) (jm_o (by omega)) Tj ⟨by rw [← h7]; exact s7, by rw [← h8]; exact s8, Or.inl rfl, ?_⟩⟩
            rw [es, em, if_neg (fun z => by rcases z with z | z; exact eB z; exact z s0), hj]
            exact ⟨rfl, rfl⟩
          · have oj := jn_ok oacc oa hj
            have jB := jn_nB aB hj
            have jv := jn_vals oacc oa hj
            have jr := ok3_bd oj
            rw [show (if (some j).isSome = true then (1 : Int) else 0) = 1 from rfl]
            refine ⟨by decide, by decide, ?_⟩
            rw [if_neg (show ¬ (if (1 : Int) = 0 then (0 : Int) else 1) = 0 by decide), if_neg (show ¬ (1 : Int) = 0 by decide), jm_65, jm_66, jv.1, jv.2.1]
            refine ⟨i0, next _ 1 1 (bM j.1) j.2.1 fj (jm_o (by omega)) (jm_o (by omega)) Tj ⟨jr.1, by constructor <;> omega, Or.inr rfl, ?_⟩⟩
            rw [es, em, if_neg (fun z => by rcases z with z | z; exact eB z; exact z s0), hj]
            exact ⟨rfl, rfl, oj, jB, by have := jv.2.2; omega, rfl, rfl⟩
        rw [a0, s0] at c1
        exact c1
      · rw [if_neg s0]
        exact l185 (by rw [es, em, if_pos (Or.inr s0)])
    intro m n lo hi r rs i x3 x4 x5 x7 x8 x9 x10 st hE hT hI h9 hR hn h68 hsp hst hx3 hx10 h
    cases r with
    | cons k1 r => exact B hE hT hI h9 hR hn h68 hsp hst hx3 hx10 h
    | nil =>
      have i1 : i = -1 := hI
      cases rs with
      | nil =>
        exfalso
        obtain ⟨k2, ns', mid, hns, -⟩ := TM_cons.1 hT
        cases hns
      | cons r1 rs =>
        obtain ⟨g1, g2, g3, g4⟩ := hR
        cases r1 with
        | nil => simp at g3
        | cons k1 r1 =>
          show P_X10_judgeMatrix_72 _ _ _ _ (0 + 1) k N x3 x4 x5 x7 x8 x9 x10 i m
          refine ⟨by rw [i1]; decide, ?_⟩
          rw [if_pos (by rw [i1]; decide)]
          refine ⟨⟨by constructor <;> omega, by split; trivial; exact ⟨by constructor <;> omega, rN⟩⟩, h9, ?_⟩
          show P_X10_judgeMatrix_55 _ _ _ (rs.length + 1 + 1) k N _ x4 x5 x7 x8 (m 594 x9) m
          refine ⟨by constructor <;> omega, ?_⟩
          rw [if_neg (by omega)]
          refine ⟨g1, _, B (r := r1) hE hT g2 g1 g4 hn h68 hsp hst (by split; exact Or.inl rfl; split; exact Or.inr rfl; exact Or.inl rfl) (by omega) (fun m' x3' x4' x5' x7' x8' f' n' T' st' b' i' => h m' x3' x4' x5' x7' x8' f' n' T' st' b' ?_)⟩
          rw [i']
          have ll : (([] : List Int).length : Int) = 0 := rfl
          rw [ll]
          constructor
          · rintro ⟨q1, q2, q3⟩
            by_cases z3 : x3 = 0
            · rw [if_pos z3] at q1; cases q1
            · rw [if_neg z3] at q1
              by_cases zN : x10 = N
              · refine ⟨by omega, by omega, fun r' hr' => ?_⟩
                rcases List.mem_cons.1 hr' with q | q
                · rw [q]; omega
                · exact q3 r' q
              · rw [if_neg zN] at q1; cases q1
          · rintro ⟨q1, q2, q3⟩
            rw [if_neg (by omega), if_pos (by omega)]
            exact ⟨rfl, by have := q3 (k1 :: r1) (List.mem_cons_self ..); omega, fun r' hr' => q3 r' (List.mem_cons_of_mem _ hr')⟩
end MATM
