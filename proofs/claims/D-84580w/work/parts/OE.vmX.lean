set_option maxRecDepth 100000
/-! the model's tasks: calls, whole -/
def stkV (g : Nat → VV) : Nat → List VV
  | 0 => []
  | k + 1 => g k :: stkV g k
theorem stkV_len {g : Nat → VV} : ∀ k, (stkV g k).length = k := by
  intro k
  induction k with
  | zero => rfl
  | succ k ih => show (stkV g k).length + 1 = k + 1; rw [ih]
theorem stkV_eq {g g' : Nat → VV} : ∀ k, (∀ i, i < k → g' i = g i) → stkV g' k = stkV g k := by
  intro k
  induction k with
  | zero => intro _; rfl
  | succ k ih =>
    intro h
    show g' k :: stkV g' k = g k :: stkV g k
    rw [h k (by omega), ih (fun i hi => h i (by omega))]
theorem stkV_nth {g : Nat → VV} : ∀ (k i : Nat), i < k → ∃ pre, stkV g k = pre ++ g i :: stkV g i := by
  intro k
  induction k with
  | zero => intro i h; omega
  | succ k ih =>
    intro i h
    by_cases c : i = k
    · subst c; exact ⟨[], rfl⟩
    · obtain ⟨pre, e⟩ := ih i (by omega)
      exact ⟨g k :: pre, by show _ :: stkV g k = _; rw [e]; rfl⟩
/-- every part is worked right -/
def SimQ (F : Int → FnR) (n : Int) (S : SGm) (ms : MM) (rec : EVm → PT → ES → ER) : Prop := ∀ (E : EVm) (h : Int) (a : PT) (s : ES) (x : R3), EvO F n E → (0 ≤ a.1.1 ∧ a.1.1 ≤ 25) → okN a.1 a.2 → wfT a.2 → rgS E.1 a.1 a.2 = some x → SimE F n S ms E h a s (rec E a s)
/-- all parts of a call lie in the pile -/
def SimX (F : Int → FnR) (n : Int) (S : SGm) (ms : MM) (E : EVm) (h : Int) (a : PT) (g : Nat → VV) (s : ES) (r : ER) : Prop := r.1 ≠ .error 99 → ∃ N : Nat, ∀ (k : Int) (Q : Int → MM → Prop) (m : MM) (pb : Int) (T : List Tk) (l : List VV) (R : Nat), VmS m F n S ms E h pb T (stkV g (lenT a.2) ++ l) s → NmM E h pb l → SbM F S ms E.1 h a k → bdM E l T (wT a) (szT a.2) → OutZ F n S ms Q E h pb T l m R r → ∀ r', R + N ≤ r' → P_X10_arguments k (-1) (lenT a.2 : Int) m (fun _ m2 => P_X10_eval_10 Q r' m2)
section VMX
variable {Q : Int → MM → Prop} {m m' m0 m1 ms : MM} {F : Int → FnR} {n : Int} {S : SGm} {E : EVm} {h pb : Int} {T T' : List Tk} {l l' pre : List VV} {s s' : ES} {R : Option R3} {a b : PT} {k cl lo f : Int} {rc : List R3} {x y z z' x' : R3} {V : VV} {Rn r' idx : Nat} {g : Nat → VV} {rec : EVm → PT → ES → ER}
theorem task9 {s0 x3 : Int} (K : P_X10_leaveCall x3 m (fun _ m2 => Q 0 m2)) : P_X10_task_20 Q 9 k x3 0 0 s0 m := by
  unfold P_X10_task_20
  refine ⟨by decide, ?_⟩
  rw [if_neg (by decide), if_neg (by decide), if_neg (by decide), if_neg (by decide), if_neg (by decide), if_neg (by decide), if_neg (by decide), if_neg (by decide), if_neg (by decide), if_pos rfl]
  exact K
theorem simX (hRg : RgO S n) (hFs : FsM F n) (hE : EvO F n E) (hk : a.1.1 = 5) (hx : rgS E.1 a.1 a.2 = some x) (Kd' : Kd F E.1 a x rc) (KC : Kcall F n E a x f R) (rd : RdE F n f (nrmR R)) (hc : E.1.2.2.2.1 a.1.2.2.2 rc = some (f, R, x)) (hrec : SimQ F n S ms rec) (hV : VrO F n rec) (hw : lenT a.2 ≤ wT a) (hg : ∀ i, i < lenT a.2 → ∀ y, instS (F f) ((i : Int) + 1) R = some y → VR E.2.1 y (g i)) : SimX F n S ms E h a g s (if E.2.2.1 = 20 then (.error 7, s) else andE (rec (JEf F f (nrmR R), ownM E.2.1 R, E.2.2.1 + 1, (fun i => g i.toNat), E.2.2.2.2) (rootF (F f)) (s.1, max s.2 (E.2.2.1 + 1))) (fun V s2 => (.ok (conv (ownM E.2.1 R) (rgN (JEf F f (nrmR R)) (rootF (F f))) ((instS (F f) 0 (nrmR R)).getD (0, 0, 0)) V), s2))) := by
  obtain ⟨-, k2, k3, k4, k5, k6, k7, k8, k9⟩ := KC
  obtain ⟨hE', x', z', q1, q2, q3, q4, q5, q6, q7, q8⟩ := k9 g (E.2.2.1 + 1) hg
  have rt := (hE.1.2 f k2.1 k2.2).1
  have Ff := hE.1.1 f k2.1 k2.2
  intro ne
  by_cases c20 : E.2.2.1 = 20
  · rw [if_pos c20]
    refine ⟨0, fun k Q m pb T l R' H hN hS hb hO r' hr => ?_⟩
    have c91 : m 582 91 = E.2.2.1 := H.2.1.2.2.2.2.2.2.2.1
    have b2 := hb.2
    have hc' := H.2.2.2.2.1
    unfold P_X10_arguments
    refine ⟨by decide, ?_⟩
    rw [if_pos (by decide), c91]
    refine ⟨by constructor <;> omega, ?_⟩
    rw [if_pos c20]
    intro m19 e19
    have f19 : ∀ c i, ¬ (c = 582 ∧ i = 84) → m19 c i = m c i := fun c i q => by rw [e19, up_ne q]
    exact OutZ.er hO H Fvm.refl (by omega) rfl (fun c i q _ _ => f19 c i (by omega)) (by rw [e19, up_at]) (by omega)
  rw [if_neg c20] at ne ⊢
  rw [q2, q8, Option.getD_some] at ne ⊢
  have hB := hrec (JEf F f (nrmR R), ownM E.2.1 R, E.2.2.1 + 1, (fun i => g i.toNat), E.2.2.2.2) f (rootF (F f)) (s.1, max s.2 (E.2.2.1 + 1)) x' hE' rt.1 rt.2.1 rt.2.2 q1
  have vB := fun V s2 => hV (JEf F f (nrmR R), ownM E.2.1 R, E.2.2.1 + 1, (fun i => g i.toNat), E.2.2.2.2) (rootF (F f)) (s.1, max s.2 (E.2.2.1 + 1)) V s2 x' hE' rt.1 rt.2.1 rt.2.2 q1
  have xm : okMo x'.1 (ownM E.2.1 R) := by
    obtain ⟨rc', -, -, -, ⟨-, w2, -⟩, -⟩ := ndc hE' rt.1 rt.2.1 rt.2.2 q1
    exact w2
  generalize hrB : rec (JEf F f (nrmR R), ownM E.2.1 R, E.2.2.1 + 1, (fun i => g i.toNat), E.2.2.2.2) (rootF (F f)) (s.1, max s.2 (E.2.2.1 + 1)) = rB at ne hB vB ⊢
  have fs := hFs f k2.1 k2.2
  have go : ∀ (NB : Nat) (R2 : Nat → Nat) (HB : ∀ (k : Int) (Q : Int → MM → Prop) (m : MM) (pb : Int) (T : List Tk) (l : List VV) (R' : Nat), VmS m F n S ms (JEf F f (nrmR R), ownM E.2.1 R, E.2.2.1 + 1, (fun i => g i.toNat), E.2.2.2.2) f pb ((0, k, 0, 0, 0) :: T) l (s.1, max s.2 (E.2.2.1 + 1)) → NmM (JEf F f (nrmR R), ownM E.2.1 R, E.2.2.1 + 1, (fun i => g i.toNat), E.2.2.2.2) f pb l → SbM F S ms (JEf F f (nrmR R)) f (rootF (F f)) k → bdM (JEf F f (nrmR R), ownM E.2.1 R, E.2.2.1 + 1, (fun i => g i.toNat), E.2.2.2.2) l T (wT (rootF (F f))) (szT (rootF (F f)).2) → OutZ F n S ms Q (JEf F f (nrmR R), ownM E.2.1 R, E.2.2.1 + 1, (fun i => g i.toNat), E.2.2.2.2) f pb T l m R' rB → GoM Q (R' + NB) m) (k : Int) (Q : Int → MM → Prop) (m : MM) (pb : Int) (T : List Tk) (l : List VV) (R' : Nat), VmS m F n S ms E h pb T (stkV g (lenT a.2) ++ l) s → NmM E h pb l → SbM F S ms E.1 h a k → bdM E l T (wT a) (szT a.2) → (∀ m1, SvM m1 E.2.2.1 f pb h (m 582 62) (m 582 63) (m 582 64) (m 582 89) → Fvm E.2.2.1 S.2.2.2.1 m m1 → OutZ F n S ms Q (JEf F f (nrmR R), ownM E.2.1 R, E.2.2.1 + 1, (fun i => g i.toNat), E.2.2.2.2) f (l.length : Int) ((9, k, (l.length : Int), 0, 0) :: T) (stkV g (lenT a.2) ++ l) m1 (R2 R') rB) → ∀ r', R2 R' + NB ≤ r' → P_X10_arguments k (-1) (lenT a.2 : Int) m (fun _ m2 => P_X10_eval_10 Q r' m2) := by
    intro NB R2 HB k Q m pb T l R' H hN hS hb hO r' hr
    obtain ⟨cs, N⟩ := H.node hS
    have A5 := (N.2.2.2.1.ring hx).2.2.2.1 hk rc f R x Kd'.1.2.2.1 hc
    have b1 := hb.1
    have b2 := hb.2
    have hcc := H.2.2.2.2.1
    have ep : ((stkV g (lenT a.2)).length : Int) = (lenT a.2 : Int) := by rw [stkV_len]
    rw [← ep]
    refine c_callM hRg hFs hE N.1 A5.1 A5.2 k6 rd H (by omega) c20 (by omega) (fun m1 I1 D1 h61 rm1 rec1 t1 p93 sv1 F1 => ?_)
    have H1 : VmS m1 F n S ms (JEf F f (nrmR R), ownM E.2.1 R, E.2.2.1 + 1, (fun i => g i.toNat), E.2.2.2.2) f (l.length : Int) ((0, S.2.1 f, 0, 0, 0) :: (9, k, (l.length : Int), 0, 0) :: T) (stkV g (lenT a.2) ++ l) (s.1, max s.2 (E.2.2.1 + 1)) := by
      refine ⟨I1, D1, ⟨fun v y _ hv => ?_, fun q => by omega⟩, ⟨.inr ⟨nrmR R, rfl, rd⟩, h61, rm1, fun _ => rec1, ⟨fun q => by omega, fun _ => t1⟩, p93⟩, ?_, ?_, ?_⟩
      · have hv : (none : Option R3) = some y := hv
        cases hv
      · show 0 ≤ E.2.2.1 + 1 ∧ E.2.2.1 + 1 ≤ 20; omega
      · exact H.bs.1
      · have := H.bs.2
        show 0 ≤ max s.2 (E.2.2.1 + 1) ∧ max s.2 (E.2.2.1 + 1) ≤ 20
        omega
    refine HB (S.2.1 f) Q m1 (l.length : Int) ((9, k, (l.length : Int), 0, 0) :: T) (stkV g (lenT a.2) ++ l) (R2 R') H1 ?_ ?_ ⟨?_, ?_⟩ (hO m1 sv1 F1) r' hr
    · intro _ w i y hy
      obtain ⟨j, j1, j2, j3⟩ := jf_nm hy
      have jn : (F f).2.1.toNat = lenT a.2 := by rw [k3]; omega
      rw [jn] at j1
      obtain ⟨i', ei⟩ : ∃ i' : Nat, (i' : Int) = j - 1 := ⟨(j - 1).toNat, by omega⟩
      obtain ⟨pre, e⟩ := stkV_nth (g := g) (lenT a.2) i' (by omega)
      refine ⟨pre, stkV g i' ++ l, ?_, ?_⟩
      · rw [e, List.append_assoc, List.cons_append]
        have e2 : (fun i : Int => g i.toNat) i = g i' := by
          show g i.toNat = g i'
          rw [j3, ← ei]; rfl
        show pre ++ g i' :: (stkV g i' ++ l) = pre ++ (fun i : Int => g i.toNat) i :: (stkV g i' ++ l)
        rw [e2]
      · rw [List.length_append, stkV_len, j3]; omega
    · intro m' f' H'
      have e0 : roM f = 0 := by unfold roM; rw [if_neg (by omega)]
      rw [e0]
      exact ⟨_, _, H'.2 k2.1⟩
    · show ((stkV g (lenT a.2) ++ l).length : Int) + (wT (rootF (F f)) : Int) + 63 * (20 - (E.2.2.1 + 1)) ≤ 1790
      rw [List.length_append, stkV_len]
      omega
    · show (((9, k, (l.length : Int), 0, 0) :: T : List Tk).length : Int) + 2 * ((szT (rootF (F f)).2 : Int) + 1) + 320 * (20 - (E.2.2.1 + 1)) ≤ 11000
      rw [List.length_cons]
      omega
  obtain ⟨o, s2⟩ := rB
  cases o with
  | error e =>
    obtain ⟨NB, HB⟩ := hB ne
    refine ⟨NB, fun k Q m pb T l R' H hN hS hb hO r' hr => go NB (fun R => R) HB k Q m pb T l R' H hN hS hb (fun m1 _ F1 => ?_) r' hr⟩
    have hO : ∀ m', m' 582 84 = e → m' 582 90 = s2.1 → m' 582 92 = s2.2 → (0 ≤ m' 582 99 ∧ m' 582 99 ≤ 12000) → VmI m' F n S ms → Fvm 0 S.2.2.2.1 m m' → GoM Q R' m' := hO
    intro m2 a1 a2 a3 a4 a5 a6
    exact hO m2 a1 a2 a3 a4 a5 ((F1.le H.2.2.2.2.1.1).trans a6)
  | ok V =>
    obtain ⟨NB, HB⟩ := hB (fun z => by cases z)
    refine ⟨1 + NB, fun k Q m pb T l R' H hN hS hb hO r' hr => go NB (fun R => R + 1) HB k Q m pb T l R' H hN hS hb (fun m1 sv1 F1 => ?_) r' (by omega)⟩
    intro m2 H2 F2
    have b1 := hb.1
    have b2 := hb.2
    have hcc := H.2.2.2.2.1
    have F2 : Fvm (E.2.2.1 + 1) S.2.2.2.1 m1 m2 := F2
    have npz : 1 ≤ lenT a.2 := by
      have := k4.1
      omega
    refine runT H2 (by omega) (by rw [List.length_cons, List.length_append, stkV_len]; omega) (fun m3 H3 F3 r3 hr3 => task9 ?_)
    have F3 : Fvm (E.2.2.1 + 1) S.2.2.2.1 m2 m3 := F3
    have F13 := F2.trans F3
    have F03 := F1.trans (F13.le (show E.2.2.1 ≤ E.2.2.1 + 1 by omega))
    have sv3 : SvM m3 E.2.2.1 f pb h (m 582 62) (m 582 63) (m 582 64) (m 582 89) := by
      obtain ⟨v1, v2, v3, v4, v5, v6, v7⟩ := sv1
      have tr : ∀ c, 641 ≤ c → c ≤ 647 → m3 c E.2.2.1 = m1 c E.2.2.1 := fun c a1 a2 => F13.1 c _ (by omega) (by omega) (by omega) (by omega) (by omega) (by omega) (by omega)
      exact ⟨by rw [tr _ (by decide) (by decide)]; exact v1, by rw [tr _ (by decide) (by decide)]; exact v2, by rw [tr _ (by decide) (by decide)]; exact v3, by rw [tr _ (by decide) (by decide)]; exact v4, by rw [tr _ (by decide) (by decide)]; exact v5, by rw [tr _ (by decide) (by decide)]; exact v6, by rw [tr _ (by decide) (by decide)]; exact v7⟩
    obtain ⟨hd, -, rmE, -, hmE, -⟩ := H.2.2.2.1
    have st : ∀ c i, c = 590 ∨ c = 591 ∨ c = 592 ∨ c = 593 ∨ c = 594 ∨ c = 595 ∨ c = 605 → m3 c i = m c i := fun c i q => F03.1 c i (by omega) (by omega) (by omega) (by omega) (by omega) (by omega) (by omega)
    refine c_leave (m0 := m) hRg hFs hE.1 rd H3 (by rw [stkV_len]; exact npz) (by rw [List.length_append, stkV_len]; omega) q1 q2 q4 q5 xm q6 q3 (vB V s2 rfl) hd (by omega) ?_ rmE H.2.1.2.2.2.2.2.2.2.2 sv3 (fun hh => (hmE.1 hh).fr2 (fun c i a1 a2 a3 a4 => F03.1 c i (by omega) (by omega) (by omega) (by omega) (by omega) (by omega) (by omega)) st) (fun m4 H4 F4 => ?_)
    · have e9 : m3 629 = m 629 := funext (fun i => F03.1 _ _ (by decide) (by decide) (by omega) (by omega) (by omega) (by omega) (by omega))
      have e0 : m3 630 = m 630 := funext (fun i => F03.1 _ _ (by decide) (by decide) (by omega) (by omega) (by omega) (by omega) (by omega))
      unfold VvO
      rw [e9, e0]; exact H.2.2.1
    · have hO : ∀ m', VmS m' F n S ms E h pb T (conv (ownM E.2.1 R) x' z' V :: l) s2 → Fvm E.2.2.1 S.2.2.2.1 m m' → GoM Q R' m' := hO
      exact hO m4 H4 (F03.trans F4) r3 hr3
end VMX
