set_option maxRecDepth 100000
/-! the model's tasks: kinds of parts -/
/-- a task whose part's first part was worked -/
def SimT (F : Int → FnR) (n : Int) (S : SGm) (ms : MM) (E : EVm) (h : Int) (w : Int) (a : PT) (V : VV) (s : ES) (r : ER) : Prop := r.1 ≠ .error 99 → ∃ N : Nat, ∀ (k : Int) (Q : Int → MM → Prop) (m : MM) (pb : Int) (T : List Tk) (l : List VV) (R : Nat), VmS m F n S ms E h pb T (V :: l) s → NmM E h pb l → SbM F S ms E.1 h a k → bdM E l T (wT a) (szT a.2) → OutZ F n S ms Q E h pb T l m R r → ∀ r', R + N ≤ r' → P_X10_task_20 (fun _ m2 => P_X10_eval_10 Q r' m2) w k 0 0 0 (882 * (l.length : Int)) m
section VMK
variable {Q : Int → MM → Prop} {m m' m0 m1 ms : MM} {F : Int → FnR} {n : Int} {S : SGm} {E : EVm} {h pb : Int} {T T' : List Tk} {l l' pre : List VV} {s s' : ES} {R r NB r' : Nat} {a b : PT} {k cl lo : Int} {e : JE} {x z y : R3} {V U W : VV} {res : EX VV} {ro : Int} {cs : List Int} {rc : List R3} {rA rB rr : ER}
theorem NmM.cons (hN : NmM E h pb l) : NmM E h pb (V :: l) := by
  intro h0 w i y hy
  obtain ⟨p1, s1, e1, e2⟩ := hN h0 w i y hy
  exact ⟨V :: p1, s1, by rw [e1]; rfl, e2⟩
/-- a task, and a part before it -/
theorem go_two {c : Int} {t : Tk} (HB : ∀ (k : Int) (Q : Int → MM → Prop) (m : MM) (pb : Int) (T : List Tk) (l : List VV) (R : Nat), VmS m F n S ms E h pb ((0, k, 0, 0, 0) :: T) l s → NmM E h pb l → SbM F S ms E.1 h b k → bdM E l T (wT b) (szT b.2) → OutZ F n S ms Q E h pb T l m R rB → GoM Q (R + NB) m) (H : VmS m F n S ms E h pb T l s) (hN : NmM E h pb l) (hS : SbM F S ms E.1 h b c) (hb : bdM E l (t :: T) (wT b) (szT b.2)) (hO : OutZ F n S ms Q E h pb (t :: T) l m R rB) (hr : R + NB ≤ r') : P_X10_later_2 t.1 t.2.1 t.2.2.1 t.2.2.2.1 t.2.2.2.2 m (fun _ m1 => P_X10_later c m1 (fun _ m2 => P_X10_eval_10 Q r' m2)) := by
  have hc := H.2.2.2.2.1
  have b2 := hb.2
  rw [List.length_cons] at b2
  refine c_later H (by omega) (fun m1 H1 F1 f1 => c_laterP H1 (by rw [List.length_cons]; omega) (fun m2 H2 F2 => ?_))
  exact HB c Q m2 pb (t :: T) l R H2 hN hS hb (hO.fm' (F1.trans F2) hc.1) r' hr
theorem go_one {c : Int} (HB : ∀ (k : Int) (Q : Int → MM → Prop) (m : MM) (pb : Int) (T : List Tk) (l : List VV) (R : Nat), VmS m F n S ms E h pb ((0, k, 0, 0, 0) :: T) l s → NmM E h pb l → SbM F S ms E.1 h b k → bdM E l T (wT b) (szT b.2) → OutZ F n S ms Q E h pb T l m R rB → GoM Q (R + NB) m) (H : VmS m F n S ms E h pb T l s) (hN : NmM E h pb l) (hS : SbM F S ms E.1 h b c) (hb : bdM E l T (wT b) (szT b.2)) (hO : OutZ F n S ms Q E h pb T l m R rB) (hr : R + NB ≤ r') : P_X10_later c m (fun _ m2 => P_X10_eval_10 Q r' m2) := by
  have hc := H.2.2.2.2.1
  have b2 := hb.2
  refine c_laterP H (by omega) (fun m2 H2 F2 => ?_)
  exact HB c Q m2 pb T l R H2 hN hS hb (hO.fm' F2 hc.1) r' hr
theorem OutZ.err {e : Int} {s1 : ES} (hO : OutZ F n S ms Q E h pb T l m R (.error e, s1)) : OutZ F n S ms Q E h pb T' l' m R (.error e, s1) := hO
theorem bdM.part {i : Nat} (hb : bdM E l T (wT a) (szT a.2)) (hi : i < lenT a.2) (hw : wT (prT a.2 i) ≤ wT a) {t : Tk} : bdM E l (t :: T) (wT (prT a.2 i)) (szT (prT a.2 i).2) := by
  have := sz_part a.2 i hi
  have b1 := hb.1
  have b2 := hb.2
  refine ⟨by omega, ?_⟩
  rw [List.length_cons]
  omega
theorem bdM.part1 {i : Nat} (hb : bdM E l T (wT a) (szT a.2)) (hi : i < lenT a.2) (hw : 1 + wT (prT a.2 i) ≤ wT a) {t : Tk} : bdM E (V :: l) (t :: T) (wT (prT a.2 i)) (szT (prT a.2 i).2) := by
  have := sz_part a.2 i hi
  have b1 := hb.1
  have b2 := hb.2
  refine ⟨by rw [List.length_cons]; omega, ?_⟩
  rw [List.length_cons]
  omega
theorem bdM.part0 {i : Nat} (hb : bdM E l T (wT a) (szT a.2)) (hi : i < lenT a.2) (hw : wT (prT a.2 i) ≤ wT a) : bdM E l T (wT (prT a.2 i)) (szT (prT a.2 i).2) := by
  have := sz_part a.2 i hi
  have b1 := hb.1
  have b2 := hb.2
  exact ⟨by omega, by omega⟩
/-- a part whose first part is worked first -/
theorem SimR.first {w : Int} {Kc : VV → ES → ER} (hk : 0 ≤ a.1.1 ∧ a.1.1 ≤ 25) (wo : okN a.1 a.2) (l0 : 0 < lenT a.2) (wA : wT (prT a.2 0) ≤ wT a) (hrest : ∀ (m : MM) (Q : Int → MM → Prop) (k : Int) (cs : List Int) (c0 : Int), NdM m E.1 (roM h) a k cs → cs[0]? = some c0 → (∀ Q' : Int → MM → Prop, (∀ m1, (∀ c i, ¬ (c = 582 ∧ i = 99) → ¬ (636 ≤ c ∧ c ≤ 640) → m1 c i = m c i) → P_X10_later c0 m1 (fun _ m2 => Q 0 m2) → Q' 0 m1) → P_X10_later_2 w k 0 0 0 m Q') → RestM k Q m) (hA : SimE F n S ms E h (prT a.2 0) s rA) (h2 : ∀ V s1, rA = (.ok V, s1) → SimT F n S ms E h w a V s1 (Kc V s1)) : SimR F n S ms E h a s (andE rA Kc) := by
  intro ne
  have go : ∀ (NA : Nat) (R' : Nat → Nat) (HA : ∀ (k : Int) (Q : Int → MM → Prop) (m : MM) (pb : Int) (T : List Tk) (l : List VV) (R : Nat), VmS m F n S ms E h pb ((0, k, 0, 0, 0) :: T) l s → NmM E h pb l → SbM F S ms E.1 h (prT a.2 0) k → bdM E l T (wT (prT a.2 0)) (szT (prT a.2 0).2) → OutZ F n S ms Q E h pb T l m R rA → GoM Q (R + NA) m), (∀ (k : Int) (Q : Int → MM → Prop) (m : MM) (pb : Int) (T : List Tk) (l : List VV) (R : Nat), NmM E h pb l → SbM F S ms E.1 h a k → bdM E l T (wT a) (szT a.2) → (0 ≤ E.2.2.1) → OutZ F n S ms Q E h pb T l m R (andE rA Kc) → OutZ F n S ms Q E h pb ((w, k, 0, 0, 0) :: T) l m (R' R) rA) → (∀ (k : Int) (Q : Int → MM → Prop) (m : MM) (pb : Int) (T : List Tk) (l : List VV) (R : Nat), VmS m F n S ms E h pb T l s → NmM E h pb l → SbM F S ms E.1 h a k → bdM E l T (wT a) (szT a.2) → OutZ F n S ms Q E h pb T l m R (andE rA Kc) → ∀ r', R' R + NA ≤ r' → RestM k (fun _ m2 => P_X10_eval_10 Q r' m2) m) := by
    intro NA R' HA cO k Q m pb T l R H hN hS hb hO r' hr
    obtain ⟨cs, N1⟩ := H.node hS
    obtain ⟨c0, hc0⟩ := N1.at 0 l0
    have hc := H.2.2.2.2.1
    have b2 := hb.2
    refine hrest m _ k cs c0 N1 hc0 (fun Q' hQ' => ?_)
    refine c_later (t := (w, k, 0, 0, 0)) H (by omega) (fun m1 H1 F1 f1 => hQ' m1 f1 (c_laterP H1 (by rw [List.length_cons]; omega) (fun m2 H2 F2 => ?_)))
    exact HA c0 Q m2 pb ((w, k, 0, 0, 0) :: T) l (R' R) H2 hN (hS.part hk wo H.1.2.2.2.2.1 N1 hc0) (hb.part l0 wA) (cO k Q m2 pb T l R hN hS hb hc.1 (hO.fm' (F1.trans F2) hc.1)) r' hr
  obtain ⟨o, s1⟩ := rA
  cases o with
  | error e =>
    obtain ⟨NA, HA⟩ := hA ne
    exact ⟨NA, go NA (fun R => R) HA (fun k Q m pb T l R _ _ _ _ hO => hO)⟩
  | ok V =>
    obtain ⟨NA, HA⟩ := hA (fun z => by cases z)
    obtain ⟨N2, H2⟩ := h2 V s1 rfl ne
    refine ⟨N2 + 1 + NA, fun k Q m pb T l R H hN hS hb hO r' hr => go NA (fun R => R + N2 + 1) HA (fun k Q m pb T l R hN hS hb hc hO => ?_) k Q m pb T l R H hN hS hb hO r' (by omega)⟩
    intro m3 H3 F3
    have b1 := hb.1
    have b2 := hb.2
    have hc20 := H3.2.2.2.2.1
    refine runT H3 (by omega) (by rw [List.length_cons]; omega) (fun m4 H4 F4 r4 hr4 => ?_)
    have e0 : (if (V :: l).length = 0 then (0 : Int) else 882 * (((V :: l).length : Int) - 1)) = 882 * (l.length : Int) := by
      rw [List.length_cons, if_neg (by omega)]; omega
    rw [e0]
    exact H2 k Q m4 pb T l R H4 hN hS hb (hO.fm' (F3.trans F4) hc) r4 hr4
/-! parts without parts -/
theorem simR_0 (hk : a.1.1 = 0) : SimR F n S ms E h a s (.ok (numV a.1.2.2.1), s) := by
  refine fun _ => ⟨0, fun k Q m pb T l R H hN hS hb hO r' hr => ?_⟩
  obtain ⟨cs, N⟩ := H.node hS
  have b1 := hb.1
  have hc := H.2.2.2.2.1
  refine rstM_0 N.1 (by rw [N.kind (by omega), hk]; rfl) (c_newV H (by omega) (fun m1 f1 g1 e84 e86 r1 => c_set (by omega) ?_))
  have v605 : m1 605 k = a.1.2.2.1 := by rw [f1 _ _ (by omega) (by decide) (by omega)]; exact N.2.1.2.2.1 (.inl hk)
  rw [v605]
  have vm := VM_pt (j := 0) (v := a.1.2.2.1) (VM_clear r1) (by decide)
  rw [show 882 * (l.length : Int) + 2 * 0 = 882 * (l.length : Int) by omega] at vm
  have f2 : ∀ c i, c ≠ 635 → pt m1 635 (882 * (l.length : Int)) (a.1.2.2.1, 1) c i = m1 c i := fun c i q => pt_oth q
  exact hO.ok (pre := []) H Fvm.refl rfl (fun c i q1 q2 q3 => by rw [f2 c i q2]; exact f1 c i q1 q2 q3) (fun q q0 q1 => by rw [(Fm.ofPt (S := fun q => 882 * (l.length : Int) ≤ q) (by omega) (by omega)).2 q (by omega)]; exact g1 q q1) (by rw [f2 _ _ (by decide)]; exact e84) (by rw [f2 _ _ (by decide)]; exact e86) vm (by omega)
theorem simR_12 {j : Int} (hk : a.1.1 = 1 ∧ j = 1 ∨ a.1.1 = 2 ∧ j = 7) : SimR F n S ms E h a s (.ok (rvv (unkR j)), s) := by
  refine fun _ => ⟨0, fun k Q m pb T l R H hN hS hb hO r' hr => ?_⟩
  obtain ⟨cs, N⟩ := H.node hS
  have b1 := hb.1
  have hc := H.2.2.2.2.1
  have key : ∀ m1, okFr m m1 → (∀ q, q < 882 * (l.length : Int) → m1 635 q = m 635 q) → m1 582 84 = 0 → m1 582 86 = (l.length : Int) + 1 → Rw (m1 635) (882 * (l.length : Int)) zr 441 → P_X10_eval_10 Q r' (pt m1 635 (882 * (l.length : Int) + 2 * j) (1, 1)) := by
    intro m1 f1 g1 e84 e86 r1
    have vm := VM_pt (j := j) (v := 1) (VM_clear r1) (by omega)
    have f2 : ∀ c i, c ≠ 635 → pt m1 635 (882 * (l.length : Int) + 2 * j) (1, 1) c i = m1 c i := fun c i q => pt_oth q
    exact hO.ok (pre := []) H Fvm.refl rfl (fun c i q1 q2 q3 => by rw [f2 c i q2]; exact f1 c i q1 q2 q3) (fun q q0 q1 => by rw [(Fm.ofPt (S := fun q => 882 * (l.length : Int) ≤ q) (by omega) (by omega)).2 q (by omega)]; exact g1 q q1) (by rw [f2 _ _ (by decide)]; exact e84) (by rw [f2 _ _ (by decide)]; exact e86) vm (by omega)
  rcases hk with ⟨q1, q2⟩ | ⟨q1, q2⟩
  · subst q2
    refine rstM_1 N.1 (by rw [N.kind (by omega), q1]; rfl) (c_newV H (by omega) (fun m1 f1 g1 e84 e86 r1 => c_set (by omega) ?_))
    have := key m1 f1 g1 e84 e86 r1
    exact this
  · subst q2
    refine rstM_2 N.1 (by rw [N.kind (by omega), q1]; rfl) (c_newV H (by omega) (fun m1 f1 g1 e84 e86 r1 => c_set (by omega) ?_))
    have := key m1 f1 g1 e84 e86 r1
    exact this
theorem simR_3 (hk : a.1.1 = 3) (w : okN a.1 a.2) (hx : rgS E.1 a.1 a.2 = some x) (hv : E.1.2.1 a.1.2.2.1 = some x) : SimR F n S ms E h a s (.ok (E.2.2.2.2 a.1.2.2.1), s) := by
  refine fun _ => ⟨0, fun k Q m pb T l R H hN hS hb hO r' hr => ?_⟩
  obtain ⟨cs, N⟩ := H.node hS
  have b1 := hb.1
  have hc := H.2.2.2.2.1
  have A := (N.2.2.2.1.ring hx).2.1 hk
  obtain ⟨v1, v2⟩ := H.2.2.1.1 a.1.2.2.1 x w.2.1.1 hv
  refine rstM_3 N.1 (by rw [N.kind (by omega), hk]; rfl) (c_newV H (by omega) (fun m1 f1 g1 e84 e86 r1 => ?_))
  refine c_154 (v := a.1.2.2.1) N.1 ⟨w.2.1.1, v1⟩ (by omega) (by rw [f1 _ _ (by omega) (by decide) (by omega)]; exact A) (fun m2 f2 g2 => ?_)
  have e629 : m1 629 = m 629 := funext (fun i => f1 _ _ (by omega) (by decide) (by omega))
  rw [e629] at g2
  exact hO.ok (pre := []) H Fvm.refl rfl (fun c i q1 q2 q3 => by rw [f2 c i (fun z => q2 z.1)]; exact f1 c i q1 q2 q3) (fun q q0 q1 => by rw [f2 _ _ (by omega)]; exact g1 q q1) (by rw [f2 _ _ (by omega)]; exact e84) (by rw [f2 _ _ (by omega)]; exact e86) (VM_of v2 g2) (by omega)
theorem stM_nth : ∀ {pre suf : List VV}, stM m (pre ++ V :: suf) → VM (m 635) (882 * (suf.length : Int)) V := by
  intro pre
  induction pre with
  | nil => intro suf h; exact h.2
  | cons v pre ih => intro suf h; exact ih h.1
theorem simR_4 {i : Int} (hk : a.1.1 = 4) (hx : rgS E.1 a.1 a.2 = some x) (hv : E.1.1 a.1.2.2.2 = some (i, x)) : SimR F n S ms E h a s (.ok (E.2.2.2.1 i), s) := by
  refine fun _ => ⟨0, fun k Q m pb T l R H hN hS hb hO r' hr => ?_⟩
  obtain ⟨cs, N⟩ := H.node hS
  have b1 := hb.1
  have hc := H.2.2.2.2.1
  have A := (N.2.2.2.1.ring hx).2.2.1 hk
  have Ai := A.2 i x hv
  have Ar := A.1
  refine rstM_4 N.1 (by rw [N.kind (by omega), hk]; rfl) (c_newV H (by omega) (fun m1 f1 g1 e84 e86 r1 => ?_))
  have m596 : m1 596 k = m 596 k := f1 _ _ (by omega) (by decide) (by omega)
  have m597 : m1 597 k = i := by rw [f1 _ _ (by omega) (by decide) (by omega)]; exact Ai
  by_cases c : h < 0
  · have r1' : m1 596 k = 1 := by rw [m596, Ar]; unfold roM; rw [if_pos c]
    rw [r1']
    refine ⟨by decide, ?_⟩
    rw [if_neg (by decide)]
    obtain ⟨v1, v2⟩ := H.2.2.1.2 c _ i x hv
    refine c_237 (v := i) N.1 v1 (by omega) r1' m597 (fun m2 f2 g2 => ?_)
    have e630 : m1 630 = m 630 := funext (fun i => f1 _ _ (by omega) (by decide) (by omega))
    rw [e630] at g2
    exact hO.ok (pre := []) H Fvm.refl rfl (fun c i q1 q2 q3 => by rw [f2 c i (fun z => q2 z.1)]; exact f1 c i q1 q2 q3) (fun q q0 q1 => by rw [f2 _ _ (by omega)]; exact g1 q q1) (by rw [f2 _ _ (by omega)]; exact e84) (by rw [f2 _ _ (by omega)]; exact e86) (VM_of v2 g2) (by omega)
  · have r1' : m1 596 k = 0 := by rw [m596, Ar]; unfold roM; rw [if_neg c]
    rw [r1']
    refine ⟨by decide, ?_⟩
    rw [if_pos rfl]
    obtain ⟨pre, suf, e1, e2⟩ := hN (by omega) _ i x hv
    have p93 : m1 582 93 + m1 597 k = (suf.length : Int) := by
      rw [m597, f1 _ _ (by decide) (by decide) (by decide), H.2.2.2.1.2.2.2.2.2]; exact e2
    unfold P_X10_valueAt
    rw [p93]
    have st := H.st
    rw [e1] at st
    have vm := stM_nth st
    have sl : suf.length + 1 ≤ l.length := by rw [e1, List.length_append, List.length_cons]; omega
    refine c_copy (n := 882) (by omega) (by omega) (.inr (by right; omega)) (fun m2 f2 e2' g2 => c_237n N.1 (by rw [f2.1 _ _ (by decide) (by omega)]; exact r1') ?_)
    refine hO.ok (pre := []) H Fvm.refl rfl (f1.trans f2.okf) (fun q q0 q1 => by rw [f2.2 q (by omega)]; exact g1 q q1) (by rw [e2']; exact e84) (by rw [f2.1 _ _ (by decide) (by decide)]; exact e86) ?_ (by omega)
    refine VM_of (g := m1 635) (q := 882 * (suf.length : Int)) (VM_of vm (fun j j0 j1 => g1 _ (by omega))) (fun j j0 j1 => g2 j j0 j1)
end VMK
