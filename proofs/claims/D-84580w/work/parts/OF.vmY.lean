set_option maxRecDepth 100000
/-! the model's tasks: the parts of a call -/
def CurI (ms : MM) (k o c : Int) (done rest : List Int) (idx : Nat) : Prop := ITM ms (ms 591 k) (done ++ c :: rest) ∧ ITM ms o (c :: rest) ∧ done.length = idx
def SimC (F : Int → FnR) (n : Int) (S : SGm) (ms : MM) (E : EVm) (h : Int) (a : PT) (idx : Nat) (g : Nat → VV) (s : ES) (r : ER) : Prop := r.1 ≠ .error 99 → ∃ N : Nat, ∀ (k : Int) (Q : Int → MM → Prop) (m : MM) (pb : Int) (T : List Tk) (l : List VV) (R : Nat) (o c : Int) (done rest : List Int), CurI ms k o c done rest idx → VmS m F n S ms E h pb ((0, c, 0, 0, 0) :: (8, k, o, (idx : Int), 0) :: T) (stkV g idx ++ l) s → NmM E h pb l → SbM F S ms E.1 h a k → bdM E l T (wT a) (szT a.2) → OutZ F n S ms Q E h pb T l m R r → GoM Q (R + N) m
section VMY
variable {Q : Int → MM → Prop} {m m' m0 m1 ms : MM} {F : Int → FnR} {n : Int} {S : SGm} {E : EVm} {h pb : Int} {T T' : List Tk} {l l' pre : List VV} {s s' : ES} {R : Option R3} {a b : PT} {k cl lo f : Int} {rc : List R3} {x y y' z z' x' : R3} {V : VV} {Rn r' idx : Nat} {g : Nat → VV} {rec : EVm → PT → ES → ER} {rA : ER}
theorem NmM.app : ∀ {pre : List VV}, NmM E h pb l → NmM E h pb (pre ++ l) := by
  intro pre
  induction pre with
  | nil => intro hN; exact hN
  | cons v pre ih => intro hN; exact (ih hN).cons
theorem args_next {o2 j : Int} (h0 : 0 ≤ o2) (hr : RI o2) (K : P_X10_later_2 8 k o2 j 0 m (fun _ m20 => (0 ≤ o2 ∧ o2 < 12000) ∧ P_X10_later (m20 591 o2) m20 (fun _ m21 => Q 0 m21))) : P_X10_arguments k o2 j m Q := by
  unfold P_X10_arguments
  refine ⟨hr, ?_⟩
  rw [if_neg (by omega)]
  exact K
/-- a part of a call was worked -/
theorem c_arg {o c : Int} {done rest : List Int} {s0 : Int} (hE : EvO F n E) (hk : a.1.1 = 5) (hx : rgS E.1 a.1 a.2 = some x) (Kd' : Kd F E.1 a x rc) (KC : Kcall F n E a x f R) (hc : E.1.2.2.2.1 a.1.2.2.2 rc = some (f, R, x)) (hi : idx < lenT a.2) (hy : instS (F f) ((idx : Int) + 1) R = some y') (y3' : ok3 y') (ym' : okMo y'.1 E.2.1) (C : CurI ms k o c done rest idx) (hcr : (0 ≤ c ∧ c < 12000) ∧ rgM m c (some y)) (y3 : ok3 y) (ym : okMo y.1 E.2.1) (hg : gs y y') (v : VR E.2.1 y V) (H : VmS m F n S ms E h pb T (V :: (stkV g idx ++ l)) s) (hS : SbM F S ms E.1 h a k) (hl : (stkV g idx ++ l).length ≤ 1800) (K : ∀ m', VmS m' F n S ms E h pb T (stkV (fun k => if k = idx then conv E.2.1 y y' V else g k) (idx + 1) ++ l) s → Fvm E.2.2.1 S.2.2.2.1 m m' → m' 594 o = m 594 o → P_X10_arguments k (m 594 o) ((idx : Int) + 1) m' (fun _ m2 => Q 0 m2)) : P_X10_task_20 Q 8 k o (idx : Int) 0 s0 m := by
  obtain ⟨-, k2, k3, k4, k5, k6, k7, k8, -⟩ := KC
  obtain ⟨cs, N⟩ := H.node hS
  have A5 := (N.2.2.2.1.ring hx).2.2.2.1 hk rc f R x Kd'.1.2.2.1 hc
  have fs := H.1.2.2.2.2.1
  have ITo : ITM m o (c :: rest) := C.2.1.fr fs
  have bk := H.1.2.1.2 f k2.1 k2.2
  have n20 := H.1.1
  unfold P_X10_task_20
  refine ⟨by decide, ?_⟩
  rw [if_neg (by decide), if_neg (by decide), if_neg (by decide), if_neg (by decide), if_neg (by decide), if_neg (by decide), if_neg (by decide), if_neg (by decide), if_pos rfl, A5.1]
  refine ⟨N.1, ?_⟩
  refine c_instanceM (F := F f) (R := R) (by omega) bk.1 bk.2 (by omega) k6 k5.1 (fun r hr => ?_) (fun m15 _ f15 v15 => ⟨ITo.1, ?_⟩)
  · have q := A5.2
    rw [hr] at q
    exact q
  have v15 := v15 y' hy
  have fr15 : okFr m m15 := fun c i q1 _ _ => f15 c i (by omega)
  have H' : VmS m F n S ms E h pb T ([] ++ (V :: (stkV g idx ++ l))) s := H
  obtain ⟨H15, F15⟩ := H'.same (m' := m15) fr15 (fun q _ _ => f15 _ _ (by omega)) (by rw [f15 _ _ (by decide)]; exact H.er) (by rw [f15 _ _ (by decide)]; exact H.tp)
  rw [f15 591 _ (by omega), ITo.2.1, v15.1, v15.2.1, v15.2.2]
  refine c_goL H15 hl hcr.1 (fr15.rg hcr.2) y3 ym y3' ym' hg v (fun m16 H16 f16 F16 => ?_)
  rw [H16.er]
  refine ⟨by decide, ?_⟩
  rw [if_pos rfl]
  have e594 : m16 594 o = m 594 o := by rw [f16 _ _ (by omega) (by decide) (by decide)]; exact f15 _ _ (by omega)
  rw [e594]
  have es : conv E.2.1 y y' V :: (stkV g idx ++ l) = stkV (fun k => if k = idx then conv E.2.1 y y' V else g k) (idx + 1) ++ l := by
    show _ = (if idx = idx then conv E.2.1 y y' V else g idx) :: (stkV (fun k => if k = idx then conv E.2.1 y y' V else g k) idx ++ l)
    rw [if_pos rfl, stkV_eq idx (fun i hi => if_neg (by omega))]
  rw [es] at H16
  exact K m16 H16 (F15.trans F16) e594
theorem SimC.step {Kc : VV → ES → ER} (hE : EvO F n E) (hk : a.1.1 = 5) (w : okN a.1 a.2) (hx : rgS E.1 a.1 a.2 = some x) (Kd' : Kd F E.1 a x rc) (KC : Kcall F n E a x f R) (hc : E.1.2.2.2.1 a.1.2.2.2 rc = some (f, R, x)) (hi : idx < lenT a.2) (hy : instS (F f) ((idx : Int) + 1) R = some y') (y3' : ok3 y') (ym' : okMo y'.1 E.2.1) (wB : idx + wT (prT a.2 idx) ≤ wT a) (hr : rgS E.1 (prT a.2 idx).1 (prT a.2 idx).2 = some y ∧ ok3 y ∧ okMo y.1 E.2.1 ∧ gs y y') (hA : SimE F n S ms E h (prT a.2 idx) s rA) (hV : ∀ W s1, rA = (.ok W, s1) → VR E.2.1 y W) (next : ∀ W s1, rA = (.ok W, s1) → (idx + 1 = lenT a.2 ∧ SimX F n S ms E h a (fun k => if k = idx then conv E.2.1 y y' W else g k) s1 (Kc W s1)) ∨ (idx + 1 ≠ lenT a.2 ∧ SimC F n S ms E h a (idx + 1) (fun k => if k = idx then conv E.2.1 y y' W else g k) s1 (Kc W s1))) : SimC F n S ms E h a idx g s (andE rA Kc) := by
  intro ne
  obtain ⟨q1, q2, q3, q4⟩ := hr
  have go : ∀ (NA : Nat) (HA : ∀ (k : Int) (Q : Int → MM → Prop) (m : MM) (pb : Int) (T : List Tk) (l : List VV) (R : Nat), VmS m F n S ms E h pb ((0, k, 0, 0, 0) :: T) l s → NmM E h pb l → SbM F S ms E.1 h (prT a.2 idx) k → bdM E l T (wT (prT a.2 idx)) (szT (prT a.2 idx).2) → OutZ F n S ms Q E h pb T l m R rA → GoM Q (R + NA) m) (k : Int) (Q : Int → MM → Prop) (m : MM) (pb : Int) (T : List Tk) (l : List VV) (R : Nat) (o c : Int) (done rest : List Int), CurI ms k o c done rest idx → VmS m F n S ms E h pb ((0, c, 0, 0, 0) :: (8, k, o, (idx : Int), 0) :: T) (stkV g idx ++ l) s → NmM E h pb l → SbM F S ms E.1 h a k → bdM E l T (wT a) (szT a.2) → (SbM F S ms E.1 h (prT a.2 idx) c → (done ++ c :: rest).length = lenT a.2 → OutZ F n S ms Q E h pb ((8, k, o, (idx : Int), 0) :: T) (stkV g idx ++ l) m R rA) → GoM Q (R + NA) m := by
    intro NA HA k Q m pb T l R o c done rest C H hN hS hb hO
    obtain ⟨cs, N⟩ := H.node hS
    have L1 := N.2.2.1.1 (.inl hk)
    have fs := H.1.2.2.2.2.1
    have e591 : m 591 k = ms 591 k := fs _ _ (by omega)
    rw [e591] at L1
    have er := ITM_uniq C.1 L1 (fun c i q => fs c i (by omega))
    have hcs : cs[idx]? = some c := by
      rw [← er, ← C.2.2, List.getElem?_append_right (by omega), Nat.sub_self]; rfl
    have hSc := hS.part (by omega) w fs N hcs
    refine HA c Q m pb _ _ R H hN.app hSc ?_ (hO hSc (by rw [er]; exact N.2.2.2.2.1))
    have := sz_part a.2 idx hi
    have b1 := hb.1
    have b2 := hb.2
    refine ⟨?_, ?_⟩
    · rw [List.length_append, stkV_len]; omega
    · rw [List.length_cons]; omega
  obtain ⟨oo, s1⟩ := rA
  cases oo with
  | error e =>
    obtain ⟨NA, HA⟩ := hA ne
    exact ⟨NA, fun k Q m pb T l R o c done rest C H hN hS hb hO => go NA HA k Q m pb T l R o c done rest C H hN hS hb (fun _ _ => hO)⟩
  | ok W =>
    obtain ⟨NA, HA⟩ := hA (fun z => by cases z)
    have vW := hV W s1 rfl
    have ne : (Kc W s1).1 ≠ .error 99 := ne
    have key : ∀ (N2 : Nat), (idx + 1 ≠ lenT a.2 → ∀ (k : Int) (Q : Int → MM → Prop) (m : MM) (pb : Int) (T : List Tk) (l : List VV) (R : Nat) (o c : Int) (done rest : List Int), CurI ms k o c done rest (idx + 1) → VmS m F n S ms E h pb ((0, c, 0, 0, 0) :: (8, k, o, ((idx + 1 : Nat) : Int), 0) :: T) (stkV (fun k => if k = idx then conv E.2.1 y y' W else g k) (idx + 1) ++ l) s1 → NmM E h pb l → SbM F S ms E.1 h a k → bdM E l T (wT a) (szT a.2) → OutZ F n S ms Q E h pb T l m R (Kc W s1) → GoM Q (R + N2) m) → (idx + 1 = lenT a.2 → ∀ (k : Int) (Q : Int → MM → Prop) (m : MM) (pb : Int) (T : List Tk) (l : List VV) (R : Nat), VmS m F n S ms E h pb T (stkV (fun k => if k = idx then conv E.2.1 y y' W else g k) (lenT a.2) ++ l) s1 → NmM E h pb l → SbM F S ms E.1 h a k → bdM E l T (wT a) (szT a.2) → OutZ F n S ms Q E h pb T l m R (Kc W s1) → ∀ r', R + N2 ≤ r' → P_X10_arguments k (-1) (lenT a.2 : Int) m (fun _ m2 => P_X10_eval_10 Q r' m2)) → ∃ N : Nat, ∀ (k : Int) (Q : Int → MM → Prop) (m : MM) (pb : Int) (T : List Tk) (l : List VV) (R : Nat) (o c : Int) (done rest : List Int), CurI ms k o c done rest idx → VmS m F n S ms E h pb ((0, c, 0, 0, 0) :: (8, k, o, (idx : Int), 0) :: T) (stkV g idx ++ l) s → NmM E h pb l → SbM F S ms E.1 h a k → bdM E l T (wT a) (szT a.2) → OutZ F n S ms Q E h pb T l m R (Kc W s1) → GoM Q (R + N) m := by
      intro N2 H2 X2
      refine ⟨N2 + 1 + NA, fun k Q m pb T l R' o c done rest C H hN hS hb hO => ?_⟩
      rw [← Nat.add_assoc]
      refine go NA HA k Q m pb T l (R' + (N2 + 1)) o c done rest C H hN hS hb (fun hSc hlen => ?_)
      rw [← Nat.add_assoc]
      intro m3 H3 F3
      have b1 := hb.1
      have b2 := hb.2
      have hcc := H.2.2.2.2.1
      refine runT H3 (by omega) (by rw [List.length_cons, List.length_append, stkV_len]; omega) (fun m4 H4 F4 r4 hr4 => ?_)
      obtain ⟨cs', N'⟩ := H4.node hSc
      have rg := (N'.2.2.2.1.ring q1).1
      have F34 := F3.trans F4
      have fs := H4.1.2.2.2.2.1
      have ITo : ITM m4 o (c :: rest) := C.2.1.fr fs
      refine c_arg hE hk hx Kd' KC hc hi hy y3' ym' C ⟨N'.1, rg⟩ q2 q3 q4 vW H4 hS (by rw [List.length_append, stkV_len]; omega) (fun m5 H5 F5 e5 => ?_)
      rw [List.length_append, List.length_cons, C.2.2] at hlen
      cases hrest : rest with
      | nil =>
        rw [hrest] at ITo hlen
        have e1 : m4 594 o = -1 := ITo.2.2
        have el : idx + 1 = lenT a.2 := by rw [List.length_nil] at hlen; omega
        rw [e1, show ((idx : Int) + 1) = (lenT a.2 : Int) by omega]
        rw [el] at H5
        exact X2 el k Q m5 pb T l R' H5 hN hS hb (hO.fm' (F34.trans F5) hcc.1) r4 (by omega)
      | cons c2 rest2 =>
        rw [hrest] at ITo hlen
        have it2 := ITo.2.2
        rw [List.length_cons] at hlen
        have i2 := it2.1
        have C2 : CurI ms k (m4 594 o) c2 (done ++ [c]) rest2 (idx + 1) := by
          obtain ⟨c1, c2', c3⟩ := C
          rw [hrest] at c1 c2'
          have e594 : m4 594 o = ms 594 o := fs _ _ (by omega)
          refine ⟨?_, ?_, by rw [List.length_append, List.length_singleton]; omega⟩
          · rw [List.append_assoc]; exact c1
          · rw [e594]; exact c2'.2.2
        refine args_next (o2 := m4 594 o) i2.1 (by constructor <;> omega) ?_
        refine c_later (t := (8, k, m4 594 o, (idx : Int) + 1, 0)) H5 (by omega) (fun m6 H6 F6 f6 => ⟨i2, ?_⟩)
        have e591 : m6 591 (m4 594 o) = c2 := by
          rw [f6 591 _ (by omega) (by omega), H5.1.2.2.2.2.1 591 _ (by omega), ← fs 591 _ (by omega)]
          exact it2.2.1
        rw [e591]
        refine c_laterP H6 (by rw [List.length_cons]; omega) (fun m7 H7 F7 => ?_)
        have H7 : VmS m7 F n S ms E h pb ((0, c2, 0, 0, 0) :: (8, k, m4 594 o, ((idx + 1 : Nat) : Int), 0) :: T) (stkV (fun k => if k = idx then conv E.2.1 y y' W else g k) (idx + 1) ++ l) s1 := by
          rw [show ((idx + 1 : Nat) : Int) = (idx : Int) + 1 by omega]; exact H7
        exact H2 (by omega) k Q m7 pb T l R' (m4 594 o) c2 (done ++ [c]) rest2 C2 H7 hN hS hb (hO.fm' (F34.trans (F5.trans (F6.trans F7))) hcc.1) r4 (by omega)
    rcases next W s1 rfl with ⟨a1, a2⟩ | ⟨a1, a2⟩
    · obtain ⟨N2, H2⟩ := a2 ne
      exact key N2 (fun z => absurd a1 z) (fun _ => H2)
    · obtain ⟨N2, H2⟩ := a2 ne
      exact key N2 (fun _ => H2) (fun z => absurd z a1)
/-- a call -/
theorem simR_call (hRg : RgO S n) (hFs : FsM F n) (hE : EvO F n E) (hk : a.1.1 = 5) (w : okN a.1 a.2) (wc : wfT a.2) (al : allP a.2) (hx : rgS E.1 a.1 a.2 = some x) (Kd' : Kd F E.1 a x rc) (KC : Kcall F n E a x f R) (hc : E.1.2.2.2.1 a.1.2.2.2 rc = some (f, R, x)) (hrec : SimQ F n S ms rec) (hV : VrO F n rec) (wB : ∀ i, i < lenT a.2 → i + wT (prT a.2 i) ≤ wT a) : SimR F n S ms E h a s (mtE (evN (fun k => evP rec E a.2 ((instS (F f) ((k : Int) + 1) R).getD (0, 0, 0)) k) (lenT a.2) 0 (fun _ => zV) s) (fun g s1 => if E.2.2.1 = 20 then (.error 7, s1) else andE (rec (JEf F f (nrmR R), ownM E.2.1 R, E.2.2.1 + 1, (fun i => g i.toNat), E.2.2.2.2) (rootF (F f)) (s1.1, max s1.2 (E.2.2.1 + 1))) (fun V s2 => (.ok (conv (ownM E.2.1 R) (rgN (JEf F f (nrmR R)) (rootF (F f))) ((instS (F f) 0 (nrmR R)).getD (0, 0, 0)) V), s2)))) := by
  have rco : ∀ y, y ∈ rc → ok3 y := by
    obtain ⟨rc', hA, -, -, -, hrc, -⟩ := ndc hE (by omega) w wc hx
    have er : rc' = rc := Option.some.inj (hA.symm.trans Kd'.1.2.2.1)
    subst er
    exact fun y hy => (hrc y hy).1
  have rd := call_rd hE rco hc
  obtain ⟨-, k2, k3, k4, k5, k6, k7, k8, -⟩ := id KC
  have np1 : 1 ≤ lenT a.2 := by have := k4.1; omega
  have hw : lenT a.2 ≤ wT a := by
    have := wB (lenT a.2 - 1) (by omega)
    have := wT_pos (prT a.2 (lenT a.2 - 1))
    omega
  have part : ∀ (i : Nat) (s : ES), i < lenT a.2 → SimE F n S ms E h (prT a.2 i) s (rec E (prT a.2 i) s) := fun i s hi => by
    have q := prT_wf wc hi
    exact hrec E h _ s _ hE (prT_kd al hi) q.1 q.2 (Kd'.1.2.2.2 i hi).1
  have pV : ∀ {i : Nat} {s : ES} {V : VV} {s1 : ES}, i < lenT a.2 → rec E (prT a.2 i) s = (.ok V, s1) → VR E.2.1 (rgN E.1 (prT a.2 i)) V := fun {i s V s1} hi q => by
    have q' := prT_wf wc hi
    exact hV E _ s V s1 _ hE (prT_kd al hi) q'.1 q'.2 (Kd'.1.2.2.2 i hi).1 q
  have mo : ∀ i, i < lenT a.2 → okMo (rgN E.1 (prT a.2 i)).1 E.2.1 := fun i hi => by
    obtain ⟨rc', hA, -, -, -, hrc, hl⟩ := ndc hE (by omega) w wc hx
    exact (hrc _ (List.mem_of_getElem? (hl i hi).2)).2.1
  have loop : ∀ (rem idx : Nat) (g : Nat → VV) (s : ES), idx + (rem + 1) = lenT a.2 → (∀ i, i < idx → ∀ y, instS (F f) ((i : Int) + 1) R = some y → VR E.2.1 y (g i)) → SimC F n S ms E h a idx g s (mtE (evN (fun k => evP rec E a.2 ((instS (F f) ((k : Int) + 1) R).getD (0, 0, 0)) k) (rem + 1) idx g s) (fun g s1 => if E.2.2.1 = 20 then (.error 7, s1) else andE (rec (JEf F f (nrmR R), ownM E.2.1 R, E.2.2.1 + 1, (fun i => g i.toNat), E.2.2.2.2) (rootF (F f)) (s1.1, max s1.2 (E.2.2.1 + 1))) (fun V s2 => (.ok (conv (ownM E.2.1 R) (rgN (JEf F f (nrmR R)) (rootF (F f))) ((instS (F f) 0 (nrmR R)).getD (0, 0, 0)) V), s2)))) := by
    intro rem
    induction rem with
    | zero =>
      intro idx g s hi hg
      obtain ⟨y', u1, u2, u3, u4⟩ := k8 idx (by omega)
      have ey : (instS (F f) ((idx : Int) + 1) R).getD (0, 0, 0) = y' := by rw [u1]; rfl
      rw [mtE_succ]
      conv => congr; rfl; rfl; rfl; rfl; rfl; rfl; rfl; rfl; rfl; rfl; unfold evP
      rw [andE_as, ey]
      refine SimC.step hE hk w hx Kd' KC hc (by omega) u1 u2 u3 (wB idx (by omega)) ⟨(Kd'.1.2.2.2 idx (by omega)).1, (Kd'.1.2.2.2 idx (by omega)).2.1, mo idx (by omega), u4⟩ (part idx s (by omega)) (fun W s1 q => pV (by omega) q) (fun W s1 q => .inl ⟨by omega, ?_⟩)
      refine simX hRg hFs hE hk hx Kd' KC rd hc hrec hV hw (fun i hi' y hy => ?_)
      by_cases c : i = idx
      · subst c
        rw [if_pos rfl]
        rw [u1] at hy
        injection hy with hy
        subst hy
        exact conv_VR (Kd'.1.2.2.2 i (by omega)).2.1 u2 u3 u4 (pV (by omega) q)
      · rw [if_neg c]; exact hg i (by omega) y hy
    | succ rem ih =>
      intro idx g s hi hg
      obtain ⟨y', u1, u2, u3, u4⟩ := k8 idx (by omega)
      have ey : (instS (F f) ((idx : Int) + 1) R).getD (0, 0, 0) = y' := by rw [u1]; rfl
      rw [mtE_succ]
      conv => congr; rfl; rfl; rfl; rfl; rfl; rfl; rfl; rfl; rfl; rfl; unfold evP
      rw [andE_as, ey]
      refine SimC.step hE hk w hx Kd' KC hc (by omega) u1 u2 u3 (wB idx (by omega)) ⟨(Kd'.1.2.2.2 idx (by omega)).1, (Kd'.1.2.2.2 idx (by omega)).2.1, mo idx (by omega), u4⟩ (part idx s (by omega)) (fun W s1 q => pV (by omega) q) (fun W s1 q => .inr ⟨by omega, ?_⟩)
      refine ih (idx + 1) _ s1 (by omega) (fun i hi' y hy => ?_)
      by_cases c : i = idx
      · subst c
        rw [if_pos rfl]
        rw [u1] at hy
        injection hy with hy
        subst hy
        exact conv_VR (Kd'.1.2.2.2 i (by omega)).2.1 u2 u3 u4 (pV (by omega) q)
      · rw [if_neg c]; exact hg i (by omega) y hy
  obtain ⟨rem, er⟩ : ∃ rem, lenT a.2 = rem + 1 := ⟨lenT a.2 - 1, by omega⟩
  have L := loop rem 0 (fun _ => zV) s (by omega) (fun i hi => by omega)
  rw [← er] at L
  intro ne
  obtain ⟨N, H2⟩ := L ne
  refine ⟨N, fun k Q m pb T l R' H hN hS hb hO r' hr => ?_⟩
  obtain ⟨cs, Nd⟩ := H.node hS
  have b1 := hb.1
  have b2 := hb.2
  have hcc := H.2.2.2.2.1
  have fs := H.1.2.2.2.2.1
  have L1 := Nd.2.2.1.1 (.inl hk)
  refine rstM_5 Nd.1 (by rw [Nd.kind (by omega), hk]; rfl) ?_
  cases hcs : cs with
  | nil =>
    have := Nd.2.2.2.2.1
    rw [hcs, List.length_nil] at this
    omega
  | cons c rest =>
    rw [hcs] at L1
    have l1 := L1.1
    have fs' : FSt m ms := fun c i q => (fs c i q).symm
    have C : CurI ms k (m 591 k) c [] rest 0 := by
      refine ⟨?_, L1.fr fs', rfl⟩
      rw [← fs 591 k (by omega)]
      exact L1.fr fs'
    refine args_next l1.1 (by constructor <;> omega) ?_
    refine c_later (t := (8, k, m 591 k, 0, 0)) H (by omega) (fun m6 H6 F6 f6 => ⟨l1, ?_⟩)
    rw [f6 591 _ (by omega) (by omega), L1.2.1]
    refine c_laterP H6 (by rw [List.length_cons]; omega) (fun m7 H7 F7 => ?_)
    exact H2 k Q m7 pb T l R' (m 591 k) c [] rest C H7 hN hS hb (hO.fm' (F6.trans F7) hcc.1) r' hr
end VMY
