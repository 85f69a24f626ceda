set_option maxRecDepth 100000
/-! the model's tasks: matrices, whole -/
section VMN
variable {Q : Int → MM → Prop} {m m' m0 m1 ms : MM} {F : Int → FnR} {n : Int} {S : SGm} {E : EVm} {h pb : Int} {T T' : List Tk} {l l' pre : List VV} {s s' : ES} {R r NB r' : Nat} {a b : PT} {k cl lo : Int} {e : JE} {x z y r0 r1 : R3} {V U W : VV} {res : EX VV} {ro : Int} {cs : List Int} {rc : List R3} {rA rB rr : ER} {sz idx : Nat} {g : Nat → VV} {rec : EVm → PT → ES → ER}
theorem task7 {s0 x3 x4 x5 : Int} (K : P_X10_evalEntry k x3 x4 x5 m (fun _ m2 => Q 0 m2)) : P_X10_task_20 Q 7 k x3 x4 x5 s0 m := by
  unfold P_X10_task_20
  refine ⟨by decide, ?_⟩
  rw [if_neg (by decide), if_neg (by decide), if_neg (by decide), if_neg (by decide), if_neg (by decide), if_neg (by decide), if_neg (by decide), if_pos rfl]
  exact K
theorem CurM.len {r' o c : Int} {done rest : List (List Int)} {rowdone rowrest : List Int} (C : CurM ms sz k r' o c done rowdone rowrest rest idx) : idx < sz * sz ∧ (idx + 1 = sz * sz ↔ (rowrest = [] ∧ rest = [])) := by
  obtain ⟨-, ⟨C2, C3⟩, -, -, C6⟩ := C
  have fl := flatZ_len C2
  rw [C3, List.flatten_append, List.flatten_cons, List.length_append, List.length_append, List.length_append, List.length_cons] at fl
  have fd := flatZ_len (rs := done) (fun q hq => C2 q (List.mem_append_left _ hq))
  have fr := flatZ_len (rs := rest) (fun q hq => C2 q (List.mem_append_right _ (List.mem_cons_of_mem _ hq)))
  refine ⟨by omega, ?_⟩
  constructor
  · intro q
    have a1 : rowrest.length = 0 := by omega
    have a2 : rest.flatten.length = 0 := by omega
    refine ⟨List.length_eq_zero_iff.1 a1, ?_⟩
    cases hr : rest with
    | nil => rfl
    | cons r rs =>
      exfalso
      rw [hr] at fr a2
      rw [List.length_cons, Nat.mul_succ] at fr
      have l0 : 1 ≤ sz := by
        rw [← C3, List.length_append, List.length_cons]; omega
      omega
  · rintro ⟨q1, q2⟩
    rw [q1, q2] at fl
    simp only [List.length_nil, List.flatten_nil] at fl
    omega
theorem SimA.step {Kc : VV → ES → ER} (hk : a.1.1 = 7) (w : okN a.1 a.2) (hz : 1 ≤ sz ∧ sz ≤ 3) (hsz : x.2.2 = (sz : Int)) (hi : idx < lenT a.2) (hx : rgS E.1 a.1 a.2 = some x) (z3 : ok3 (x.1, x.2.1, 0)) (xm : okMo x.1 E.2.1) (wB : 1 + wT (prT a.2 idx) ≤ wT a) (hr : rgS E.1 (prT a.2 idx).1 (prT a.2 idx).2 = some y ∧ ok3 y ∧ okMo y.1 E.2.1 ∧ gs y (x.1, x.2.1, 0)) (hA : SimE F n S ms E h (prT a.2 idx) s rA) (hV : ∀ W s1, rA = (.ok W, s1) → VR E.2.1 y W) (next : ∀ W s1, rA = (.ok W, s1) → (idx + 1 = sz * sz ∧ Kc W s1 = (.ok (matV x.2.2 (fun k => if k = idx then conv E.2.1 y (x.1, x.2.1, 0) W else g k)), s1)) ∨ (idx + 1 ≠ sz * sz ∧ SimA F n S ms E h sz a (idx + 1) (fun k => if k = idx then conv E.2.1 y (x.1, x.2.1, 0) W else g k) s1 (Kc W s1))) : SimA F n S ms E h sz a idx g s (andE rA Kc) := by
  intro ne
  obtain ⟨q1, q2, q3, q4⟩ := hr
  have go : ∀ (NA : Nat) (HA : ∀ (k : Int) (Q : Int → MM → Prop) (m : MM) (pb : Int) (T : List Tk) (l : List VV) (R : Nat), VmS m F n S ms E h pb ((0, k, 0, 0, 0) :: T) l s → NmM E h pb l → SbM F S ms E.1 h (prT a.2 idx) k → bdM E l T (wT (prT a.2 idx)) (szT (prT a.2 idx).2) → OutZ F n S ms Q E h pb T l m R rA → GoM Q (R + NA) m) (k : Int) (Q : Int → MM → Prop) (m : MM) (pb : Int) (T : List Tk) (l : List VV) (R : Nat) (r' o c : Int) (done : List (List Int)) (rowdone rowrest : List Int) (rest : List (List Int)), CurM ms sz k r' o c done rowdone rowrest rest idx → VmS m F n S ms E h pb ((0, c, 0, 0, 0) :: (7, k, r', o, 3 * (done.length : Int) + (rowdone.length : Int)) :: T) (matU sz g idx :: l) s → NmM E h pb l → SbM F S ms E.1 h a k → bdM E l T (wT a) (szT a.2) → (SbM F S ms E.1 h (prT a.2 idx) c → OutZ F n S ms Q E h pb ((7, k, r', o, 3 * (done.length : Int) + (rowdone.length : Int)) :: T) (matU sz g idx :: l) m R rA) → GoM Q (R + NA) m := by
    intro NA HA k Q m pb T l R r' o c done rowdone rowrest rest C H hN hS hb hO
    obtain ⟨cs, N⟩ := H.node hS
    obtain ⟨rs, L1, L2, -⟩ := N.2.2.1.2.1 hk
    have fs := H.1.2.2.2.2.1
    have C1 := C.1
    have e591 : m 591 k = ms 591 k := fs _ _ (by omega)
    rw [e591] at L1
    have er := RWM_uniq C1 L1 (fun c i q => fs c i (by omega))
    have fd := flatZ_len (rs := done) (fun q hq => C.2.1.1 q (List.mem_append_left _ hq))
    have hc : cs[idx]? = some c := by rw [L2, ← er]; exact flat_at (by rw [fd]; exact C.2.2.2.2)
    have hSc := hS.part (by omega) w fs N hc
    exact HA c Q m pb _ _ R H hN.cons hSc (hb.part1 hi wB) (hO hSc)
  obtain ⟨o, s1⟩ := rA
  cases o with
  | error e =>
    obtain ⟨NA, HA⟩ := hA ne
    exact ⟨NA, fun k Q m pb T l R r' o c done rowdone rowrest rest C H hN hS hb hO => go NA HA k Q m pb T l R r' o c done rowdone rowrest rest C H hN hS hb (fun _ => hO)⟩
  | ok W =>
    obtain ⟨NA, HA⟩ := hA (fun z => by cases z)
    have vW := hV W s1 rfl
    have ne : (Kc W s1).1 ≠ .error 99 := ne
    have key : ∀ (N2 : Nat), (idx + 1 ≠ sz * sz → ∀ (k : Int) (Q : Int → MM → Prop) (m : MM) (pb : Int) (T : List Tk) (l : List VV) (R : Nat) (r' o c : Int) (done : List (List Int)) (rowdone rowrest : List Int) (rest : List (List Int)), CurM ms sz k r' o c done rowdone rowrest rest (idx + 1) → VmS m F n S ms E h pb ((0, c, 0, 0, 0) :: (7, k, r', o, 3 * (done.length : Int) + (rowdone.length : Int)) :: T) (matU sz (fun k => if k = idx then conv E.2.1 y (x.1, x.2.1, 0) W else g k) (idx + 1) :: l) s1 → NmM E h pb l → SbM F S ms E.1 h a k → bdM E l T (wT a) (szT a.2) → OutZ F n S ms Q E h pb T l m R (Kc W s1) → GoM Q (R + N2) m) → (idx + 1 = sz * sz → Kc W s1 = (.ok (matV x.2.2 (fun k => if k = idx then conv E.2.1 y (x.1, x.2.1, 0) W else g k)), s1)) → ∃ N : Nat, ∀ (k : Int) (Q : Int → MM → Prop) (m : MM) (pb : Int) (T : List Tk) (l : List VV) (R : Nat) (r' o c : Int) (done : List (List Int)) (rowdone rowrest : List Int) (rest : List (List Int)), CurM ms sz k r' o c done rowdone rowrest rest idx → VmS m F n S ms E h pb ((0, c, 0, 0, 0) :: (7, k, r', o, 3 * (done.length : Int) + (rowdone.length : Int)) :: T) (matU sz g idx :: l) s → NmM E h pb l → SbM F S ms E.1 h a k → bdM E l T (wT a) (szT a.2) → OutZ F n S ms Q E h pb T l m R (Kc W s1) → GoM Q (R + N) m := by
      intro N2 H2 e2
      refine ⟨N2 + 1 + NA, fun k Q m pb T l R r' o c done rowdone rowrest rest C H hN hS hb hO => ?_⟩
      rw [← Nat.add_assoc]
      refine go NA HA k Q m pb T l (R + (N2 + 1)) r' o c done rowdone rowrest rest C H hN hS hb (fun hSc => ?_)
      rw [← Nat.add_assoc]
      intro m3 H3 F3
      have b1 := hb.1
      have b2 := hb.2
      have hc := H.2.2.2.2.1
      refine runT H3 (by omega) (by rw [List.length_cons, List.length_cons]; omega) (fun m4 H4 F4 r4 hr4 => task7 ?_)
      obtain ⟨cs', N'⟩ := H4.node hSc
      have rg := (N'.2.2.2.1.ring q1).1
      have F34 := F3.trans F4
      refine c_entry hk hz hx z3 xm C ⟨N'.1, rg⟩ q2 q3 q4 vW H4 hS (by omega) (fun qe m5 H5 F5 => ?_) (fun r2 o2 c2 done2 rest2 rd2 rr2 m5 C5 H5 F5 ob oc => ?_)
      · have ei := C.len.2.2 qe
        have eK := e2 ei
        rw [eK] at hO
        have hO : ∀ m', VmS m' F n S ms E h pb T (matV x.2.2 (fun k => if k = idx then conv E.2.1 y (x.1, x.2.1, 0) W else g k) :: l) s1 → Fvm E.2.2.1 S.2.2.2.1 m m' → GoM Q R m' := hO
        rw [ei, matU_end hz, ← hsz] at H5
        exact hO m5 H5 (F34.trans F5) r4 (by omega)
      · have ni : idx + 1 ≠ sz * sz := by have := C5.len.1; omega
        refine c_later (t := (7, k, r2, o2, 3 * (done2.length : Int) + (rd2.length : Int))) H5 (by omega) (fun m6 H6 F6 f6 => ⟨ob, ?_⟩)
        rw [f6 591 o2 (by omega) (by omega), oc]
        refine c_laterP H6 (by rw [List.length_cons]; omega) (fun m7 H7 F7 => ?_)
        exact H2 ni k Q m7 pb T l R r2 o2 c2 done2 rd2 rr2 rest2 C5 H7 hN hS hb (hO.fm' (F34.trans (F5.trans (F6.trans F7))) hc.1) r4 (by omega)
    rcases next W s1 rfl with ⟨a1, a2⟩ | ⟨a1, a2⟩
    · exact key 0 (fun z => absurd a1 z) (fun _ => a2)
    · obtain ⟨N2, H2⟩ := a2 ne
      exact key N2 (fun _ => H2) (fun z => absurd z a1)
theorem mat_loop (hk : a.1.1 = 7) (w : okN a.1 a.2) (hz : 1 ≤ sz ∧ sz ≤ 3) (hsz : x.2.2 = (sz : Int)) (hlen : lenT a.2 = sz * sz) (hx : rgS E.1 a.1 a.2 = some x) (z3 : ok3 (x.1, x.2.1, 0)) (xm : okMo x.1 E.2.1) (wB : ∀ i, i < lenT a.2 → 1 + wT (prT a.2 i) ≤ wT a) (hp : ∀ i s, i < lenT a.2 → SimE F n S ms E h (prT a.2 i) s (rec E (prT a.2 i) s)) (hr : ∀ i, i < lenT a.2 → rgS E.1 (prT a.2 i).1 (prT a.2 i).2 = some (rgN E.1 (prT a.2 i)) ∧ ok3 (rgN E.1 (prT a.2 i)) ∧ okMo (rgN E.1 (prT a.2 i)).1 E.2.1 ∧ gs (rgN E.1 (prT a.2 i)) (x.1, x.2.1, 0)) (hV : ∀ i s W s1, i < lenT a.2 → rec E (prT a.2 i) s = (.ok W, s1) → VR E.2.1 (rgN E.1 (prT a.2 i)) W) : ∀ (rem idx : Nat) (g : Nat → VV) (s : ES), idx + (rem + 1) = lenT a.2 → SimA F n S ms E h sz a idx g s (mtE (evN (fun k => evP rec E a.2 (x.1, x.2.1, 0) k) (rem + 1) idx g s) (fun g' s1 => (.ok (matV x.2.2 g'), s1))) := by
  intro rem
  induction rem with
  | zero =>
    intro idx g s hi
    have e : mtE (evN (fun k => evP rec E a.2 (x.1, x.2.1, 0) k) (0 + 1) idx g s) (fun g' s1 => (.ok (matV x.2.2 g'), s1)) = andE (rec E (prT a.2 idx) s) (fun W s1 => (.ok (matV x.2.2 (fun k => if k = idx then conv E.2.1 (rgN E.1 (prT a.2 idx)) (x.1, x.2.1, 0) W else g k)), s1)) := by
      rw [mtE_succ]
      unfold evP
      rw [andE_as]
      rfl
    rw [e]
    exact SimA.step hk w hz hsz (by omega) hx z3 xm (wB idx (by omega)) (hr idx (by omega)) (hp idx s (by omega)) (fun W s1 q => hV idx s W s1 (by omega) q) (fun W s1 _ => .inl ⟨by omega, rfl⟩)
  | succ rem ih =>
    intro idx g s hi
    have e : mtE (evN (fun k => evP rec E a.2 (x.1, x.2.1, 0) k) (rem + 1 + 1) idx g s) (fun g' s1 => (.ok (matV x.2.2 g'), s1)) = andE (rec E (prT a.2 idx) s) (fun W s1 => mtE (evN (fun k => evP rec E a.2 (x.1, x.2.1, 0) k) (rem + 1) (idx + 1) (fun k => if k = idx then conv E.2.1 (rgN E.1 (prT a.2 idx)) (x.1, x.2.1, 0) W else g k) s1) (fun g' s1 => (.ok (matV x.2.2 g'), s1))) := by
      rw [mtE_succ]
      conv => lhs; unfold evP
      rw [andE_as]
      rfl
    rw [e]
    exact SimA.step hk w hz hsz (by omega) hx z3 xm (wB idx (by omega)) (hr idx (by omega)) (hp idx s (by omega)) (fun W s1 q => hV idx s W s1 (by omega) q) (fun W s1 _ => .inr ⟨by omega, ih (idx + 1) _ s1 (by omega)⟩)
/-- a matrix -/
theorem simR_mat (hk : a.1.1 = 7) (w : okN a.1 a.2) (hz : 1 ≤ a.1.2.2.1 ∧ a.1.2.2.1 ≤ 3) (hsz : x.2.2 = a.1.2.2.1) (hlen : (lenT a.2 : Int) = a.1.2.2.1 * a.1.2.2.1) (hx : rgS E.1 a.1 a.2 = some x) (z3 : ok3 (x.1, x.2.1, 0)) (xm : okMo x.1 E.2.1) (wB : ∀ i, i < lenT a.2 → 1 + wT (prT a.2 i) ≤ wT a) (hp : ∀ i s, i < lenT a.2 → SimE F n S ms E h (prT a.2 i) s (rec E (prT a.2 i) s)) (hr : ∀ i, i < lenT a.2 → rgS E.1 (prT a.2 i).1 (prT a.2 i).2 = some (rgN E.1 (prT a.2 i)) ∧ ok3 (rgN E.1 (prT a.2 i)) ∧ okMo (rgN E.1 (prT a.2 i)).1 E.2.1 ∧ gs (rgN E.1 (prT a.2 i)) (x.1, x.2.1, 0)) (hV : ∀ i s W s1, i < lenT a.2 → rec E (prT a.2 i) s = (.ok W, s1) → VR E.2.1 (rgN E.1 (prT a.2 i)) W) : SimR F n S ms E h a s (mtE (evN (fun k => evP rec E a.2 (x.1, x.2.1, 0) k) (lenT a.2) 0 (fun _ => zV) s) (fun g' s1 => (.ok (matV x.2.2 g'), s1))) := by
  obtain ⟨sz, esz⟩ : ∃ sz : Nat, (sz : Int) = a.1.2.2.1 := ⟨a.1.2.2.1.toNat, by omega⟩
  have hl : lenT a.2 = sz * sz := by rw [← esz] at hlen; exact Int.ofNat.inj hlen
  have hz' : 1 ≤ sz ∧ sz ≤ 3 := by omega
  have hp0 : 0 < sz * sz := Nat.mul_pos (by omega) (by omega)
  obtain ⟨rem, er⟩ : ∃ rem, lenT a.2 = rem + 1 := ⟨lenT a.2 - 1, by omega⟩
  have L := mat_loop (sz := sz) (rec := rec) (F := F) (n := n) (S := S) (ms := ms) (h := h) hk w hz' (by rw [hsz, esz]) hl hx z3 xm wB hp hr hV rem 0 (fun _ => zV) s (by omega)
  rw [← er] at L
  intro ne
  obtain ⟨N, H2⟩ := L ne
  refine ⟨N, fun k Q m pb T l R H hN hS hb hO r' hr' => ?_⟩
  obtain ⟨cs, Nd⟩ := H.node hS
  have b1 := hb.1
  have b2 := hb.2
  have hc := H.2.2.2.2.1
  have fs := H.1.2.2.2.2.1
  obtain ⟨rs, L1, L2, L3, L4⟩ := Nd.2.2.1.2.1 hk
  have cond : (∀ r, r ∈ rs → r.length = rs.length) ∧ rs.length ≤ 3 := by
    by_cases c : (∀ r, r ∈ rs → r.length = rs.length) ∧ rs.length ≤ 3
    · exact c
    · rw [if_neg c] at L3; omega
  rw [if_pos cond] at L3
  have rl : rs.length = sz := by omega
  cases hrs : rs with
  | nil => rw [hrs] at L4; exact absurd L4 (by decide)
  | cons row rest =>
    rw [hrs] at L1 cond rl
    have rlen := cond.1 row (by simp)
    obtain ⟨i1, i2, i3, i4⟩ := L1
    cases hrow : row with
    | nil => rw [hrow] at i3; exact absurd i3 (by decide)
    | cons c rowrest =>
      rw [hrow] at i2 rlen cond rl
      have e591 : m 591 k = ms 591 k := fs _ _ (by omega)
      have e591b : m 591 (m 591 k) = ms 591 (ms 591 k) := by rw [e591]; exact fs _ _ (by omega)
      have fs' : FSt m ms := fun c i q => (fs c i q).symm
      have C : CurM ms sz k (m 591 k) (m 591 (m 591 k)) c [] [] rowrest rest 0 := by
        have L1' : RWM m (m 591 k) ((c :: rowrest) :: rest) := ⟨i1, i2, by rw [List.length_cons]; omega, i4⟩
        refine ⟨?_, ⟨fun q hq => ?_, ?_⟩, ?_, ?_, ?_⟩
        · have := L1'.fr fs'
          rw [e591] at this
          exact this
        · have := cond.1 q hq
          rw [this]; exact rl
        · exact rl
        · exact L1'.fr fs'
        · exact i2.fr fs'
        · rw [List.length_nil, List.length_nil]; rfl
      refine rstM_7 Nd.1 (by rw [Nd.kind (by omega), hk]; rfl) (c_newV H (by omega) (fun m1 f1 g1 e84 e86 r1 => ⟨i1, ?_⟩))
      obtain ⟨H1, F1⟩ := VmS.made (pre := []) (U := zV) H f1 (fun q q0 q1 => g1 q q1) e84 e86 (VM_clear r1)
      have s591 : ∀ i, m1 591 i = m 591 i := fun i => f1 _ _ (by omega) (by decide) (by decide)
      rw [s591]
      refine c_later (t := (7, k, m 591 k, m 591 (m 591 k), 0)) H1 (by omega) (fun m2 H2' F2 f2 => ?_)
      have s591' : ∀ i, m2 591 i = m 591 i := fun i => by rw [f2 _ _ (by omega) (by omega)]; exact s591 i
      rw [s591', s591', i2.2.1]
      refine ⟨i2.1, c_laterP H2' (by rw [List.length_cons]; omega) (fun m3 H3 F3 => ?_)⟩
      rw [← matU_0 (sz := sz) (g := fun _ => zV)] at H3
      exact H2 k Q m3 pb T l R _ _ c [] [] rowrest rest C H3 hN hS hb (hO.fm' (F1.trans (F2.trans F3)) hc.1) r' hr'
end VMN
