set_option maxRecDepth 100000
/-! the component's machine: calls -/
/-- a part's code does what working it does -/
def SimP (F : Int → FnR) (n : Int) (rec : EVm → PT → ES → ER) : Prop := ∀ (E : EVm) (fl : Int) (a : PT) (s : ES) (x : R3), EvO F n E → (0 ≤ a.1.1 ∧ a.1.1 ≤ 25) → okN a.1 a.2 → wfT a.2 → rgS E.1 a.1 a.2 = some x → SimG F n E fl (cg F E.1 fl a) [] (vT a) x s (rec E a s)
section CALLS
variable {Q : Int → MM → Prop} {m m' : MM} {F : Int → FnR} {n : Int} {fr : List Fr} {E : EVm} {fl : Int} {l args : List SV} {p : Int} {s : ES} {f : Int} {R : Option R3} {x' z' : R3} {need : Nat} {rec : EVm → PT → ES → ER} {a : PT} {x : R3} {g : Nat → VV}
theorem FmC.tail {y : Fr} (h : FmC n (y :: fr) m m') : FmC n fr m m' := ⟨fun x hx => h.1 x (List.mem_cons_of_mem _ hx), h.2⟩
theorem FcO.fm2 {k : Int} (h : FcO n k m m') (k0 : 0 ≤ k) : (∀ c i, c = 374 ∨ c = 375 ∨ c = 379 ∨ c = 381 ∨ (c = 376 ∧ i ≠ 6) ∨ c = 378 → m' c i = m c i) ∧ ∀ b i, isTx b → m' b i = m b i := by
  refine ⟨fun c i hc => h c i (by omega) (by omega) (by omega) (by omega) (by omega) (fun w => ?_), fun b i tb => ?_⟩
  · obtain ⟨b', tx', w1, w2⟩ := w
    have := tx_b2 tx'
    omega
  · have tb2 := tx_b2 tb
    refine h b i (by omega) (by omega) (by omega) (by omega) (by omega) (fun w => ?_)
    obtain ⟨b', tx', w1, w2⟩ := w
    unfold isTx at tx' tb
    omega
theorem cgR_lb (hJ : JEok (JEf F f R)) (hF : FOK F n) (hn : n ≤ 20) (hf : 0 ≤ f ∧ f < n) (hs : szT (rootF (F f)).2 ≤ 150) (hx : rgS (JEf F f R) (rootF (F f)).1 (rootF (F f)).2 = some x') : (cg F (JEf F f R) 2 (rootF (F f)) p).length ≤ 603 := by
  have rt := (hF.2 f hf.1 hf.2).1
  have q := cgC_lb (fl := 2) (n' := f + 1) hJ ⟨by omega, rfl, fun k k0 k1 => (hF.1 k k0 (by omega)).1⟩ (nd (rootF (F f)).1 (rootF (F f)).2 lf) ⟨rt.2.1, rt.2.2, trivial⟩ 0 (Nat.succ_pos _) rt.1 (by show rgS (JEf F f R) (rootF (F f)).1 (rootF (F f)).2 ≠ none; rw [hx]; intro q; cases q) p
  have e : cgC F (JEf F f R) 2 (nd (rootF (F f)).1 (rootF (F f)).2 lf) 0 p = cg F (JEf F f R) 2 (rootF (F f)) p := rfl
  rw [e] at q
  have q : (cg F (JEf F f R) 2 (rootF (F f)) p).length + 1 ≤ 4 * (szT (rootF (F f)).2 + 1) := q
  omega
theorem nrmR_none {R : Option R3} : nrmR R = none ↔ R = none := by
  cases R with
  | none => exact ⟨fun _ => rfl, fun _ => rfl⟩
  | some r =>
    refine ⟨fun h => ?_, fun h => by cases h⟩
    exfalso
    unfold nrmR at h
    simp only at h
    split at h <;> cases h
/-- own number and R of a call -/
theorem c_callO (hf : 0 ≤ f ∧ f < 21) (hfr : 0 ≤ m 376 13 ∧ m 376 13 ≤ 20) (hF : okF (F f)) (hT : TXh m (8 + 17 * f) (F f)) (h0 : (R = none → (F f).2.2.1 = 0) ∧ (R ≠ none → (F f).2.2.1 ≠ 0)) (hR : ∀ r, R = some r → ok3 r ∧ r.1 ≠ -2) (h107 : P_X6_call_107 Q f (8 + 17 * f) (ownM (m 378 1) R) (encO (nrmR R)) m) : P_X6_call f (encO R) m Q := by
  have ru := hF.2.1
  unfold P_X6_call
  refine ⟨hf, by constructor <;> omega, ?_⟩
  rw [if_pos (by omega), hT.2.2.1]
  refine ⟨isTx_k hf, by constructor <;> omega, ?_⟩
  cases R with
  | none =>
    rw [if_pos (by have := h0.1 rfl; omega)]
    exact h107
  | some r =>
    obtain ⟨ro, rb⟩ := hR r rfl
    have r0 := h0.2 (fun z => by cases z)
    rw [if_neg (by omega)]
    have RGr := encC_RG ro rb
    have ob : okb r.1 := by
      rcases ro with w | w
      · exact absurd w.1 rb
      · exact w.1
    have ds := ok3_ds ro
    show P_X11_base (encC r) m _
    refine c_base RGr ?_
    refine ⟨by constructor <;> omega, by constructor <;> omega, ?_⟩
    have eO : (if r.1 < 20000 then r.1 else m 378 1) = ownM (m 378 1) (some r) := by
      unfold ownM
      simp only
      by_cases c : r.1 < 20000
      · rw [if_pos c, if_neg (by omega)]
      · rw [if_neg c, if_pos (by omega)]
    rw [eO]
    by_cases c1 : r.1 ≤ 1
    · rw [if_pos c1]
      have e : nrmR (some r) = some r := by unfold nrmR; simp only; rw [if_neg (by omega)]
      rw [e] at h107
      exact h107
    rw [if_neg c1]
    by_cases c2 : 20000 ≤ r.1
    · rw [if_pos c2]
      have e : nrmR (some r) = some r := by unfold nrmR; simp only; rw [if_neg (by omega)]
      rw [e] at h107
      exact h107
    rw [if_neg c2]
    refine c_isPrimeC (.inl ob) ?_
    have key : ∀ b' : Int, (b' = 20000 ∨ b' = 20001) → nrmR (some r) = some (b', r.2.1, r.2.2) → P_X11_withBase (encC r) b' m (fun r3 m3 => P_X6_call_107 Q f (8 + 17 * f) (ownM (m 378 1) (some r)) r3 m3) := by
      intro b' hb' e
      unfold P_X11_withBase
      rw [withB (by omega)]
      rw [e] at h107
      have e2 : encO (some ((b', r.2.1, r.2.2) : R3)) = 16 * b' + encC r % 16 := by
        show encC (b', r.2.1, r.2.2) = _
        unfold encC
        rw [if_neg rb]
        show (if b' = -2 then -2 else 16 * b' + 4 * r.2.1 + r.2.2) = _
        rw [if_neg (by omega)]
        omega
      rw [e2] at h107
      exact h107
    by_cases cp : isPb r.1
    · rw [pbN_1 cp]
      refine ⟨by decide, ?_⟩
      rw [if_neg (by decide)]
      refine key 20000 (.inl rfl) ?_
      unfold nrmR
      simp only
      rw [if_pos (by omega), if_pos cp]
    · rw [pbN_0 cp]
      refine ⟨by decide, ?_⟩
      rw [if_pos rfl]
      refine key 20001 (.inr rfl) ?_
      unfold nrmR
      simp only
      rw [if_pos (by omega), if_neg cp]
/-- a call begins -/
theorem c_callB (hE : FOK F n) (hf : 0 ≤ f ∧ f < n) (h0 : (R = none → (F f).2.2.1 = 0) ∧ (R ≠ none → (F f).2.2.1 ≠ 0)) (hR : ∀ r, R = some r → ok3 r ∧ r.1 ≠ -2) (hi : ∀ k, 0 ≤ k → k ≤ (F f).2.1 → instS (F f) k R ≠ none) (S1 : MS m F n E fl fr (args ++ l) p s) (la : (args.length : Int) = (F f).2.1) (c20 : E.2.2.1 ≠ 20) (q1 : rgS (JEf F f (nrmR R)) (rootF (F f)).1 (rootF (F f)).2 = some x') (q2 : instS (F f) 0 (nrmR R) = some z') (z3 : ok3 z') (hJ : JEok (JEf F f (nrmR R))) (kq : ∀ m' k, (0 ≤ k ∧ k < 48) → MsI m' F n ((k, p, (l.length : Int), ownM E.2.1 R) :: fr) → CoA m' (389 + 4 * k) 0 (cgW F (JEf F f (nrmR R)) 2 (rootF (F f)) z') → FmC n fr m m' → (∀ i, m' 379 i = m 379 i ∧ m' 381 i = m 381 i) → m' 376 8 = m 376 8 → m' 376 14 = 0 → m' 376 15 = s.1 → m' 376 16 = max s.2 (E.2.2.1 + 1) → m' 378 1 = ownM E.2.1 R → m' 378 2 = 0 → Q 0 m') : P_X6_call f (encO R) m Q := by
  obtain ⟨I1, ⟨d1, d2, d3, d4, d5, d6, d7⟩, V1, L1, L2, L3, L4⟩ := S1
  have B1 := I1.2.2.2.2.2.1
  have f13 := I1.1
  have Ff := hE.1 f hf.1 hf.2
  have TX := (B1.2.1.2 f hf.1 hf.2).2
  have hn20 := B1.1.2
  have tb : isTx (8 + 17 * f) := isTx_k (by omega)
  have hR' : ∀ r, nrmR R = some r → ok3 r ∧ r.1 ≠ -2 := by
    intro r' hr'
    cases R with
    | none => cases hr'
    | some r =>
      have q := hR r rfl
      obtain ⟨r'', a1, a2, a3, a4, -⟩ := nrm_cs (R := some r) rfl q.1 q.2
      rw [a1] at hr'
      injection hr' with hr'
      subst hr'
      exact ⟨a3, a4⟩
  have hn' : nrmR R = none → (F f).2.2.1 = 0 := fun z => h0.1 (nrmR_none.1 z)
  have hi' : ∀ k, 0 ≤ k → k ≤ (F f).2.1 → instS (F f) k (nrmR R) ≠ none := by
    intro k k0 k1 z
    cases hk : instS (F f) k R with
    | none => exact hi k k0 k1 hk
    | some y =>
      obtain ⟨y', b1, -⟩ := inst_nrm (mo := 0) hR (Ff.2 k k0 k1) hk
      rw [b1] at z; cases z
  refine c_callO (by omega) (by rw [f13.1]; omega) Ff.1 TX h0 hR ?_
  unfold P_X6_call_107
  rw [d7]
  refine c_ringC tb Ff.1 TX ⟨Int.le_refl _, by have := Ff.1.1; omega⟩ hR' hn' ?_
  rw [q2]
  show P_X6_codeOf f (encO (nrmR R)) (8 + 17 * f) (encC z') m _
  refine c_codeF hE I1 hf hR' hn' hi' hJ q1 q2 z3 (fun k m2 k0 I2 fm2 fo C2 => ⟨tb, ?_⟩)
  have e2 : (∀ c i, c = 374 ∨ c = 375 ∨ c = 379 ∨ c = 381 ∨ (c = 376 ∧ i ≠ 6) ∨ c = 378 → m2 c i = m c i) ∧ ∀ b i, isTx b → m2 b i = m b i := by
    rcases fo with rfl | fo
    · exact ⟨fun _ _ _ => rfl, fun _ _ _ => rfl⟩
    · exact fo.fm2 k0.1
  have eb : m2 376 8 - m2 (8 + 17 * f) 5 = (l.length : Int) := by
    rw [e2.1 376 8 (by omega), e2.2 _ _ tb, d3, TX.2.1, ← la, List.length_append]; omega
  rw [eb]
  refine c_enter I2 k0 (by omega) (fun m3 I3 f3 p3 o3 => ?_)
  have e14 : m2 376 14 = p := by rw [e2.1 376 14 (by omega)]; exact d4
  rw [e14] at I3
  have e16 : m3 376 16 = s.2 := by rw [f3 _ _ (by decide) (by decide) (by decide) (by omega), e2.1 _ _ (by omega)]; exact d6
  have e13 : m3 376 13 - 1 = E.2.2.1 + 1 := by
    have := I3.1.1
    rw [this, List.length_cons]; omega
  rw [e16, e13]
  refine c_max (by constructor <;> omega) (by constructor <;> omega) (fun m5 e5 => ?_)
  have f5 : ∀ c i, ¬ (c = 376 ∧ i = 16) → m5 c i = m3 c i := fun c i q => by rw [e5, up_ne q]
  have f35 : ∀ c i, c = 374 ∨ c = 375 ∨ c = 379 ∨ c = 381 ∨ (c = 376 ∧ (i = 8 ∨ i = 15)) ∨ (c = 378 ∧ i = 2) → m5 c i = m c i := fun c i q => by
    rw [f5 c i (by omega), f3 c i (by omega) (by omega) (by omega) (by omega)]
    exact e2.1 c i (by omega)
  have fmE : FmC n fr m2 m5 := by
    refine ⟨fun y hy c i a1 a2 => ?_, fun c i a1 a2 a3 a4 => ?_⟩
    · have := frG.in I2.2.1 y hy
      rw [f5 c i (by omega)]
      exact f3 c i (by omega) (by omega) (by omega) (by omega)
    · rw [f5 c i (by omega)]
      exact f3 c i (by omega) (by omega) (by omega) (by omega)
  refine kq m5 k k0 (I3.eq (fun c i q => f5 c i (by omega)) (by rw [f5 _ _ (by decide), f5 _ _ (by decide)]; exact I3.2.2.2.2.2.2.2)) (C2.fr (fun c i q _ _ => ?_)) (fm2.trans fmE) (fun i => ⟨f35 _ _ (by omega), f35 _ _ (by omega)⟩) (f35 _ _ (by omega)) (by rw [f5 _ _ (by decide)]; exact p3) (by rw [f35 _ _ (by omega)]; exact d5) (by rw [e5, up_at]) (by rw [f5 _ _ (by decide)]; exact o3) (by rw [f35 _ _ (by omega)]; exact d1)
  rw [f5 c i (by omega)]
  exact f3 c i (by omega) (by omega) (by omega) (by omega)
theorem stkZ_nth {z : Nat → R3} {g : Nat → VV} : ∀ (k i : Nat), i < k → ∃ pre, stkZ z g k = pre ++ ((z i).2.1, (z i).2.2, g i) :: stkZ z g i := by
  intro k
  induction k with
  | zero => intro i h; omega
  | succ k ih =>
    intro i h
    by_cases c : i = k
    · subst c; exact ⟨[], rfl⟩
    · obtain ⟨pre, e⟩ := ih i (by omega)
      exact ⟨((z k).2.1, (z k).2.2, g k) :: pre, by show _ :: stkZ z g k = _; rw [e]; rfl⟩
theorem sim_call (hE : EvO F n E) (K : Kcall F n E a x f R) (hrec : SimP F n rec) (hV : VrO F n rec) (hg : ∀ i, i < lenT a.2 → ∀ y, instS (F f) ((i : Int) + 1) R = some y → VR E.2.1 y (g i)) (hnd : lenT a.2 ≤ need) : SimG F n E fl (fun _ => [(8, f, encO R)]) (stkZ (fun i => (instS (F f) ((i : Int) + 1) R).getD (0, 0, 0)) g (lenT a.2)) need x s (if E.2.2.1 = 20 then (.error 7, s) else andE (rec (JEf F f (nrmR R), ownM E.2.1 R, E.2.2.1 + 1, (fun i => g i.toNat), E.2.2.2.2) (rootF (F f)) (s.1, max s.2 (E.2.2.1 + 1))) (fun V s2 => (.ok (conv (ownM E.2.1 R) (rgN (JEf F f (nrmR R)) (rootF (F f))) ((instS (F f) 0 (nrmR R)).getD (0, 0, 0)) V), s2))) := by
  obtain ⟨-, k2, k3, k4, k5, k6, k7, k8, k9⟩ := K
  obtain ⟨hE', x', z', q1, q2, q3, q4, q5, q6, q7, q8⟩ := k9 g (E.2.2.1 + 1) hg
  have rt := (hE.1.2 f k2.1 k2.2).1
  have Ff := hE.1.1 f k2.1 k2.2
  intro ne
  by_cases c20 : E.2.2.1 = 20
  · rw [if_pos c20]
    refine ⟨1, fun Q x2 m fr l p R' hS hN hC hp hb hO => ?_⟩
    rw [List.length_singleton] at hp hO
    refine run1 hS hC (by omega) (fun m1 S1 f1 r' hr => ?_)
    obtain ⟨I1, ⟨d1, d2, d3, d4, d5, d6, d7⟩, V1, L1, L2, L3⟩ := S1
    have f13 := I1.1
    unfold P_X6_perform
    simp only [Int.reduceEq, reduceIte]
    refine ⟨by decide, ?_⟩
    unfold P_X6_call
    have hn20 := I1.2.2.2.2.2.1.1
    refine ⟨by omega, by rw [f13.1]; constructor <;> omega, ?_⟩
    rw [if_neg (by rw [f13.1]; omega)]
    intro m4 e4
    have f4 : ∀ c i, ¬ (c = 378 ∧ i = 2) → m4 c i = m1 c i := fun c i q => by rw [e4, up_ne q]
    have hO : ∀ m' fr', MsI m' F n fr' → m' 378 2 = 7 → m' 376 15 = s.1 → m' 376 16 = s.2 → FmC n [] m m' → Go Q x2 R' m' := hO
    exact hO m4 fr (I1.eq (fun c i q => f4 c i (by omega)) (by rw [f4 _ _ (by decide), f4 _ _ (by decide)]; exact I1.2.2.2.2.2.2.2)) (by rw [e4, up_at]) (by rw [f4 _ _ (by decide)]; exact d5) (by rw [f4 _ _ (by decide)]; exact d6) (f1.nil.trans ⟨fun x hx => (by cases hx), fun c i a1 a2 _ _ => f4 c i (by omega)⟩) r' hr
  rw [if_neg c20] at ne ⊢
  rw [q2, q8, Option.getD_some] at ne ⊢
  have sb := SimG.bind (pre := []) (code2 := fun _ => cgTn x' z') (need := vT (rootF (F f))) (z := z') (k := fun V s2 => (.ok (conv (ownM E.2.1 R) x' z' V), s2)) (hrec (JEf F f (nrmR R), ownM E.2.1 R, E.2.2.1 + 1, (fun i => g i.toNat), E.2.2.2.2) 2 (rootF (F f)) (s.1, max s.2 (E.2.2.1 + 1)) x' hE' rt.1 rt.2.1 rt.2.2 q1) (fun V s1 h1 => sim_conv q4 q5 q6 q3 (hV _ _ _ V s1 x' hE' rt.1 rt.2.1 rt.2.2 q1 h1)) (by rw [List.length_nil]; omega)
  obtain ⟨N, H⟩ := sb ne
  refine ⟨1 + N + 1, fun Q x2 m fr l p R' hS hN hC hp hb hO => ?_⟩
  rw [List.length_singleton] at hp hO
  rw [← Nat.add_assoc, ← Nat.add_assoc]
  refine run1 hS hC (by omega) (fun m1 S1 f1 r' hr => ?_)
  have bd := hS.bd hb
  have lz : (stkZ (fun i => (instS (F f) ((i : Int) + 1) R).getD (0, 0, 0)) g (lenT a.2)).length = lenT a.2 := stkZ_len _
  have S10 := S1
  obtain ⟨I1, ⟨d1, d2, d3, d4, d5, d6, d7⟩, V1, L1, L2, L3, L4⟩ := S1
  have B1 := I1.2.2.2.2.2.1
  have b3 := B1.2.2 f k2.1 k2.2
  have f13 := I1.1
  unfold P_X6_perform
  simp only [Int.reduceEq, reduceIte]
  refine ⟨by decide, ?_⟩
  refine c_callB hE.1 k2 k5 k6 k7 S10 (by rw [lz, k3]) c20 q1 q2 q5 hE'.jok (fun m2 k k0 I2 C2 fm2 n2 t2 p2 s2 o2 w2 r2 => ?_)
  have hC2 := CoA.app.1 C2
  have hC3 := CoA.app.1 hC2.2
  rw [q8] at hC3
  have lb := cgR_lb (p := 0) hE'.jok hE.1 B1.1.2 k2 b3.2.2.1 q1
  have lb2 : (cgTn x' z').length ≤ 1 := by
    unfold cgTn
    split
    · exact Nat.zero_le _
    · exact Nat.le_refl _
  have cc : CoA m2 (389 + 4 * k) 0 (cg F (JEf F f (nrmR R)) 2 (rootF (F f)) 0 ++ cgTn x' z') := CoA.app.2 ⟨hC2.1, hC3.1⟩
  have St2 : MS m2 F n (JEf F f (nrmR R), ownM E.2.1 R, E.2.2.1 + 1, (fun i => g i.toNat), E.2.2.2.2) 2 ((k, p + 1, (l.length : Int), ownM E.2.1 R) :: fr) (stkZ (fun i => (instS (F f) ((i : Int) + 1) R).getD (0, 0, 0)) g (lenT a.2) ++ l) 0 (s.1, max s.2 (E.2.2.1 + 1)) := by
    refine ⟨I2, ⟨r2, d2.eq (fun i => n2 i), by rw [t2]; exact d3, p2, s2, o2, w2⟩, ⟨fun v y _ h => ?_, fun q => absurd rfl q⟩, ?_, ?_, L3, ?_⟩
    · have h : (none : Option R3) = some y := h
      cases h
    · show ((fr.length + 1 : Nat) : Int) = E.2.2.1 + 1 + 1
      omega
    · show 0 ≤ E.2.2.1 + 1; omega
    · show 0 ≤ max s.2 (E.2.2.1 + 1) ∧ max s.2 (E.2.2.1 + 1) ≤ 20
      omega
  refine H Q x2 m2 ((k, p + 1, (l.length : Int), ownM E.2.1 R) :: fr) (stkZ (fun i => (instS (F f) ((i : Int) + 1) R).getD (0, 0, 0)) g (lenT a.2) ++ l) 0 (R' + 1) St2 ⟨rfl, fun _ w i y hy => ?_⟩ cc ?_ ?_ ?_ r' (by omega)
  · obtain ⟨j, j1, j2, j3⟩ := jf_nm hy
    have jn : (F f).2.1.toNat = lenT a.2 := by rw [k3]; omega
    rw [jn] at j1
    obtain ⟨i', ei⟩ : ∃ i' : Nat, (i' : Int) = j - 1 := ⟨(j - 1).toNat, by omega⟩
    have hi' : i' < lenT a.2 := by omega
    obtain ⟨y0, u1, u2, u3, u4⟩ := k8 i' hi'
    have ej : (i' : Int) + 1 = j := by omega
    obtain ⟨y', v1, v2, -⟩ := inst_nrm (mo := E.2.1) k6 (Ff.2 ((i' : Int) + 1) (by omega) (by omega)) u1
    rw [ej] at v1
    have ey : y' = y := Option.some.inj (v1.symm.trans j2)
    subst ey
    obtain ⟨pre, e⟩ := stkZ_nth (z := fun i => (instS (F f) ((i : Int) + 1) R).getD (0, 0, 0)) (g := g) (lenT a.2) i' hi'
    refine ⟨pre, stkZ (fun i => (instS (F f) ((i : Int) + 1) R).getD (0, 0, 0)) g i' ++ l, ?_, ?_⟩
    · rw [e, List.append_assoc, List.cons_append]
      have e1 : (instS (F f) ((i' : Int) + 1) R).getD (0, 0, 0) = y0 := by rw [u1]; rfl
      have e2 : (fun i : Int => g i.toNat) i = g i' := by
        show g i.toNat = g i'
        rw [j3, ← ei]; rfl
      show pre ++ (((instS (F f) ((i' : Int) + 1) R).getD (0, 0, 0)).2.1, ((instS (F f) ((i' : Int) + 1) R).getD (0, 0, 0)).2.2, g i') :: _ = pre ++ (y'.2.1, y'.2.2, (fun i : Int => g i.toNat) i) :: _
      rw [e1, e2, v2]
    · show (l.length : Int) + i = ((stkZ _ g i' ++ l).length : Int)
      rw [List.length_append, stkZ_len, j3]; omega
  · show (0 : Int) ≤ 0 ∧ 0 + ((cg F (JEf F f (nrmR R)) 2 (rootF (F f)) 0 ++ cgTn x' z').length : Int) ≤ 1199
    rw [List.length_append]; omega
  · have v59 := b3.2.2.2
    rw [List.length_append, lz]
    show ((lenT a.2 + l.length : Nat) : Int) + (vT (rootF (F f)) : Int) + 59 * (20 - (E.2.2.1 + 1)) ≤ 1280
    omega
  · have hne := hS.ne
    generalize hres : andE (rec (JEf F f (nrmR R), ownM E.2.1 R, E.2.2.1 + 1, (fun i => g i.toNat), E.2.2.2.2) (rootF (F f)) (s.1, max s.2 (E.2.2.1 + 1))) (fun V s2 => (.ok (conv (ownM E.2.1 R) x' z' V), s2)) = res at hO ⊢
    obtain ⟨o, s3⟩ := res
    cases o with
    | error e =>
      have hO : ∀ m' fr', MsI m' F n fr' → m' 378 2 = e → m' 376 15 = s3.1 → m' 376 16 = s3.2 → FmC n [] m m' → Go Q x2 R' m' := hO
      exact fun m3 fr3 a1 a2 a3 a4 f3 => (hO m3 fr3 a1 a2 a3 a4 ((f1.trans fm2).nil.trans f3)).le (by omega)
    | ok U =>
      have hO : ∀ m', MS m' F n E fl fr ((x.2.1, x.2.2, U) :: l) (p + 1) s3 → FmC n fr m m' → Go Q x2 R' m' := hO
      intro m3 S3 f3
      have S3 : MS m3 F n (JEf F f (nrmR R), ownM E.2.1 R, E.2.2.1 + 1, (fun i => g i.toNat), E.2.2.2.2) 2 ((k, p + 1, (l.length : Int), ownM E.2.1 R) :: fr) ((z'.2.1, z'.2.2, U) :: (stkZ (fun i => (instS (F f) ((i : Int) + 1) R).getD (0, 0, 0)) g (lenT a.2) ++ l)) (0 + ((cg F (JEf F f (nrmR R)) 2 (rootF (F f)) 0 ++ cgTn x' z').length : Int)) s3 := S3
      have hC9 := (hC3.2.fm (fr := (k, p + 1, (l.length : Int), ownM E.2.1 R) :: fr) f3 (by intro z; cases z))
      have e9 : (0 : Int) + ((cg F (JEf F f (nrmR R)) 2 (rootF (F f)) 0).length : Int) + ((cgTn x' z').length : Int) = 0 + ((cg F (JEf F f (nrmR R)) 2 (rootF (F f)) 0 ++ cgTn x' z').length : Int) := by rw [List.length_append]; omega
      rw [e9] at hC9
      refine run1 S3 hC9 (by rw [List.length_append]; omega) (fun m4 S4 f4 r4 hr4 => ?_)
      unfold P_X6_perform
      simp only [Int.reduceEq, reduceIte]
      refine ⟨by decide, ?_⟩
      obtain ⟨I4, ⟨c1, c2, c3, c4, c5, c6, c7⟩, V4, M1, M2, M3⟩ := S4
      refine c_ends (args := stkZ (fun i => (instS (F f) ((i : Int) + 1) R).getD (0, 0, 0)) g (lenT a.2)) (l := l) I4 (encC_RB q5) c2 (by rw [c3, List.length_cons]; omega) (by rw [List.length_append, lz]; omega) rfl (fun m5 I5 st5 tp5 pc5 f5 => ?_)
      obtain ⟨pc5a, pc5b⟩ := pc5 hne
      have fm5 : FmC n fr m4 m5 := by
        refine ⟨fun y hy c i a1 a2 => ?_, fun c i a1 a2 a3 a4 => f5 c i (by omega) (by omega) (by omega) (by omega) (by omega)⟩
        have := frG.in I5.2.1 y hy
        exact f5 c i (by omega) (by omega) (by omega) (by omega) (by omega)
      have all : FmC n fr m m5 := ((f1.trans fm2).trans (f3.tail.trans f4.tail)).trans fm5
      have ntx : ∀ c, 365 ≤ c → ¬ (∃ b, isTx b ∧ b < 8 + 17 * n ∧ b + 6 ≤ c ∧ c ≤ b + 8) := fun c hc w => by
        obtain ⟨b', tx', w1, w2⟩ := w
        have := tx_b2 tx'
        omega
      have e1 : z'.2.1 = x.2.1 := by rw [q7]
      have e2 : z'.2.2 = x.2.2 := by rw [q7]
      rw [e1, e2] at st5
      refine hO m5 ⟨I5, ⟨?_, st5, by rw [tp5, List.length_cons]; omega, pc5a, ?_, ?_, ?_⟩, hS.2.2.1.fm (fun i => ⟨all.2 374 i (by omega) (by omega) (by omega) (ntx _ (by decide)), all.2 375 i (by omega) (by omega) (by omega) (ntx _ (by decide))⟩), L1, L2, M3⟩ all r4 (by omega)
      · rw [f5 _ _ (by decide) (by decide) (by decide) (by decide) (by omega)]; exact c1
      · rw [f5 _ _ (by decide) (by decide) (by decide) (by decide) (by omega)]; exact c5
      · rw [f5 _ _ (by decide) (by decide) (by decide) (by decide) (by omega)]; exact c6
      · rw [pc5b]; exact hN.1
end CALLS
