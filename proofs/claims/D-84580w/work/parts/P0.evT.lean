set_option maxRecDepth 100000
/-! working ends; what can go wrong -/
/-- steps grow; what goes wrong is told by 1 to 9, but for too little fuel -/
def GdE (q : Int) (r : ER) (s : ES) : Prop := (s.1 ≤ r.2.1 ∧ r.2.1 ≤ 20000) ∧ ∀ e, r.1 = .error e → (1 ≤ e ∧ e ≤ 9) ∨ (e = 99 ∧ s.1 < q)
section EVT
variable {q : Int} {r : ER} {s : ES} {k : VV → ES → ER} {res : EX VV} {E : EVm} {a : PT} {F : Int → FnR} {rec : EVm → PT → ES → ER}
theorem GdE.rs (hs : s.1 ≤ 20000) (h : ∀ e, res = .error e → 1 ≤ e ∧ e ≤ 9) : GdE q (res, s) s := ⟨⟨Int.le_refl _, hs⟩, fun e he => .inl (h e he)⟩
theorem GdE.ok {V : VV} (hs : s.1 ≤ 20000) : GdE q (.ok V, s) s := GdE.rs hs (fun e he => by cases he)
theorem GdE.and (h1 : GdE q r s) (h2 : ∀ V s1, r = (.ok V, s1) → s1.1 ≤ 20000 → GdE q (k V s1) s1) : GdE q (andE r k) s := by
  obtain ⟨o, s1⟩ := r
  cases o with
  | error e => exact h1
  | ok V =>
    have h3 := h2 V s1 rfl h1.1.2
    have b := h1.1.1
    have b : s.1 ≤ s1.1 := b
    refine ⟨⟨by have := h3.1.1; show s.1 ≤ (k V s1).2.1; omega, h3.1.2⟩, fun e he => ?_⟩
    rcases h3.2 e he with q1 | q1
    · exact .inl q1
    · exact .inr ⟨q1.1, by omega⟩
theorem GdE.many {ev1 : Nat → ES → ER} (h1 : ∀ i s, s.1 ≤ 20000 → GdE q (ev1 i s) s) : ∀ (n i : Nat) (g : Nat → VV) (s : ES) (K : (Nat → VV) → ES → ER), s.1 ≤ 20000 → (∀ g s1, s1.1 ≤ 20000 → GdE q (K g s1) s1) → GdE q (mtE (evN ev1 n i g s) K) s := by
  intro n
  induction n with
  | zero => intro i g s K hs hK; exact hK g s hs
  | succ n ih =>
    intro i g s K hs hK
    rw [mtE_succ]
    exact GdE.and (h1 i s hs) (fun V s1 _ hs1 => ih (i + 1) _ s1 K hs1 hK)
theorem wtR_pos (x : R3) : 1 ≤ wtR x := by
  unfold wtR
  have h1 : 1 ≤ (if x.2.2 = 0 then 1 else x.2.2 * x.2.2) := by
    by_cases c : x.2.2 = 0
    · rw [if_pos c]; omega
    · rw [if_neg c]
      rcases Int.lt_or_lt_of_ne c with w | w
      · have := Int.mul_pos_of_neg_of_neg w w; omega
      · have := Int.mul_pos w w; omega
  have h2 : 1 ≤ (if x.2.1 = 0 then 1 else if x.2.1 = 1 then 7 else 49 : Int) := by
    split
    · omega
    · split <;> omega
  have := Int.mul_le_mul h1 h2 (by omega) (by omega)
  omega
theorem wtS_pos (e : JE) (a : PT) : 1 ≤ wtS e a := by
  unfold wtS
  split
  · exact wtR_pos _
  · split
    · have h1 := wtR_pos (rgN e a)
      have h2 : 1 ≤ max 1 a.1.2.2.1 := by omega
      have := Int.mul_le_mul h1 h2 (by omega) (by omega)
      omega
    · split
      · split
        · exact wtR_pos _
        · split
          · exact wtR_pos _
          · omega
      · omega
theorem binS_err {op mu d s' e : Int} {V W : VV} (h : binS op mu d s' V W = .error e) : 1 ≤ e ∧ e ≤ 9 := by
  unfold binS at h
  split at h
  · cases h
  split at h
  · cases h
  split at h
  · cases h
  split at h
  · cases h
  split at h
  · have := addV_err h; omega
  split at h
  · have := addV_err h; omega
  split at h
  · have := mulV_err h; omega
  split at h
  · have := divV_err h; omega
  split at h
  · have := quoZ_err h; omega
  · have := restP_err h; omega
theorem fnV_err {f mo e : Int} {x y : R3} {V W : VV} (h : fnV f mo x y V W = .error e) : 1 ≤ e ∧ e ≤ 9 := by
  unfold fnV at h
  by_cases c0 : f = 0
  · rw [if_pos c0] at h
    unfold gcdV at h
    by_cases c' : y.2.1 = 0
    · rw [if_pos c'] at h; cases h
    · rw [if_neg c'] at h
      have := gcdS_err h; omega
  rw [if_neg c0] at h
  by_cases c1 : f = 1
  · rw [if_pos c1] at h
    cases h
  rw [if_neg c1] at h
  by_cases c2 : f = 2
  · rw [if_pos c2] at h
    cases h
  rw [if_neg c2] at h
  by_cases c3 : f = 3
  · rw [if_pos c3] at h
    have := atG_err _ _ h; omega
  rw [if_neg c3] at h
  by_cases c4 : f = 4
  · rw [if_pos c4] at h
    have := mapE_err h; omega
  rw [if_neg c4] at h
  by_cases c5 : f = 5
  · rw [if_pos c5] at h
    cases hz : detS (muR x.1 mo) x.2.1 x.2.2 V with
    | error z =>
      rw [hz] at h
      injection h with h
      subst h
      have := detS_err hz; omega
    | ok w => rw [hz] at h; cases h
  rw [if_neg c5] at h
  by_cases c6 : f = 6
  · rw [if_pos c6] at h
    cases hz : trS (muR x.1 mo) x.2.1 x.2.2 V with
    | error z =>
      rw [hz] at h
      injection h with h
      subst h
      have := trG_err _ _ _ hz; omega
    | ok w => rw [hz] at h; cases h
  rw [if_neg c6] at h
  by_cases c7 : f = 7
  · rw [if_pos c7] at h
    cases h
  rw [if_neg c7] at h
  by_cases c8 : f = 8
  · rw [if_pos c8] at h
    have := adjS_err h; omega
  rw [if_neg c8] at h
  by_cases c9 : f = 9
  · rw [if_pos c9] at h
    have := invV_err h; omega
  rw [if_neg c9] at h
  by_cases c10 : f = 10
  · rw [if_pos c10] at h
    have := charS_err h; omega
  rw [if_neg c10] at h
  by_cases c11 : f = 11
  · rw [if_pos c11] at h
    cases h
  rw [if_neg c11] at h
  cases h
theorem backS_er {ch mu e' s' t x : Int} {V : VV} (h : backS ch mu e' s' t V = .error x) : x = 3 := by
  by_cases c : okB ch mu e' s' t V
  · rw [backS_ok c] at h; cases h
  · rw [backS_no c] at h; injection h with h; exact h.symm
theorem evP_gd (hr : ∀ E a s, s.1 ≤ 20000 → GdE q (rec E a s) s) {c : TT} {z : R3} {i : Nat} (hs : s.1 ≤ 20000) : GdE q (evP rec E c z i s) s := GdE.and (hr _ _ _ hs) (fun V s1 _ h1 => GdE.ok h1)
theorem evK_gd (hr : ∀ E a s, s.1 ≤ 20000 → GdE q (rec E a s) s) (hs : s.1 ≤ 20000) : GdE q (evK F rec E a s) s := by
  unfold evK
  by_cases k0 : a.1.1 = 0
  · rw [if_pos k0]
    exact GdE.ok hs
  rw [if_neg k0]
  by_cases k1 : a.1.1 = 1
  · rw [if_pos k1]
    exact GdE.ok hs
  rw [if_neg k1]
  by_cases k2 : a.1.1 = 2
  · rw [if_pos k2]
    exact GdE.ok hs
  rw [if_neg k2]
  by_cases k3 : a.1.1 = 3
  · rw [if_pos k3]
    exact GdE.ok hs
  rw [if_neg k3]
  by_cases k4 : a.1.1 = 4
  · rw [if_pos k4]
    exact GdE.ok hs
  rw [if_neg k4]
  by_cases k5 : a.1.1 = 5
  · rw [if_pos k5]
    have e : evCall F rec E a s = mtE (evN (fun k => evP rec E a.2 ((instS (F (clS E.1 a.1.2.2.2 a.2).1) ((k : Int) + 1) (clS E.1 a.1.2.2.2 a.2).2.1).getD (0, 0, 0)) k) (F (clS E.1 a.1.2.2.2 a.2).1).2.1.toNat 0 (fun _ => zV) s) (fun g s1 => if E.2.2.1 = 20 then (.error 7, s1) else andE (rec (JEf F (clS E.1 a.1.2.2.2 a.2).1 (nrmR (clS E.1 a.1.2.2.2 a.2).2.1), ownM E.2.1 (clS E.1 a.1.2.2.2 a.2).2.1, E.2.2.1 + 1, (fun i => g i.toNat), E.2.2.2.2) (rootF (F (clS E.1 a.1.2.2.2 a.2).1)) (s1.1, max s1.2 (E.2.2.1 + 1))) (fun V s2 => (.ok (conv (ownM E.2.1 (clS E.1 a.1.2.2.2 a.2).2.1) (rgN (JEf F (clS E.1 a.1.2.2.2 a.2).1 (nrmR (clS E.1 a.1.2.2.2 a.2).2.1)) (rootF (F (clS E.1 a.1.2.2.2 a.2).1))) ((instS (F (clS E.1 a.1.2.2.2 a.2).1) 0 (nrmR (clS E.1 a.1.2.2.2 a.2).2.1)).getD (0, 0, 0)) V), s2))) := by
      unfold evCall
      generalize evN (fun k => evP rec E a.2 ((instS (F (clS E.1 a.1.2.2.2 a.2).1) ((k : Int) + 1) (clS E.1 a.1.2.2.2 a.2).2.1).getD (0, 0, 0)) k) (F (clS E.1 a.1.2.2.2 a.2).1).2.1.toNat 0 (fun _ => zV) s = rr
      rcases rr with ⟨o, s1⟩
      cases o <;> rfl
    rw [e]
    refine GdE.many (fun i s hs => evP_gd hr hs) _ _ _ _ _ hs (fun g s1 h1 => ?_)
    by_cases c : E.2.2.1 = 20
    · rw [if_pos c]
      exact GdE.rs h1 (fun e he => by injection he with he; omega)
    · rw [if_neg c]
      have := hr (JEf F (clS E.1 a.1.2.2.2 a.2).1 (nrmR (clS E.1 a.1.2.2.2 a.2).2.1), ownM E.2.1 (clS E.1 a.1.2.2.2 a.2).2.1, E.2.2.1 + 1, (fun i => g i.toNat), E.2.2.2.2) (rootF (F (clS E.1 a.1.2.2.2 a.2).1)) (s1.1, max s1.2 (E.2.2.1 + 1)) h1
      exact GdE.and (s := s1) ⟨this.1, this.2⟩ (fun V s2 _ h2 => GdE.ok h2)
  rw [if_neg k5]
  by_cases k6 : a.1.1 = 6
  · rw [if_pos k6]
    unfold evFun
    refine GdE.and (evP_gd hr hs) (fun V s1 _ h1 => ?_)
    by_cases kk : a.1.2.2.1 = 0 ∨ a.1.2.2.1 = 2 ∨ a.1.2.2.1 = 3
    · rw [if_pos kk]
      exact GdE.and (evP_gd hr h1) (fun W s2 _ h2 => GdE.rs h2 (fun e he => fnV_err he))
    · rw [if_neg kk]
      exact GdE.rs h1 (fun e he => fnV_err he)
  rw [if_neg k6]
  by_cases k7 : a.1.1 = 7
  · rw [if_pos k7]
    have e : evMat rec E a s = mtE (evN (fun k => evP rec E a.2 ((rgN E.1 a).1, (rgN E.1 a).2.1, 0) k) (lenT a.2) 0 (fun _ => zV) s) (fun g s1 => (.ok (matV (rgN E.1 a).2.2 g), s1)) := by
      unfold evMat
      generalize evN (fun k => evP rec E a.2 ((rgN E.1 a).1, (rgN E.1 a).2.1, 0) k) (lenT a.2) 0 (fun _ => zV) s = rr
      rcases rr with ⟨o, s1⟩
      cases o <;> rfl
    rw [e]
    exact GdE.many (fun i s hs => evP_gd hr hs) _ _ _ _ _ hs (fun g s1 h1 => GdE.ok h1)
  rw [if_neg k7]
  by_cases k8 : a.1.1 = 8
  · rw [if_pos k8]
    refine GdE.and (hr _ _ _ hs) (fun V s1 _ h1 => ?_)
    split
    · exact evP_gd hr h1
    · exact evP_gd hr h1
  rw [if_neg k8]
  by_cases k9 : a.1.1 = 9
  · rw [if_pos k9]
    refine GdE.and (hr _ _ _ hs) (fun V s1 _ h1 => ?_)
    split
    · exact GdE.ok h1
    · exact hr _ _ _ h1
  rw [if_neg k9]
  by_cases k10 : a.1.1 = 10
  · rw [if_pos k10]
    refine GdE.and (hr _ _ _ hs) (fun V s1 _ h1 => ?_)
    split
    · exact GdE.ok h1
    · exact hr _ _ _ h1
  rw [if_neg k10]
  by_cases k11 : a.1.1 = 11
  · rw [if_pos k11]
    exact GdE.and (hr _ _ _ hs) (fun V s1 _ h1 => GdE.ok h1)
  rw [if_neg k11]
  by_cases k22 : a.1.1 = 22
  · rw [if_pos k22]
    exact GdE.and (hr _ _ _ hs) (fun V s1 _ h1 => GdE.ok h1)
  rw [if_neg k22]
  by_cases k23 : a.1.1 = 23
  · rw [if_pos k23]
    exact GdE.and (hr _ _ _ hs) (fun V s1 _ h1 => GdE.rs h1 (fun e he => by have := pwG_err _ _ he; omega))
  rw [if_neg k23]
  by_cases k24 : a.1.1 = 24
  · rw [if_pos k24]
    exact evP_gd hr hs
  rw [if_neg k24]
  by_cases k25 : a.1.1 = 25
  · rw [if_pos k25]
    refine GdE.and (hr _ _ _ hs) (fun V s1 _ h1 => GdE.rs h1 (fun e he => ?_))
    have := backS_er he; omega
  rw [if_neg k25]
  unfold evTwo
  exact GdE.and (evP_gd hr hs) (fun V s1 _ h1 => GdE.and (evP_gd hr h1) (fun W s2 _ h2 => GdE.rs h2 (fun e he => binS_err he)))
theorem ev_gd : ∀ (m : Nat) (E : EVm) (a : PT) (s : ES), s.1 ≤ 20000 → GdE (20001 - (m : Int)) (ev F m E a s) s := by
  intro m
  induction m with
  | zero =>
    intro E a s hs
    refine ⟨⟨Int.le_refl _, hs⟩, fun e he => .inr ?_⟩
    injection he with he
    exact ⟨he.symm, by omega⟩
  | succ m ih =>
    intro E a s hs
    have wp := wtS_pos E.1 a
    unfold ev
    by_cases c : 20000 < s.1 + wtS E.1 a
    · rw [if_pos c]
      refine ⟨⟨hs, Int.le_refl _⟩, fun e he => .inl ?_⟩
      injection he with he
      omega
    · rw [if_neg c]
      have k := evK_gd (F := F) (E := E) (a := a) (s := (s.1 + wtS E.1 a, s.2)) ih (by show s.1 + wtS E.1 a ≤ 20000; omega)
      have k1 : s.1 + wtS E.1 a ≤ _ := k.1.1
      refine ⟨⟨by omega, k.1.2⟩, fun e he => ?_⟩
      rcases k.2 e he with q | q
      · exact .inl q
      · have q2 : s.1 + wtS E.1 a < 20001 - (m : Int) := q.2
        exact .inr ⟨q.1, by omega⟩
/-- so much fuel is enough -/
theorem ev_end {s : ES} (hs : 0 ≤ s.1 ∧ s.1 ≤ 20000) : (ev F 20001 E a s).1 ≠ .error 99 ∧ ∀ e, (ev F 20001 E a s).1 = .error e → 1 ≤ e ∧ e ≤ 9 := by
  have k := ev_gd (F := F) 20001 E a s hs.2
  refine ⟨fun z => ?_, fun e he => ?_⟩
  · rcases k.2 99 z with q | q
    · omega
    · omega
  · rcases k.2 e he with q | q
    · exact q
    · omega
end EVT
