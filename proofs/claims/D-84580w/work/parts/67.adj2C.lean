set_option maxRecDepth 100000
/-! adjugates: the component -/
section ADJD
variable {Q : Int → MM → Prop} {r b mu d s x to : Int} {V : VV}
theorem adjC_109 {K23 : Int → Int → Int → Int → Int → Int → Int → MM → Prop} {K33 : Int → Int → Int → Int → Int → Int → Int → Int → MM → Prop} {m : MM} {w : Int → PP} {i j at_ al : Int} (hR : RG r b d s) (hmu : muC m b = mu) (hM : MU mu) (he : m 378 2 = 0) (ha : Cl at_ (2 * cof d)) (rw_ : Rw (m 379) at_ w (cof d)) (nw : NR mu (cof d) w) (k : ∀ m', Fc (fun q => at_ ≤ q ∧ q < at_ + 2 * cof d) m m' → m' 378 2 = 0 → Rw (m' 379) at_ (if (i + j) % 2 = 1 then fun k => negN mu (w k) else w) (cof d) → K33 r x to s (cof d) al i (j + 1) m') : P_X8_adjugate_109 Q K23 K33 r x to s (cof d) al i j at_ m := by
  obtain ⟨-, hb, hd, hs⟩ := id hR
  have hc := cof_bd hd
  have hcN : ((cof d).toNat : Int) = cof d := by omega
  refine ⟨by rw [he]; decide, ?_⟩
  rw [if_pos he, iAnd1]
  refine ⟨by constructor <;> omega, ?_⟩
  by_cases c : (i + j) % 2 = 1
  · rw [if_pos c]
    rw [if_pos c] at k
    refine c_base hR ?_
    rw [← hcN] at rw_
    have key := c_X8_less (Q := fun _ m2 => K33 r x to s (cof d) al i (j + 1) m2) (m := m) (base := b) (at_ := at_) (n := (cof d).toNat) (u := w) (mu := mu) (by constructor <;> omega) hmu hM (by omega) rw_ (fun q _ _ => nw.1 q) (fun m' f e r' => k m' (by rw [hcN] at f; exact f) (by rw [e, he]) (by rw [hcN] at r'; exact r'))
    rw [hcN] at key
    exact key
  · rw [if_neg c]
    rw [if_neg c] at k
    exact k m (Fc.refl m) he rw_
theorem adjC_109e {K23 : Int → Int → Int → Int → Int → Int → Int → MM → Prop} {K33 : Int → Int → Int → Int → Int → Int → Int → Int → MM → Prop} {m : MM} {i j at_ al c : Int} (he : RI (m 378 2)) (h0 : m 378 2 ≠ 0) (k : K33 r x to s c al i (j + 1) m) : P_X8_adjugate_109 Q K23 K33 r x to s c al i j at_ m := by
  refine ⟨he, ?_⟩
  rw [if_neg h0]
  exact k
theorem oneV_B : oneV 0 0 0 = oneB := by
  funext c
  unfold oneV oneK oneB
  by_cases h : c = 0
  · rw [if_pos ⟨rfl, by decide, by decide, h⟩, if_pos h]
  · rw [if_neg (fun z => h z.2.2.2), if_neg h]
theorem adjC_ent {K23 : Int → Int → Int → Int → Int → Int → Int → MM → Prop} {n : Nat} {m : MM} {i j : Int} (hR : RG r b d s) (hs1 : 1 ≤ s) (hmu : muC m b = mu) (hM : MU mu) (he : m 378 2 = 0) (hi : 0 ≤ i ∧ i < s) (hj : 0 ≤ j ∧ j < s) (hx : Cl x (VS d s)) (ht : Cl to (VS d s)) (dx : Dj x (VS d s) 1157282 494) (dt : Dj to (VS d s) 1157282 494) (ex : Dj x (VS d s) to (VS d s)) (vx : VC (m 379) x d s V) (nV : NN mu d s V) (ok : ∀ w m', adjE mu d s V i j = .ok w → Fc (S2 (to + EA d s i j) d) m m' → m' 378 2 = 0 → Rw (m' 379) (to + EA d s i j) w (cof d) → P_X8_adjugate_33 Q K23 n r x to s (cof d) (iShl 1 s - 1) i (j + 1) m') (er : ∀ e m', adjE mu d s V i j = .error e → Fc (S2 (to + EA d s i j) d) m m' → m' 378 2 = e → P_X8_adjugate_33 Q K23 n r x to s (cof d) (iShl 1 s - 1) i (j + 1) m') : P_X8_adjugate_33 Q K23 (n + 1) r x to s (cof d) (iShl 1 s - 1) i j m := by
  obtain ⟨-, hb, hd, hs⟩ := id hR
  have hc := cof_bd hd
  have hr : rws s = s := by unfold rws; omega
  have bd := EA_bd (d := d) (s := s) (i := i) (j := j) hd hs (by omega) (by omega)
  refine ⟨by constructor <;> omega, by constructor <;> omega, ?_⟩
  rw [if_neg (by omega)]
  refine ⟨by rw [he]; decide, ?_⟩
  rw [if_pos he]
  have fin : ∀ (w : Int → PP) (m1 : MM), minE mu d s V i j = .ok w → Fc (S2 (to + EA d s i j) d) m m1 → m1 378 2 = 0 → Rw (m1 379) (to + EA d s i j) w (cof d) → P_X8_adjugate_109 Q K23 (fun z0 z1 z2 z3 z4 z5 z6 z7 z8 => P_X8_adjugate_33 Q K23 n z0 z1 z2 z3 z4 z5 z6 z7 z8) r x to s (cof d) (iShl 1 s - 1) i j (to + EA d s i j) m1 := by
    intro w m1 hw f1 e1 r1
    refine adjC_109 hR (by rw [f1.mu, hmu]) hM e1 (by omega) r1 (minE_NR hM hd ⟨hs1, hs.2⟩ nV hi hj hw) (fun m' f e r' => ok _ m' ?_ (f1.trans (f.mono (fun q z => Or.inr z))) e r')
    unfold adjE
    rw [hw]
  have fine : ∀ (e : Int) (m1 : MM), minE mu d s V i j = .error e → Fc (S2 (to + EA d s i j) d) m m1 → m1 378 2 = e → P_X8_adjugate_109 Q K23 (fun z0 z1 z2 z3 z4 z5 z6 z7 z8 => P_X8_adjugate_33 Q K23 n z0 z1 z2 z3 z4 z5 z6 z7 z8) r x to s (cof d) (iShl 1 s - 1) i j (to + EA d s i j) m1 := by
    intro e m1 hw f1 e1
    have := minE_err hw
    refine adjC_109e (by rw [e1]; constructor <;> omega) (by rw [e1]; omega) (er e m1 ?_ f1 e1)
    unfold adjE
    rw [hw]
  by_cases c1 : s = 1
  · subst c1
    rw [if_pos rfl]
    have hR' : RG (16 * b + 4 * d) b d 0 := ⟨by omega, hb, hd, by decide⟩
    have v0 : VS d 0 = 2 * cof d := by unfold VS enn; rw [if_pos rfl]; omega
    refine c_plain hR (c_X8_unit (to := to + EA d 1 i j) hR' (by rw [v0]; omega) (fun m1 f1 e1 r1 => ?_))
    rw [v0] at f1
    refine fin oneB m1 (by unfold minE; rw [if_pos rfl]) (f1.mono (fun q z => Or.inr z)) (by rw [e1, he]) ?_
    have q := r1 0 0 (by decide) (by decide)
    rw [show EA d 0 0 0 = 0 by unfold EA; omega, Int.add_zero, oneV_B] at q
    exact q
  · rw [if_neg c1]
    by_cases c2 : s = 2
    · subst c2
      have h1 : ∃ R, iAnd (iShl 1 2 - 1) (iXor (iShl 1 j) (-1)) = R ∧ Bit R (1 - j) := by
        rcases (show j = 0 ∨ j = 1 by omega) with rfl | rfl
        · exact ⟨2, by decide, by decide⟩
        · exact ⟨1, by decide, by decide⟩
      have h2 : ∃ R, iAnd (iShl 1 2 - 1) (iXor (iShl 1 i) (-1)) = R ∧ Bit R (1 - i) := by
        rcases (show i = 0 ∨ i = 1 by omega) with rfl | rfl
        · exact ⟨2, by decide, by decide⟩
        · exact ⟨1, by decide, by decide⟩
      obtain ⟨R1, a1, a2⟩ := h1
      obtain ⟨R2, b1, b2⟩ := h2
      rw [a1, b1]
      refine c_minor1 (n := 4) (V := V) (to := to + EA d 2 i j) hR a2 b2 (by omega) (by omega) hx (by omega) vx (fun m1 f1 e1 r1 => ?_)
      exact fin _ m1 (by unfold minE; rw [if_neg (by decide), if_pos rfl]) (f1.mono (fun q z => Or.inr z)) (by rw [e1, he]) r1
    · have c3 : s = 3 := by omega
      subst c3
      have h1 : ∃ R, iAnd (iShl 1 3 - 1) (iXor (iShl 1 j) (-1)) = R ∧ Two R (lo3 j) (hi3 j) := by
        rcases (show j = 0 ∨ j = 1 ∨ j = 2 by omega) with rfl | rfl | rfl
        · exact ⟨6, by decide, by decide⟩
        · exact ⟨5, by decide, by decide⟩
        · exact ⟨3, by decide, by decide⟩
      have h2 : ∃ R, iAnd (iShl 1 3 - 1) (iXor (iShl 1 i) (-1)) = R ∧ Two R (lo3 i) (hi3 i) := by
        rcases (show i = 0 ∨ i = 1 ∨ i = 2 by omega) with rfl | rfl | rfl
        · exact ⟨6, by decide, by decide⟩
        · exact ⟨5, by decide, by decide⟩
        · exact ⟨3, by decide, by decide⟩
      obtain ⟨R1, a1, a2⟩ := h1
      obtain ⟨R2, b1, b2⟩ := h2
      rw [a1, b1]
      have hm : minE mu d 3 V i j = det2S mu d (V (lo3 j) (lo3 i)) (V (lo3 j) (hi3 i)) (V (hi3 j) (lo3 i)) (V (hi3 j) (hi3 i)) := by unfold minE; rw [if_neg (by decide), if_neg (by decide)]
      have q1 := lo3_in (show in3 j by omega)
      have q2 := lo3_in (show in3 i by omega)
      refine c_minor2 (n := 3) (V := V) (to := to + EA d 3 i j) hR hmu hM he a2 b2 (by omega) (by omega) hx (by omega) dx (by omega) (by omega) vx nV.nv ⟨fun w m1 h1 f1 e1 r1 => fin w m1 (by rw [hm]; exact h1) f1 e1 r1, fun e m1 h1 f1 e1 => fine e m1 (by rw [hm]; exact h1) f1 e1⟩
theorem adjC_33 {K23 : Int → Int → Int → Int → Int → Int → Int → MM → Prop} {i : Int} (hR : RG r b d s) (hs1 : 1 ≤ s) (hM : MU mu) (hi : 0 ≤ i ∧ i < s) (hx : Cl x (VS d s)) (ht : Cl to (VS d s)) (dx : Dj x (VS d s) 1157282 494) (dt : Dj to (VS d s) 1157282 494) (ex : Dj x (VS d s) to (VS d s)) (nV : NN mu d s V) : ∀ (n : Nat) (j : Int) (U : VV) (m : MM), 0 ≤ j → j + n = s → muC m b = mu → m 378 2 = 0 → VC (m 379) x d s V → DE (m 379) to d s i j U → (∀ U' m', colG (adjE mu d s V) i n j U = .ok U' → Fc (S4 to d s) m m' → m' 378 2 = 0 → DE (m' 379) to d s (i + 1) 0 U' → K23 r x to s (cof d) (iShl 1 s - 1) (i + 1) m') → (∀ e m', colG (adjE mu d s V) i n j U = .error e → Fc (S4 to d s) m m' → m' 378 2 = e → K23 r x to s (cof d) (iShl 1 s - 1) (i + 1) m') → P_X8_adjugate_33 Q K23 (n + 1) r x to s (cof d) (iShl 1 s - 1) i j m := by
  obtain ⟨-, hb, hd, hs⟩ := id hR
  have hc := cof_bd hd
  have hr : rws s = s := by unfold rws; omega
  intro n
  induction n with
  | zero =>
    intro j U m j0 j1 hu he vx de ok er
    refine ⟨by constructor <;> omega, by constructor <;> omega, ?_⟩
    rw [if_pos (by omega)]
    exact ok U m rfl (Fc.refl m) he (fun k l k0 l0 l1 c => de k l k0 l0 l1 (by omega))
  | succ n ih =>
    intro j U m j0 j1 hu he vx de ok er
    have bd := EA_bd (d := d) (s := s) (i := i) (j := j) hd hs (by omega) (by omega)
    unfold colG at ok er
    refine adjC_ent hR hs1 hu hM he hi (by omega) hx ht dx dt ex vx nV (fun w m1 hw f1 e1 r1 => ?_) (fun e m1 hw f1 e1 => ?_)
    · rw [hw] at ok er
      simp only at ok er
      have f1' : Fc (S4 to d s) m m1 := f1.mono (fun q z => by unfold S2 at z; unfold S4; omega)
      refine ih (j + 1) (setE U i j w) m1 (by omega) (by omega) (by rw [f1.mu, hu]) e1 (vx.fr hd hs f1 (fun q q0 q1 z => by unfold S2 at z; omega)) (fun k l k0 l0 l1 c => ?_) (fun U' m' a1 a2 a3 a4 => ok U' m' a1 (f1'.trans a2) a3 a4) (fun e m' a1 a2 a3 => er e m' a1 (f1'.trans a2) a3)
      unfold setE
      by_cases cc : k = i ∧ l = j
      · rw [if_pos cc, cc.1, cc.2]; exact r1
      · rw [if_neg cc]
        have b3 := EA_bd (d := d) (s := s) (i := k) (j := l) hd hs (by omega) (by omega)
        have b4 := EA_ne (d := d) (s := s) (i := k) (j := l) (k := i) (l := j) hd hs (by omega) (by omega) (by omega) (by omega) cc
        exact (de k l k0 l0 l1 (by omega)).fr f1 (fun q q0 q1 z => by unfold S2 at z; omega)
    · rw [hw] at er
      have := adjE_err _ _ _ hw
      exact adjC_err33 (by constructor <;> omega) (by constructor <;> omega) (by rw [e1]; constructor <;> omega) (by rw [e1]; omega) (er e m1 rfl (f1.mono (fun q z => by unfold S2 at z; unfold S4; omega)) e1)
theorem c_X8_adjugate {m : MM} (hR : RG r b d s) (hs1 : 1 ≤ s) (hmu : muC m b = mu) (hM : MU mu) (he : m 378 2 = 0) (hx : Cl x (VS d s)) (ht : Cl to (VS d s)) (dx : Dj x (VS d s) 1157282 494) (dt : Dj to (VS d s) 1157282 494) (ex : Dj x (VS d s) to (VS d s)) (vx : VC (m 379) x d s V) (nV : NN mu d s V) (h : OutV (S4 to d s) m (adjS mu d s V) to d s Q) : P_X8_adjugate r x to m Q := by
  obtain ⟨-, hb, hd, hs⟩ := id hR
  have hc := cof_bd hd
  have hr : rws s = s := by unfold rws; omega
  refine c_size hR (c_coef hR ?_)
  have L : ∀ (n : Nat) (i : Int) (U : VV) (m' : MM), 0 ≤ i → i + n = s → Fc (S4 to d s) m m' → m' 378 2 = 0 → DE (m' 379) to d s i 0 U → rowG (adjE mu d s V) (rws s).toNat n i U = adjS mu d s V → P_X8_adjugate_23 Q (n + 1) r x to s (cof d) (iShl 1 s - 1) i m' := by
    intro n
    induction n with
    | zero =>
      intro i U m' i0 i1 f e de hs'
      refine ⟨by constructor <;> omega, by constructor <;> omega, ?_⟩
      rw [if_pos (by omega)]
      exact h.1 U m' hs'.symm f e (fun k l hk hl => de k l hk.1 hl.1 (by omega) (by omega))
    | succ n ih =>
      intro i U m' i0 i1 f e de hs'
      refine ⟨by constructor <;> omega, by constructor <;> omega, ?_⟩
      rw [if_neg (by omega)]
      unfold rowG at hs'
      refine ⟨(rws s).toNat + 1, adjC_33 hR hs1 hM (by omega) hx ht dx dt ex nV _ 0 U m' (by decide) (by omega) (by rw [f.mu, hmu]) e (vx.fr hd hs f (fun q q0 q1 z => by unfold S4 at z; omega)) de (fun U' m1 a1 a2 a3 a4 => ?_) (fun e1 m1 a1 a2 a3 => ?_)⟩
      · rw [a1] at hs'
        exact ih (i + 1) U' m1 (by omega) (by omega) (f.trans a2) a3 a4 hs'
      · rw [a1] at hs'
        have := colG_err (P := fun e => e = 1 ∨ e = 4) (fun i j e => adjE_err i j e) _ _ _ _ a1
        exact adjC_err23 hs (by rw [a3]; constructor <;> omega) (by rw [a3]; omega) (h.2 e1 m1 hs'.symm (f.trans a2) a3) _ _ (by omega) (by omega) (by omega)
  exact ⟨s.toNat + 1, L s.toNat 0 zV m (by decide) (by omega) (Fc.refl m) he (fun k l k0 l0 l1 cc => by omega) (by unfold adjS matS; rw [hr])⟩
end ADJD
