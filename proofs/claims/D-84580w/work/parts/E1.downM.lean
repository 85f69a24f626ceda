set_option maxRecDepth 100000
/-! the model: going down on the left -/
section DOWNM
variable {T : MM → Prop} {e : JE} {ro : Int}
def DNm (dep : Nat) (e : JE) (ro : Int) (T : MM → Prop) (d : ND) (c : TT) : Prop := ∀ (m : MM) (n : Nte) (lo hi k sp x2 : Int) (Q : Int → MM → Prop), EMj m e ro → TNM m Tt d c lo hi k → NN' m n → m 582 68 = sp → (0 ≤ x2 ∧ x2 ≤ sp ∧ sp + (szT c : Int) + 1 ≤ 5000) → (∀ m', FJm lo hi sp m m' → NN' m' (mn n (ntS e d c)) → TNM m' (AnP m' e ro) d c lo hi k → P_X10_judge_54 (R_X10_judge dep) Q T ((sp - x2).toNat + 1) x2 m') → ∃ nn, P_X10_judge_7 (R_X10_judge dep) Q T nn x2 k m
theorem DNm.jc {dep : Nat} {d : ND} {c : TT} (h : DNm dep e ro T d c) {m : MM} {n : Nte} {lo hi k sp : Int} {Q : Int → MM → Prop} (hE : EMj m e ro) (hT : TNM m Tt d c lo hi k) (hn : NN' m n) (h68 : m 582 68 = sp) (hsp : 0 ≤ sp ∧ sp + (szT c : Int) + 1 ≤ 5000) (post : PostM m e ro d c lo hi k sp n Q) : R_X10_judge (dep + 1) 0 [k] m Q T := by
  refine toM0 ?_
  show ∃ nn, P_X10_judge_7 (R_X10_judge dep) Q T nn (m 582 68) k m
  rw [h68]
  refine h m n lo hi k sp sp Q hE hT hn h68 (by omega) (fun m' f' n' T' => ?_)
  have e68 : m' 582 68 = sp := by rw [f' 582 68 (by omega) (by omega) (by omega) (by omega)]; exact h68
  rw [show (sp - sp).toNat + 1 = 0 + 1 by omega]
  unfold P_X10_judge_54
  rw [e68]
  refine ⟨by constructor <;> omega, by constructor <;> omega, ?_⟩
  rw [if_pos (Int.le_refl _)]
  exact post m' f' n' T'
/-- one step down, and up again -/
theorem downLeft {dep : Nat} {d a : ND} {z : Nat} {u : Unit} {ca s : TT} (hl : isLf d.1) (w : okN d (.inner z a u ca s)) (wc : wfT (.inner z a u ca s)) (hD : DNm (dep + 1) e ro T a ca) (hC : JCm (R_X10_judge dep) e ro T s) : DNm (dep + 1) e ro T d (.inner z a u ca s) := by
  intro m n lo hi k sp x2 Q hE hT hn h68 hx K
  obtain ⟨cl, ch, cs, hb, hN, hL, -, hTc⟩ := hT
  have h30 : d.1 < 30 := by unfold isLf at hl; omega
  have kb : 0 ≤ k ∧ k < 12000 := by omega
  have hkd : 0 ≤ d.1 ∧ d.1 ≤ 25 := by unfold isLf at hl; omega
  have ek : m 590 k = kM d.1 := hN.1 h30
  have kl := (kM_left hkd).2 hl
  obtain ⟨na, ns', mid, hns, t2, tn, t3⟩ := TM_cons.1 hTc
  have ha25 : 0 ≤ a.1 ∧ a.1 ≤ 25 := by
    rcases w.2.2.2.2.2.2.2.2 with q | q | q | q
    · exact q.2.1
    · obtain ⟨-, z', a', u', ca', s', h1, h2, -⟩ := q
      cases h1
      exact h2
    · exact absurd q.2 (by intro y; cases y)
    · exfalso; omega
  have e91 : m 591 k = na := by
    unfold isLf at hl
    by_cases q : d.1 = 9 ∨ d.1 = 10 ∨ 12 ≤ d.1 ∧ d.1 ≤ 21
    · have := (hL.2.2.2.1 q).1; rw [hns] at this; cases this; rfl
    · by_cases q2 : d.1 = 23
      · have := (hL.2.2.2.2.2.1 q2).1; rw [hns] at this; cases this; rfl
      · have := (hL.2.2.2.2.2.2.1 (by omega)).1; rw [hns] at this; cases this; rfl
  have kk := tn.lk
  have sz : (szT (Std.DTreeMap.Internal.Impl.inner z a u ca s) : Int) = szT ca + szT s + 1 := by show ((szT ca + szT s + 1 : Nat) : Int) = _; omega
  rw [sz] at hx
  -- pushed
  obtain ⟨m3, hm3⟩ : ∃ m3, m3 = up (up m 631 sp k) 582 68 (sp + 1) := ⟨_, rfl⟩
  have g3 : ∀ c' i, ¬ (c' = 631 ∧ i = sp) → ¬ (c' = 582 ∧ i = 68) → m3 c' i = m c' i := fun c' i q1 q2 => by rw [hm3, up_ne q2, up_ne q1]
  have s3 : FSt m m3 := fun c' i z => g3 c' i (by omega) (by omega)
  have E3 : EMj m3 e ro := by
    obtain ⟨h1, h2, h3, h4⟩ := hE
    have g : ∀ c' i, c' ≠ 631 → ¬ (c' = 582 ∧ i = 68) → m3 c' i = m c' i := fun c' i q1 q2 => g3 c' i (fun z => q1 z.1) q2
    have bk : ∀ {F : Int → FnR} {n : Int}, BKm m F n → BKm m3 F n := fun k => k.fr (fun c i z => g c i (by omega) (by omega))
    refine ⟨?_, h2, fun k k0 k1 => (g 584 k (by omega) (by omega)).trans (h3 k k0 k1), ?_⟩
    · generalize e.2.2.2.2 = o at h1 ⊢
      rcases o with - | x
      · exact (g 582 62 (by omega) (by omega)).trans h1
      · exact ⟨(g 582 62 (by omega) (by omega)).trans h1.1, (g 582 63 (by omega) (by omega)).trans h1.2.1, (g 582 64 (by omega) (by omega)).trans h1.2.2⟩
    · have e61 := g 582 61 (by omega) (by omega)
      rcases h4 with ⟨F, g', R, q1, q2, q3, q4, q5, q6⟩ | ⟨F, n, nr, rR, nv, vN, vR, q1, q2, q3, q4, q5, q6⟩
      · exact Or.inl ⟨F, g', R, q1, bk q2, q3, e61.trans q4, q5, q6⟩
      · refine Or.inr ⟨F, n, nr, rR, nv, vN, vR, q1, bk q2, e61.trans q3, (g 582 32 (by omega) (by omega)).trans q4, q5, ⟨(g 582 34 (by omega) (by omega)).trans q6.1.1, q6.1.2.1, fun k k0 k1 => ?_⟩, (g 582 33 (by omega) (by omega)).trans q6.2.1, q6.2.2.1, fun k k0 k1 => ?_⟩
        · obtain ⟨a, b⟩ := q6.1.2.2 k k0 k1
          exact ⟨a.fr (fun c z => g c k (by omega) (by omega)), b⟩
        · obtain ⟨a, b, c⟩ := q6.2.2.2 k k0 k1
          exact ⟨(g 607 k (by omega) (by omega)).trans a, b.fr (fun c z => g c k (by omega) (by omega)), c⟩
  have tn3 : TNM m3 Tt a ca cl mid na := by
    obtain ⟨cl', ch', cs', a1, a2, a3, a4, a5⟩ := tn
    exact ⟨cl', ch', cs', a1, a2.fr s3 (fun q => by omega), a3.fr s3, trivial, a5.fr s3 (fun d' c' n' _ _ _ => ⟨fun _ => g3 _ _ (by omega) (by omega), fun _ => trivial⟩)⟩
  have e68 : m3 582 68 = sp + 1 := by rw [hm3, up_at]
  have up := hD m3 n cl mid na (sp + 1) x2 Q E3 tn3 (hn.congr (g3 _ _ (by omega) (by omega)) (g3 _ _ (by omega) (by omega))) e68 (by omega) (fun m4 f4 n4 T4 => ?_)
  · obtain ⟨nn, hnn⟩ := up
    refine ⟨nn + 1, ?_⟩
    unfold P_X10_judge_7
    rw [ek]
    refine ⟨kb, by constructor <;> omega, ?_⟩
    rw [if_neg (by omega), if_neg (by omega)]
    refine ⟨by decide, ?_⟩
    rw [if_neg (by decide), h68]
    refine ⟨by omega, ?_⟩
    rintro m2 rfl
    rw [up_ne (show ¬ (582 = 631 ∧ 68 = sp) by omega), h68]
    rintro m2 rfl
    rw [← hm3, g3 591 k (by omega) (by omega), e91]
    exact hnn
  · -- popped
    rw [show (sp + 1 - x2).toNat + 1 = (sp - x2).toNat + 1 + 1 by omega]
    have z68 : m4 582 68 = sp + 1 := by rw [f4 582 68 (by omega) (by omega) (by omega) (by omega)]; exact e68
    unfold P_X10_judge_54
    rw [z68]
    refine ⟨by constructor <;> omega, by constructor <;> omega, ?_⟩
    rw [if_neg (by omega)]
    rintro m5 rfl
    rw [show sp + 1 - 1 = sp by omega]
    have y68 : up m4 582 68 sp 582 68 = sp := up_at ..
    rw [y68]
    have y31 : up m4 582 68 sp 631 sp = k := by
      rw [up_ne (by omega), f4 631 sp (by omega) (by omega) (by omega) (by omega), hm3, up_ne (by omega), up_at]
    rw [y31]
    refine ⟨by omega, toM3 ?_⟩
    obtain ⟨m5, hm5⟩ : ∃ m5, m5 = up m4 582 68 sp := ⟨_, rfl⟩
    rw [← hm5] at y68 ⊢
    have g5 : ∀ c' i, ¬ (c' = 582 ∧ i = 68) → m5 c' i = m4 c' i := fun c' i q => by rw [hm5, up_ne q]
    have f5 : FJm lo hi sp m m5 := by
      intro c' i q1 q2 q3 q4
      by_cases y : c' = 582 ∧ i = 68
      · rw [y.1, y.2, y68, h68]
      · rw [g5 c' i y, f4 c' i (fun z => q1 ⟨z.1, by omega, by omega⟩) q2 (fun z => q3 ⟨z.1, by omega⟩) q4]
        exact g3 c' i (fun z => q3 ⟨z.1, by omega⟩) y
    have E5 := hE.jm f5
    have s5 : FSt m4 m5 := fun c' i z => g5 c' i (by omega)
    have Ta : TNM m5 (AnP m5 e ro) a ca cl mid na := by
      obtain ⟨cl', ch', cs', a1, a2, a3, a4, a5⟩ := T4
      exact ⟨cl', ch', cs', a1, a2.fr s5 (fun q => by omega), a3.fr s5, a4.fr (fun c' _ _ => g5 _ _ (by omega)), a5.fr s5 (fun d' c' n' _ _ _ => ⟨fun _ => g5 _ _ (by omega), fun q => q.fr (fun c'' _ _ => g5 _ _ (by omega))⟩)⟩
    have n5 : NN' m5 (mn n (ntS e a ca)) := n4.congr (g5 _ _ (by omega)) (g5 _ _ (by omega))
    have fs : FSt m m5 := f5.st
    have t35 : TM m5 Tt s mid ch ns' := by
      refine t3.fr fs (fun d' c' n' y1 y2 _ => ⟨fun _ => ?_, fun _ => trivial⟩)
      rw [g5 _ _ (by omega), f4 _ _ (by omega) (by omega) (by omega) (by omega)]
      exact g3 _ _ (by omega) (by omega)
    have post : PostM m e ro d (.inner z a u ca s) lo hi k sp n (fun _ m2 => P_X10_judge_54 (R_X10_judge (dep + 1)) Q T ((sp - x2).toNat + 1) x2 m2) := fun m' f' n' T' => K m' f' n' T'
    have hmid : cl ≤ mid ∧ mid ≤ ch := by omega
    rw [hns] at hL
    by_cases q : d.1 = 9 ∨ d.1 = 10 ∨ 12 ≤ d.1 ∧ d.1 ≤ 21
    · have ar := okN_ar w (by omega)
      have l2 : lenT (Std.DTreeMap.Internal.Impl.inner z a u ca s) = 2 := by have := ar.1; unfold arT at this; omega
      cases s with
      | leaf => exact absurd l2 (by show ¬ 0 + 1 = 2; decide)
      | inner zb b ub cb s2 =>
        have sl : s2 = .leaf := by
          cases s2 with
          | leaf => rfl
          | inner z2 d2 u2 c2 s2 =>
            exfalso
            have : lenT s2 + 1 + 1 + 1 = 2 := l2
            omega
        subst sl
        obtain ⟨nb, ns2, mid2, hns2, t22, tn2, t23⟩ := TM_cons.1 t35
        have ns20 : ns2 = [] := t23.1
        subst ns20
        rw [hns2] at hL
        have tn2' : TNM m5 Tt b cb mid ch nb := by
          obtain ⟨cl', ch', cs', a1, a2, a3, a4, a5⟩ := tn2
          exact ⟨cl', ch', cs', by omega, a2, a3, a4, a5⟩
        exact leftTwoM q rfl w wc hb hmid hN hL hC f5 E5 Ta tn2' n5 y68 (by rw [sz]; omega) post
    · by_cases q2 : d.1 = 23
      · have ar := okN_ar w (by omega)
        have l1 : lenT (Std.DTreeMap.Internal.Impl.inner z a u ca s) = 1 := by have := ar.1; unfold arT at this; omega
        cases s with
        | inner zb b ub cb s2 => exfalso; have : lenT s2 + 1 + 1 = 1 := l1; omega
        | leaf =>
          have ns0 : ns' = [] := t35.1
          subst ns0
          exact leftPowM q2 rfl w wc hb hmid hN hL f5 E5 Ta n5 post
      · have q3 : d.1 = 24 ∨ d.1 = 25 := by unfold isLf at hl; omega
        obtain ⟨-, z', a', u', ca', s', h1, h2, h3, h4⟩ : (d.1 = 24 ∨ d.1 = 25) ∧ ∃ z' a' u' ca' s', (Std.DTreeMap.Internal.Impl.inner z a u ca s : TT) = .inner z' a' u' ca' s' ∧ (0 ≤ a'.1 ∧ a'.1 ≤ 25) ∧ isTy s' ∧ htT s' ≤ 16 := by
          rcases w.2.2.2.2.2.2.2.2 with y | y | y | y
          · exfalso; have := y.1; unfold arT at this; omega
          · exact y
          · exfalso; omega
          · exfalso; omega
        cases h1
        have n1 : ∃ nr, ns' = [nr] := by
          have l := TM_len t35
          cases s with
          | leaf => exact h3.elim
          | inner zs ds us cs2 ss =>
            have e' := h3.2
            subst e'
            cases ns' with
            | nil => cases l
            | cons nr ns2 =>
              have : ns2.length + 1 = 0 + 1 := l
              have : ns2 = [] := List.length_eq_zero_iff.1 (by omega)
              exact ⟨nr, by rw [this]⟩
        obtain ⟨nr, rfl⟩ := n1
        exact leftGoM q3 rfl h3 h4 w wc hb hmid hN hL f5 E5 Ta t35 ha25 n5 post
/-- the others of a chain -/
def rstT : TT → TT
  | .leaf => .leaf
  | .inner _ _ _ _ s => s
theorem judgeAll : ∀ (t : TT), wfT t → (∀ z d u c s, t = .inner z d u c s → d.1 < 30 → ∀ dep, (dq t).1 ≤ dep + 1 → DNm dep e ro T d c) ∧ (∀ dep, max (dq t).1 (dq t).2 ≤ dep → JCm (R_X10_judge dep) e ro T t) ∧ ∀ dep, (dq t).2 ≤ dep → JCm (R_X10_judge dep) e ro T (rstT t) := by
  intro t
  induction t with
  | leaf => intro _; exact ⟨fun z d u c s h => (by cases h), fun _ _ => trivial, fun _ _ => trivial⟩
  | inner z d u c s ihc ihs =>
    intro wt
    obtain ⟨w, wc, ws⟩ := wt
    have Ic := ihc wc
    have Is := ihs ws
    have first : d.1 < 30 → ∀ dep, (dq (.inner z d u c s)).1 ≤ dep + 1 → DNm dep e ro T d c := by
      intro h30 dep hdep
      have hkd := okN_kind w h30
      by_cases hl : isLf d.1
      · have hq : (dq (Std.DTreeMap.Internal.Impl.inner z d u c s)).1 = max (dq c).1 ((dq c).2 + 2) := if_pos hl
        rw [hq] at hdep
        obtain ⟨dep, rfl⟩ : ∃ q, dep = q + 1 := ⟨dep - 1, by omega⟩
        cases c with
        | leaf =>
          exfalso
          unfold isLf at hl
          rcases w.2.2.2.2.2.2.2.2 with q | q | q | q
          · have := q.1; unfold arT at this; have l : lenT (Std.DTreeMap.Internal.Impl.leaf : TT) = 0 := rfl; omega
          · obtain ⟨-, z', a', u', ca', s', h1, -⟩ := q; cases h1
          · omega
          · omega
        | inner za a ua ca sa =>
          have ha : a.1 < 30 := by
            rcases w.2.2.2.2.2.2.2.2 with q | q | q | q
            · have := q.2.1; omega
            · obtain ⟨-, z', a', u', ca', s', h1, h2, -⟩ := q
              cases h1
              omega
            · exact absurd q.2 (by intro y; cases y)
            · exfalso; unfold isLf at hl; omega
          have d2 : (dq (Std.DTreeMap.Internal.Impl.inner za a ua ca sa)).2 = max (dq sa).1 (dq sa).2 := rfl
          exact downLeft hl w wc (Ic.1 za a ua ca sa rfl ha (dep + 1) (by omega)) (Ic.2.2 dep (by omega))
      · have hq : (dq (Std.DTreeMap.Internal.Impl.inner z d u c s)).1 = max (dq c).1 (dq c).2 + 3 := if_neg hl
        rw [hq] at hdep
        obtain ⟨dep, rfl⟩ : ∃ q, dep = q + 2 := ⟨dep - 2, by omega⟩
        intro m n lo hi k sp x2 Q hE hT hn h68 hx K
        obtain ⟨cl, ch, cs, hb, hN, hL, -, hTc⟩ := hT
        have kl : ¬ (11 ≤ kM d.1 ∧ kM d.1 ≤ 25) := fun q => hl ((kM_left hkd).1 q)
        have ek : m 590 k = kM d.1 := hN.1 h30
        have kr : RI (kM d.1) := by unfold kM; (repeat' split) <;> (constructor <;> omega)
        have part : P_X10_judge_49 (R_X10_judge (dep + 2)) Q T x2 k m := toM5 (partJ hl hkd w wc hb hN hL hTc (Ic.2.1 dep (by omega)) (Ic.2.1 (dep + 1) (by omega)) hE hn h68 (by omega) (fun m' f' n' T' => ⟨_, K m' f' n' T'⟩))
        refine ⟨0 + 1, ?_⟩
        unfold P_X10_judge_7
        rw [ek]
        refine ⟨by omega, kr, ?_⟩
        by_cases q : kM d.1 < 11
        · rw [if_pos q]
          refine ⟨by decide, ?_⟩
          rw [if_pos rfl]
          exact part
        · rw [if_neg q, if_pos (by omega)]
          refine ⟨by decide, ?_⟩
          rw [if_pos rfl]
          exact part
    refine ⟨fun z' d' u' c' s' h h30 dep hdep => ?_, fun dep hdep => ⟨fun h30 m n lo hi k sp Q hE hT hn h68 hsp post => ?_, Is.2.1 dep ?_⟩, fun dep hdep => Is.2.1 dep hdep⟩
    · cases h
      exact first h30 dep hdep
    · have q3 : 2 ≤ (dq (Std.DTreeMap.Internal.Impl.inner z d u c s)).1 := by
        by_cases hl : isLf d.1
        · have hq : (dq (Std.DTreeMap.Internal.Impl.inner z d u c s)).1 = max (dq c).1 ((dq c).2 + 2) := if_pos hl
          omega
        · have hq : (dq (Std.DTreeMap.Internal.Impl.inner z d u c s)).1 = max (dq c).1 (dq c).2 + 3 := if_neg hl
          omega
      obtain ⟨dep, rfl⟩ : ∃ q, dep = q + 1 := ⟨dep - 1, by omega⟩
      exact (first h30 dep (by omega)).jc hE hT hn h68 hsp post
    · have d2 : (dq (Std.DTreeMap.Internal.Impl.inner z d u c s)).2 = max (dq s).1 (dq s).2 := rfl
      omega
end DOWNM
