set_option maxRecDepth 100000
/-! the model: rings of all parts -/
section JUDGEM
variable {Q : Int → MM → Prop} {T : MM → Prop} {e : JE} {ro : Int} {d : ND} {c : TT} {m m1 m2 : MM} {n : Nte} {lo hi k sp : Int} {rc : List R3} {x : R3} {dep : Nat}
theorem toM0 (h : W_X10_judge (R_X10_judge dep) k m Q T) : R_X10_judge (dep + 1) 0 [k] m Q T := h
theorem toM1 (h : W_X10_judgeBuilt (R_X10_judge dep) k m Q T) : R_X10_judge (dep + 1) 1 [k] m Q T := h
theorem toM2 (h : W_X10_judgeCall (R_X10_judge dep) k m Q T) : R_X10_judge (dep + 1) 2 [k] m Q T := h
theorem toM3 (h : W_X10_judgeLeft (R_X10_judge dep) k m Q T) : R_X10_judge (dep + 1) 3 [k] m Q T := h
theorem toM4 (h : W_X10_judgeMatrix (R_X10_judge dep) k m Q T) : R_X10_judge (dep + 1) 4 [k] m Q T := h
theorem toM5 (h : W_X10_judgePart (R_X10_judge dep) k m Q T) : R_X10_judge (dep + 1) 5 [k] m Q T := h
theorem own_res (hk : d.1 = 3) : ownS e d [] = e.2.1 d.2.2.1 := by
  unfold ownS
  rw [if_neg (by omega), if_neg (by omega), if_neg (by omega), if_pos hk]
theorem own_unk (hk : 0 ≤ d.1 ∧ d.1 ≤ 2) : ownS e d [] = some (0, d.1, 0) := by
  unfold ownS
  by_cases k0 : d.1 = 0
  · rw [if_pos k0, k0]
  · rw [if_neg k0]
    by_cases k1 : d.1 = 1
    · rw [if_pos k1, k1]
    · rw [if_neg k1, if_pos (by omega), show d.1 = 2 by omega]
/-- a part that doesn't stand left -/
theorem partJ {cl ch : Int} {cs : List Int} (hnl : ¬ isLf d.1) (hkd : 0 ≤ d.1 ∧ d.1 ≤ 25) (w : okN d c) (wc : wfT c) (hb : (0 ≤ lo ∧ lo ≤ k ∧ k < hi ∧ hi ≤ 12000) ∧ (lo ≤ cl ∧ cl ≤ ch ∧ ch ≤ hi) ∧ (k < cl ∨ ch ≤ k)) (hN : NM m d k) (hL : LKm m d k cs) (hTc : TM m Tt c cl ch cs) (hC0 : JCm (R_X10_judge dep) e ro T c) (hC1 : JCm (R_X10_judge (dep + 1)) e ro T c) (E0 : EMj m e ro) (n0 : NN' m n) (h68 : m 582 68 = sp) (hsp : 0 ≤ sp ∧ sp + (szT c : Int) + 1 ≤ 5000) (post : PostM m e ro d c lo hi k sp n Q) : W_X10_judgePart (R_X10_judge (dep + 1)) k m Q T := by
  have h30 : d.1 < 30 := by omega
  have kb : 0 ≤ k ∧ k < 12000 := by omega
  have nk : (0 ≤ d.1 ∧ d.1 ≤ 8) ∨ d.1 = 11 ∨ d.1 = 22 := by unfold isLf at hnl; omega
  have h5 : d.1 ≠ 5 → d.1 = 5 → e.2.2.1 d.2.2.2 := fun a q => absurd q a
  have ek : m 590 k = kM d.1 := hN.1 h30
  have kv : kM d.1 = if d.1 = 11 then 9 else if d.1 = 22 then 10 else d.1 := by
    unfold kM
    by_cases q : d.1 ≤ 8
    · rw [if_pos q, if_neg (by omega), if_neg (by omega)]
    · rw [if_neg q, if_neg (by omega), if_neg (by omega)]
      by_cases q1 : d.1 = 11
      · rw [if_pos q1, if_pos q1]
      · rw [if_neg q1, if_neg q1, if_neg (by omega), if_pos (by omega)]
  refine ⟨kb, ?_⟩
  rintro m1 rfl
  rw [up_ne (show ¬ (590 = 598 ∧ k = k) by omega), ek]
  refine ⟨by rw [kv]; (repeat' split) <;> (constructor <;> omega), ?_⟩
  rintro m2 rfl
  obtain ⟨V, hV⟩ : ∃ V, V = (if kM d.1 = 4 then (-1 : Int) else up m 598 k (-9) 597 k) := ⟨_, rfl⟩
  rw [← hV]
  obtain ⟨m2, hm2⟩ : ∃ m2, m2 = up (up m 598 k (-9)) 597 k V := ⟨_, rfl⟩
  rw [← hm2]
  have f2 : FJm k (k + 1) sp m m2 := fun c' i q1 _ _ _ => by rw [hm2, up_ne (fun z => q1 ⟨by omega, by omega, by omega⟩), up_ne (fun z => q1 ⟨by omega, by omega, by omega⟩)]
  have r98 : m2 598 k = -9 := by rw [hm2, up_ne (by omega), up_at]
  have e97 : m2 597 k = V := by rw [hm2, up_at]
  have n2 : NN' m2 n := n0.congr (by rw [hm2, up_ne (by omega), up_ne (by omega)]) (by rw [hm2, up_ne (by omega), up_ne (by omega)])
  have E2 := E0.jm f2
  have h682 : m2 582 68 = sp := by rw [f2 582 68 (by omega) (by omega) (by omega) (by omega)]; exact h68
  have f2' : FJm lo hi sp m m2 := f2.mono (by omega) (by omega) (Int.le_refl _)
  have T2 := hTc.jt f2 (by omega)
  have ek2 : m2 590 k = kM d.1 := by rw [f2.st 590 k (by omega)]; exact ek
  rw [ek2, kv]
  refine ⟨by (repeat' split) <;> (constructor <;> omega), ?_⟩
  -- without parts
  have lf0 : d.1 ≤ 4 → c = .leaf ∧ KidsM m m2 e ro d c lo hi k sp n cs ∧ allS (jdS e c).1 = some [] := by
    intro q
    have cl' : c = .leaf := leafC (by omega) w
    subst cl'
    exact ⟨rfl, ⟨cl, ch, hb, hN, hL, f2', T2, by rw [show (jdS e .leaf).2 = none from rfl, mn_none]; exact n2⟩, rfl⟩
  by_cases k11 : d.1 = 11
  · rw [if_pos k11, if_neg (by decide), if_neg (by decide), if_neg (by decide), if_neg (by decide), if_neg (by decide), if_neg (by decide), if_neg (by decide), if_neg (by decide), if_neg (by decide), if_pos rfl]
    have l1 := hL.2.2.2.2.1 (Or.inl k11)
    have ar := okN_ar w (by omega)
    cases c with
    | leaf => exfalso; have := ar.1; unfold arT at this; have l : lenT (Std.DTreeMap.Internal.Impl.leaf : TT) = 0 := rfl; omega
    | inner z a u ca s =>
      have sl : s = .leaf := by
        cases s with
        | leaf => rfl
        | inner z2 d2 u2 c2 s2 =>
          exfalso
          have h := ar.1
          have l : lenT (Std.DTreeMap.Internal.Impl.inner z a u ca (.inner z2 d2 u2 c2 s2)) = lenT s2 + 1 + 1 := rfl
          rw [l] at h
          unfold arT at h
          omega
      subst sl
      rw [l1] at T2
      obtain ⟨k1, ns', mid, hns, t2, tn, t3⟩ := TM_cons.1 T2
      obtain ⟨rfl, rfl⟩ : m 591 k = k1 ∧ [] = ns' := by cases hns; exact ⟨rfl, rfl⟩
      have e91 : m2 591 k = m 591 k := f2.st 591 k (by omega)
      have kk := tn.lk
      have sz : (szT (Std.DTreeMap.Internal.Impl.inner z a u ca .leaf) : Int) = szT ca + 1 := by show ((szT ca + 0 + 1 : Nat) : Int) = _; omega
      rw [e91]
      refine hC1.1 (by have := ar.2.1; omega) m2 n cl mid _ sp _ E2 tn n2 h682 (by omega) (fun m3 f3 n3 T3 => ?_)
      have J1 : (jdS e (.inner z a u ca .leaf)).1 = [rgS e a ca] ∧ (jdS e (.inner z a u ca .leaf)).2 = ntS e a ca := ⟨rfl, mn_none⟩
      have f3' : FJm lo hi sp m m3 := f2'.trans (f3.mono (by omega) (by omega) (Int.le_refl _))
      have K : KidsM m m3 e ro d (.inner z a u ca .leaf) lo hi k sp n cs := ⟨cl, ch, hb, hN, hL, f3', by rw [l1]; exact ⟨_, [], mid, rfl, t2, T3, rfl, t3.2⟩, by rw [J1.2]; exact n3⟩
      have e91' : m3 591 k = m 591 k := by rw [f3.st 591 k (by omega)]; exact e91
      have oka := fun x hx => rgS_ok E2.ok wc.1 wc.2.1 (x := x) hx
      have ra := T3.rg
      have ria := ra.ri oka
      have r98' : m3 598 k = -9 := by rw [f3 598 k (by omega) (by omega) (by omega) (by omega)]; exact r98
      have hX : noX d := by unfold noX; omega
      rw [e91']
      refine ⟨by omega, ria.1, ?_⟩
      rcases ha : rgS e a ca with - | x
      · have q9 := ria.2.2 ha
        rw [if_neg (by omega), if_pos q9]
        exact km_none post K h30 (h5 (by omega)) (by rw [J1.1, ha]; rfl) (FJm.refl m3) rfl rfl r98'
      · have hrc : allS (jdS e (.inner z a u ca .leaf)).1 = some [x] := by rw [J1.1, ha]; rfl
        have own := own_one (e := e) (a := x) (d := d) (Or.inl k11)
        rw [if_pos k11] at own
        rw [ha] at ra
        have xb := bM_bd (ok3_b (oka x ha))
        by_cases xB : x.1 = -2
        · rw [if_pos (ra.1.trans (xb.2.2.1.2 xB))]
          exact km_set post K h30 hX hrc (own.trans (if_pos xB)) (FJm.refl m3) rfl rfl rfl rfl rfl
        · rw [if_neg (fun q => xB (xb.2.2.1.1 (ra.1.symm.trans q))), if_neg (fun q => by have := ria.2.1 q; rw [ha] at this; cases this)]
          exact km_bad post K h30 ⟨by omega, by omega⟩ (h5 (by omega)) w.1 hrc (own.trans (if_neg xB)) (FJm.refl m3) rfl rfl
  rw [if_neg k11]
  by_cases k22 : d.1 = 22
  · rw [if_pos k22, if_neg (by decide), if_neg (by decide), if_neg (by decide), if_neg (by decide), if_neg (by decide), if_neg (by decide), if_neg (by decide), if_neg (by decide), if_neg (by decide), if_neg (by decide)]
    have l1 := hL.2.2.2.2.1 (Or.inr k22)
    have ar := okN_ar w (by omega)
    cases c with
    | leaf => exfalso; have := ar.1; unfold arT at this; have l : lenT (Std.DTreeMap.Internal.Impl.leaf : TT) = 0 := rfl; omega
    | inner z a u ca s =>
      have sl : s = .leaf := by
        cases s with
        | leaf => rfl
        | inner z2 d2 u2 c2 s2 =>
          exfalso
          have h := ar.1
          have l : lenT (Std.DTreeMap.Internal.Impl.inner z a u ca (.inner z2 d2 u2 c2 s2)) = lenT s2 + 1 + 1 := rfl
          rw [l] at h
          unfold arT at h
          omega
      subst sl
      rw [l1] at T2
      obtain ⟨k1, ns', mid, hns, t2, tn, t3⟩ := TM_cons.1 T2
      obtain ⟨rfl, rfl⟩ : m 591 k = k1 ∧ [] = ns' := by cases hns; exact ⟨rfl, rfl⟩
      have e91 : m2 591 k = m 591 k := f2.st 591 k (by omega)
      have kk := tn.lk
      have sz : (szT (Std.DTreeMap.Internal.Impl.inner z a u ca .leaf) : Int) = szT ca + 1 := by show ((szT ca + 0 + 1 : Nat) : Int) = _; omega
      rw [e91]
      refine hC1.1 (by have := ar.2.1; omega) m2 n cl mid _ sp _ E2 tn n2 h682 (by omega) (fun m3 f3 n3 T3 => ?_)
      have J1 : (jdS e (.inner z a u ca .leaf)).1 = [rgS e a ca] ∧ (jdS e (.inner z a u ca .leaf)).2 = ntS e a ca := ⟨rfl, mn_none⟩
      have f3' : FJm lo hi sp m m3 := f2'.trans (f3.mono (by omega) (by omega) (Int.le_refl _))
      have K : KidsM m m3 e ro d (.inner z a u ca .leaf) lo hi k sp n cs := ⟨cl, ch, hb, hN, hL, f3', by rw [l1]; exact ⟨_, [], mid, rfl, t2, T3, rfl, t3.2⟩, by rw [J1.2]; exact n3⟩
      have e91' : m3 591 k = m 591 k := by rw [f3.st 591 k (by omega)]; exact e91
      have oka := fun x hx => rgS_ok E2.ok wc.1 wc.2.1 (x := x) hx
      have ra := T3.rg
      have ria := ra.ri oka
      have hX : noX d := by unfold noX; omega
      rw [e91']
      refine ⟨by omega, ria.1, ?_⟩
      rcases ha : rgS e a ca with - | x
      · have q9 := ria.2.2 ha
        rw [if_neg (by omega)]
        refine c_setRingM kb (fun m4 f4 a1 _ _ => ?_)
        exact km_none post K h30 (h5 (by omega)) (by rw [J1.1, ha]; rfl) (fun c' i q1 _ _ _ => f4 c' i (fun z => q1 ⟨by omega, by omega, by omega⟩)) (f4 _ _ (by omega)) (f4 _ _ (by omega)) (a1.trans q9)
      · have hrc : allS (jdS e (.inner z a u ca .leaf)).1 = some [x] := by rw [J1.1, ha]; rfl
        have own := own_one (e := e) (a := x) (d := d) (Or.inr (Or.inl k22))
        rw [if_neg k11, if_pos k22] at own
        rw [ha] at ra
        have xb := bM_bd (ok3_b (oka x ha))
        by_cases xB : x.1 = -2
        · rw [if_pos (ra.1.trans (xb.2.2.1.2 xB))]
          exact km_bad post K h30 ⟨by omega, by omega⟩ (h5 (by omega)) w.1 hrc (own.trans (if_pos xB)) (FJm.refl m3) rfl rfl
        · rw [if_neg (fun q => xB (xb.2.2.1.1 (ra.1.symm.trans q)))]
          exact km_set post K h30 hX hrc (own.trans (if_neg xB)) (FJm.refl m3) rfl rfl ra.1 ra.2.1 ra.2.2
  rw [if_neg k22]
  have k8 : 0 ≤ d.1 ∧ d.1 ≤ 8 := by omega
  by_cases k02 : d.1 ≤ 2
  · obtain ⟨-, K, hrc⟩ := lf0 (by omega)
    have hX : noX d := by unfold noX; omega
    have set := fun (b' d' s' : Int) h1 h2 h3 => km_set (b' := b') (d' := d') (s' := s') post K h30 hX hrc (own_unk (e := e) ⟨hkd.1, k02⟩) (FJm.refl m2) rfl rfl h1 h2 h3
    by_cases c0 : d.1 = 0
    · rw [if_pos c0]; exact set 0 0 0 rfl c0.symm rfl
    rw [if_neg c0]
    by_cases c1 : d.1 = 1
    · rw [if_pos c1]; exact set 0 1 0 rfl c1.symm rfl
    rw [if_neg c1, if_pos (by omega)]
    exact set 0 2 0 rfl (show (2 : Int) = d.1 by omega) rfl
  rw [if_neg (by omega), if_neg (by omega), if_neg (by omega)]
  by_cases k3 : d.1 = 3
  · rw [if_pos k3]
    obtain ⟨cl', K, hrc⟩ := lf0 (by omega)
    have own := own_res (e := e) k3
    rintro m6 rfl
    have f6 : FJm k (k + 1) sp m2 (up m2 598 k (-9)) := fun c' i q1 _ _ _ => up_ne (fun z => q1 ⟨by omega, by omega, by omega⟩)
    have g3 : up m2 598 k (-9) 582 13 = m2 582 13 := up_ne (by omega)
    have g4 : up m2 598 k (-9) 582 14 = m2 582 14 := up_ne (by omega)
    have r6 : up m2 598 k (-9) 598 k = -9 := up_at ..
    obtain ⟨m6, hm6⟩ : ∃ m6, m6 = up m2 598 k (-9) := ⟨_, rfl⟩
    rw [← hm6] at f6 g3 g4 r6 ⊢
    have E6 := E2.jm f6
    have e95 : m6 595 k = d.2.1 := by rw [f6.st 595 k (by omega), f2.st 595 k (by omega)]; exact hN.2.1
    have e05 : m6 605 k = d.2.2.1 := by rw [f6.st 605 k (by omega), f2.st 605 k (by omega)]; exact hN.2.2.1 (by omega)
    have v0 := w.2.1
    have l159 : e.2.1 d.2.2.1 = none → P_X10_judgePart_159 (R_X10_judge (dep + 1)) Q T k m6 := by
      intro q
      unfold P_X10_judgePart_159
      rw [e95]
      obtain ⟨r1, r2⟩ := nd_bad h30 (h5 (by omega)) hrc (own.trans q)
      rw [if_pos (Or.inl k3)] at r2
      obtain ⟨cl2, ch2, hb2, hN2, hL2, ff, TT2, nn⟩ := K
      refine ⟨kb, c_noteM (nn.congr g3 g4) (by decide) w.1 (fun m7 f7 n7 => ?_)⟩
      exact nodeM_fin post hb2 hN2 hL2 h30 ff TT2 (f6.trans f7.jm) (by rw [r2, ← mn_assoc]; exact n7) ⟨by rw [r1]; show m7 598 k = -9; rw [f7 598 k (by omega)]; exact r6, fun x hx => by rw [r1] at hx; cases hx⟩
    rcases E6.2.2.2 with ⟨F, g, R, q1, q2, q3, q4, q5, q6, q7⟩ | ⟨F, nf, nr, rR, nv, vN, vR, q1, q2, q3, q4, q5, q6⟩
    · rw [q4]
      refine ⟨by constructor <;> omega, ?_⟩
      rw [if_pos (by omega)]
      exact l159 (by rw [q1]; rfl)
    · rw [q3, q6.1.1, e05]
      have nrb := q6.1.2.1
      have er : e.2.1 d.2.2.1 = if d.2.2.1 < nr then some (rR d.2.2.1) else none := by rw [q1]; rfl
      refine ⟨by decide, ?_⟩
      rw [if_neg (by decide)]
      refine ⟨by constructor <;> omega, by constructor <;> omega, by constructor <;> omega, ?_⟩
      by_cases c3 : d.2.2.1 < nr
      · rw [if_pos c3]
        rw [if_pos c3] at er
        rintro m7 rfl
        have z97 : up m6 597 k d.2.2.1 597 k = d.2.2.1 := up_at ..
        obtain ⟨y1, y2⟩ := q6.1.2.2 d.2.2.1 v0.1 c3
        have y1' : r3M (up m6 597 k d.2.2.1) 626 627 628 d.2.2.1 (rR d.2.2.1) := y1.fr (fun c' z => up_ne (by omega))
        rw [z97, y1'.1, y1'.2.1, y1'.2.2]
        refine ⟨by omega, c_setRingM kb (fun m8 f8 a b c' => ?_)⟩
        refine km_good post K h30 (h5 (by omega)) hrc (own.trans er) (fun c'' i z1 z2 z3 z4 => by rw [f8 c'' i (fun z => z1 ⟨by omega, by omega, by omega⟩), up_ne (fun z => z1 ⟨by omega, by omega, by omega⟩)]; exact f6 c'' i z1 z2 z3 z4) (by rw [f8 _ _ (by omega), up_ne (by omega)]; exact g3) (by rw [f8 _ _ (by omega), up_ne (by omega)]; exact g4) ⟨a, b, c'⟩ ⟨fun _ => by rw [f8 _ _ (by omega)]; exact z97, fun q => by omega, fun q => by omega, fun q => by omega⟩
      · rw [if_neg c3]
        rw [if_neg c3] at er
        exact l159 er
  rw [if_neg k3]
  by_cases k4 : d.1 = 4
  · rw [if_pos k4]
    obtain ⟨cl', K, hrc⟩ := lf0 (by omega)
    have V1 : V = -1 := by rw [hV, if_pos (by rw [kv, if_neg k11, if_neg k22]; exact k4)]
    have e95 : m2 595 k = d.2.1 := by rw [f2.st 595 k (by omega)]; exact hN.2.1
    have e05 : m2 605 k = d.2.2.2 := by rw [f2.st 605 k (by omega)]; exact hN.2.2.2.1 (Or.inl k4)
    have own := own_name (e := e) k4
    refine c_judgeNameM (sp := sp) (w := d.2.2.2) (p := d.2.1) kb E2 n2 w.2.2.1 e05 e95 w.1 (by rw [e97]; exact V1) r98 (fun i y m3 hy f3 g3 g4 g7 g6 r3 => ?_) (fun m3 hy f3 n3 r3 => ?_)
    · rw [hy] at own
      exact km_good post K h30 (h5 (by omega)) hrc own f3 g3 g4 r3 ⟨fun q => by omega, fun _ => ⟨g6, fun i' y' hy' => by rw [hy] at hy'; cases hy'; exact g7⟩, fun q => by omega, fun q => by omega⟩
    · rw [hy] at own
      obtain ⟨r1, r2⟩ := nd_bad h30 (h5 (by omega)) hrc own
      rw [if_pos (Or.inr k4)] at r2
      obtain ⟨cl2, ch2, hb2, hN2, hL2, ff, TT2, nn⟩ := K
      have j0 : (jdS e c).2 = none := by rw [cl']; rfl
      refine nodeM_fin post hb2 hN2 hL2 h30 ff TT2 f3 (by rw [r2, j0]; exact n3) ⟨by rw [r1]; exact r3, fun x hx => by rw [r1] at hx; cases hx⟩
  rw [if_neg k4]
  by_cases k5 : d.1 = 5
  · rw [if_pos k5]; exact toM2 (callJ k5 w wc hb hN hL hTc hC0 f2 E2 n2 r98 h682 hsp post)
  rw [if_neg k5]
  by_cases k6 : d.1 = 6
  · rw [if_pos k6]; exact toM1 (builtJ k6 w wc hb hN hL hTc hC0 f2 E2 n2 r98 h682 hsp post)
  rw [if_neg k6]
  by_cases k7 : d.1 = 7
  · rw [if_pos k7]; exact toM4 (matrixJ k7 w wc hb hN hL hTc hC0 f2 E2 n2 r98 h682 hsp post)
  rw [if_neg k7, if_pos (by omega)]
  have k8' : d.1 = 8 := by omega
  have l3 := hL.2.2.1 k8'
  have ar := okN_ar w (by omega)
  have len3' : lenT c = 3 := by have := ar.1; unfold arT at this; omega
  have hX : noX d := by unfold noX; omega
  cases c with
  | leaf => exact absurd len3' (by decide)
  | inner z a u ca s =>
    cases s with
    | leaf => exact absurd len3' (by show ¬ 0 + 1 = 3; decide)
    | inner zb b ub cb s =>
      cases s with
      | leaf => exact absurd len3' (by show ¬ 0 + 1 + 1 = 3; decide)
      | inner zc g uc cg s =>
        have sl : s = .leaf := by
          cases s with
          | leaf => rfl
          | inner z2 d2 u2 c2 s2 =>
            exfalso
            have : lenT s2 + 1 + 1 + 1 + 1 = 3 := len3'
            omega
        subst sl
        rw [l3] at T2
        obtain ⟨k1, ns1, mid1, hns1, t12, tn1, t13⟩ := TM_cons.1 T2
        obtain ⟨k2, ns2, mid2, hns2, t22, tn2, t23⟩ := TM_cons.1 t13
        obtain ⟨k3', ns3, mid3, hns3, t32, tn3, t33⟩ := TM_cons.1 t23
        cases hns1
        cases hns2
        cases hns3
        have e91 : m2 591 k = m 591 k := f2.st 591 k (by omega)
        have kk1 := tn1.lk
        have kk2 := tn2.lk
        have kk3 := tn3.lk
        have sz : (szT (Std.DTreeMap.Internal.Impl.inner z a u ca (.inner zb b ub cb (.inner zc g uc cg .leaf))) : Int) = szT ca + szT cb + szT cg + 3 := by show ((szT ca + (szT cb + (szT cg + 0 + 1) + 1) + 1 : Nat) : Int) = _; omega
        have p3 : (0 ≤ a.1 ∧ a.1 ≤ 25) ∧ (0 ≤ b.1 ∧ b.1 ≤ 25) ∧ (0 ≤ g.1 ∧ g.1 ≤ 25) := ⟨ar.2.1, ar.2.2.1, ar.2.2.2.1⟩
        rw [e91]
        refine hC1.1 (by omega) m2 n cl mid1 _ sp _ E2 tn1 n2 h682 (by omega) (fun m3 f3 n3 T3 => ?_)
        have e92 : m3 592 k = m 592 k := by rw [f3.st 592 k (by omega), f2.st 592 k (by omega)]
        rw [e92]
        have tn2' : TNM m3 Tt b cb mid1 mid2 (m 592 k) := by
          obtain ⟨cl', ch', cs', a1, a2, a3, a4, a5⟩ := tn2
          exact ⟨cl', ch', cs', a1, a2.fr f3.st (fun q => by omega), a3.fr f3.st, trivial, a5.jt f3 (by omega)⟩
        refine hC1.2.1 (by omega) m3 (mn n (ntS e a ca)) mid1 mid2 _ sp _ (E2.jm f3) tn2' n3 (by rw [f3 582 68 (by omega) (by omega) (by omega) (by omega)]; exact h682) (by omega) (fun m4 f4 n4 T4 => ?_)
        have e93 : m4 593 k = m 593 k := by rw [f4.st 593 k (by omega), f3.st 593 k (by omega), f2.st 593 k (by omega)]
        rw [e93]
        have tn3' : TNM m4 Tt g cg mid2 mid3 (m 593 k) := by
          obtain ⟨cl', ch', cs', a1, a2, a3, a4, a5⟩ := tn3
          exact ⟨cl', ch', cs', a1, (a2.fr f3.st (fun q => by omega)).fr f4.st (fun q => by omega), (a3.fr f3.st).fr f4.st, trivial, (a5.jt f3 (by omega)).jt f4 (by omega)⟩
        refine hC1.2.2.1 (by omega) m4 (mn (mn n (ntS e a ca)) (ntS e b cb)) mid2 mid3 _ sp _ ((E2.jm f3).jm f4) tn3' n4 (by rw [f4 582 68 (by omega) (by omega) (by omega) (by omega), f3 582 68 (by omega) (by omega) (by omega) (by omega)]; exact h682) (by omega) (fun m5 f5 n5 T5 => ?_)
        have T3' : TNM m5 (AnP m5 e ro) a ca cl mid1 (m 591 k) := by
          obtain ⟨cl', ch', cs', a1, a2, a3, a4, a5⟩ := T3
          exact ⟨cl', ch', cs', a1, (a2.fr f4.st (fun q => by omega)).fr f5.st (fun q => by omega), (a3.fr f4.st).fr f5.st, (a4.fr (fun c' _ _ => f4 _ _ (by omega) (by omega) (by omega) (by omega))).fr (fun c' _ _ => f5 _ _ (by omega) (by omega) (by omega) (by omega)), (a5.jm f4 (by omega)).jm f5 (by omega)⟩
        have T4' : TNM m5 (AnP m5 e ro) b cb mid1 mid2 (m 592 k) := by
          obtain ⟨cl', ch', cs', a1, a2, a3, a4, a5⟩ := T4
          exact ⟨cl', ch', cs', a1, a2.fr f5.st (fun q => by omega), a3.fr f5.st, a4.fr (fun c' _ _ => f5 _ _ (by omega) (by omega) (by omega) (by omega)), a5.jm f5 (by omega)⟩
        have f5' : FJm lo hi sp m m5 := ((f2'.trans (f3.mono (by omega) (by omega) (Int.le_refl _))).trans (f4.mono (by omega) (by omega) (Int.le_refl _))).trans (f5.mono (by omega) (by omega) (Int.le_refl _))
        have J1 : (jdS e (.inner z a u ca (.inner zb b ub cb (.inner zc g uc cg .leaf)))).1 = [rgS e a ca, rgS e b cb, rgS e g cg] ∧ (jdS e (.inner z a u ca (.inner zb b ub cb (.inner zc g uc cg .leaf)))).2 = mn (ntS e a ca) (mn (ntS e b cb) (ntS e g cg)) := ⟨rfl, by show mn (ntS e a ca) (mn (ntS e b cb) (mn (ntS e g cg) none)) = _; rw [mn_none]⟩
        have K : KidsM m m5 e ro d (.inner z a u ca (.inner zb b ub cb (.inner zc g uc cg .leaf))) lo hi k sp n cs := ⟨cl, ch, hb, hN, hL, f5', by rw [l3]; exact ⟨_, _, mid1, rfl, t12, T3', _, _, mid2, rfl, t22, T4', _, _, mid3, rfl, t32, T5, rfl, t33.2⟩, by rw [J1.2]; rw [mn_assoc, mn_assoc] at n5; exact n5⟩
        have q1 : m5 591 k = m 591 k := f5'.st 591 k (by omega)
        have q2 : m5 592 k = m 592 k := f5'.st 592 k (by omega)
        have q3 : m5 593 k = m 593 k := f5'.st 593 k (by omega)
        have oka := fun x hx => rgS_ok E2.ok wc.1 wc.2.1 (x := x) hx
        have okb' := fun x hx => rgS_ok E2.ok wc.2.2.1 wc.2.2.2.1 (x := x) hx
        have okg := fun x hx => rgS_ok E2.ok wc.2.2.2.2.1 wc.2.2.2.2.2.1 (x := x) hx
        have ra := T3'.rg
        have rb := T4'.rg
        have rg := T5.rg
        have ria := ra.ri oka
        have rib := rb.ri okb'
        have rig := rg.ri okg
        have r98' : m5 598 k = -9 := by rw [f5 598 k (by omega) (by omega) (by omega) (by omega), f4 598 k (by omega) (by omega) (by omega) (by omega), f3 598 k (by omega) (by omega) (by omega) (by omega)]; exact r98
        clear f3 f4 f5 n3 n4 n5 T3 T4 T3' T4' T5 tn1 tn2 tn3 tn2' tn3' t13 t23 t33 E2 T2 n2 hTc hC0 hC1 E0 n0 f2' f2 f5'
        rw [q1, q2, q3]
        refine ⟨⟨kk1.1, kk1.2.1⟩, ria.1, ?_⟩
        rcases ha : rgS e a ca with - | x
        · rw [if_pos (ria.2.2 ha)]
          exact km_none post K h30 (h5 (by omega)) (by rw [J1.1, ha]; rfl) (FJm.refl m5) rfl rfl r98'
        rw [if_neg (fun q => by have := ria.2.1 q; rw [ha] at this; cases this)]
        refine ⟨⟨kk2.1, kk2.2.1⟩, rib.1, ?_⟩
        rcases hb2 : rgS e b cb with - | y
        · rw [if_pos (rib.2.2 hb2)]
          exact km_none post K h30 (h5 (by omega)) (by rw [J1.1, ha, hb2]; rfl) (FJm.refl m5) rfl rfl r98'
        rw [if_neg (fun q => by have := rib.2.1 q; rw [hb2] at this; cases this)]
        refine ⟨⟨kk3.1, kk3.2.1⟩, rig.1, ?_⟩
        rcases hg2 : rgS e g cg with - | v
        · rw [if_pos (rig.2.2 hg2)]
          exact km_none post K h30 (h5 (by omega)) (by rw [J1.1, ha, hb2, hg2]; rfl) (FJm.refl m5) rfl rfl r98'
        rw [if_neg (fun q => by have := rig.2.1 q; rw [hg2] at this; cases this)]
        have hrc : allS (jdS e (.inner z a u ca (.inner zb b ub cb (.inner zc g uc cg .leaf)))).1 = some [x, y, v] := by rw [J1.1, ha, hb2, hg2]; rfl
        have own := own_three (e := e) (a := x) (a2 := y) (a3 := v) k8'
        rw [ha] at ra
        rw [hb2] at rb
        rw [hg2] at rg
        have xb := bM_bd (ok3_b (oka x ha))
        by_cases xB : x.1 = -2
        · rw [if_pos (ra.1.trans (xb.2.2.1.2 xB))]
          rw [if_pos xB] at own
          have oy := okb' y hb2
          have ov := okg v hg2
          unfold P_X10_joinsParts
          rw [rb.1, rb.2.1, rb.2.2, rg.1, rg.2.1, rg.2.2]
          refine ⟨⟨kk2.1, kk2.2.1⟩, ⟨kk3.1, kk3.2.1⟩, c_joins oy ov ?_⟩
          rcases hj : jn y v with - | j
          · rw [show (if (none : Option R3).isSome = true then (1 : Int) else 0) = 0 from rfl]
            refine ⟨Or.inl rfl, by decide, ?_⟩
            rw [if_pos rfl]
            exact km_bad post K h30 ⟨by omega, by omega⟩ (h5 (by omega)) w.1 hrc (own.trans hj) (jmFJ (FJm.refl m5)) (jm_o (by omega)) (jm_o (by omega))
          · have jv := jn_vals oy ov hj
            rw [show (if (some j).isSome = true then (1 : Int) else 0) = 1 from rfl]
            refine ⟨Or.inr rfl, by decide, ?_⟩
            rw [if_neg (by decide), jm_65, jm_66, jm_67]
            exact km_set post K h30 hX hrc (own.trans hj) (jmFJ (FJm.refl m5)) (jm_o (by omega)) (jm_o (by omega)) jv.1 jv.2.1 jv.2.2
        · rw [if_neg (fun q => xB (xb.2.2.1.1 (ra.1.symm.trans q)))]
          exact km_bad post K h30 ⟨by omega, by omega⟩ (h5 (by omega)) w.1 hrc (own.trans (if_neg xB)) (FJm.refl m5) rfl rfl
end JUDGEM
