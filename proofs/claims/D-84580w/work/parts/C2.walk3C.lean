set_option maxRecDepth 100000
/-! the component: rings of all parts -/
section WALK3
variable {Q : Int → MM → Prop} {T : MM → Prop} {b : Int} {e : JE} {d : ND} {c : TT} {m : MM} {n : Nte} {lo hi k : Int} {dep : Nat}
/-- a part of one -/
theorem oneC (hk : d.1 = 11 ∨ d.1 = 22 ∨ d.1 = 23) (w : okN d c) (wc : wfT c) (hC : JCon (R_X5_part dep) b e T c) (hE : ECj m b e) (hT : TN m b d c lo hi k) (hn : NC m n) (post : JPost m b e d c lo hi k n Q) {Q1 : Int → MM → Prop} (h0 : ∀ m1, FJd b lo hi m m1 → ECj m1 b e → allS (jdS e c).1 = none → Q (-3) m1 → Q1 (-3) m1) (h1 : ∀ m1 a, ok3 a → FJd b lo hi m m1 → ECj m1 b e → TN m1 b d c lo hi k → (∀ x, ownS e d [a] = some x → Q (encC x) m1) → (ownS e d [a] = none → P_X5_fail 4 (m1 (b + 5) k) m1 Q) → Q1 (encC a) m1) : R_X5_part dep 4 [m (b + 2) k] m Q1 T := by
  have h30 : d.1 < 30 := by omega
  have n34 : ¬ (d.1 = 3 ∨ d.1 = 4) := by omega
  have h5 : d.1 = 5 → e.2.2.1 d.2.2.2 := fun q => by exfalso; omega
  have ar := okN_ar w (by omega)
  have l1 : lenT c = 1 := by have := ar.1; unfold arT at this; omega
  have hb := hE.2.1
  have bx := hb
  unfold isTx at bx
  cases c with
  | leaf => exact absurd l1 (by decide)
  | inner z a u ca s =>
    have sl : s = .leaf := by
      cases s with
      | leaf => rfl
      | inner z2 d2 u2 c2 s2 =>
        exfalso
        have : lenT s2 + 1 + 1 = 1 := l1
        omega
    subst sl
    obtain ⟨wa, wca, -⟩ := wc
    obtain ⟨cl, ch, t2, ⟨e1, e4, e5, e9⟩, t4⟩ := id hT
    obtain ⟨mid, t5, t6, t7⟩ := TF_cons.1 t4
    have J1 : (jdS e (.inner z a u ca .leaf)).1 = [rgS e a ca] ∧ (jdS e (.inner z a u ca .leaf)).2 = ntS e a ca := ⟨rfl, mn_none⟩
    have oka := fun x hx => rgS_ok hE.ok wa wca (x := x) hx
    refine hC.1 (by have := ar.2.1; omega) m n cl mid _ _ hE t6 hn (fun m1 f1 n1 a1 => ?_)
    have f1' : FJd b lo hi m m1 := f1.mono (by omega) (by omega)
    have E1 := hE.fj f1'
    have T1 := hT.fj hb f1'
    have n1' : NC m1 (mn n (jdS e (.inner z a u ca .leaf)).2) := by rw [J1.2]; exact n1
    obtain ⟨cl3, ch3, t23, ⟨e13, e43, e53, e93⟩, t43⟩ := id T1
    rcases hx : rgS e a ca with - | x
    · have hrc : allS (jdS e (.inner z a u ca .leaf)).1 = none := by rw [J1.1, hx]; rfl
      exact h0 m1 f1' E1 hrc (own_none post f1' n1' h30 h5 hrc)
    · have hrc : allS (jdS e (.inner z a u ca .leaf)).1 = some [x] := by rw [J1.1, hx]; rfl
      have aR : AnR m1 b e d (.inner z a u ca .leaf) k := by
        refine ⟨fun q => by exfalso; omega, fun q => by exfalso; omega, fun _ => ?_⟩
        rw [f1.st hb (by omega)]
        exact AnF_cons.2 ⟨a1 x hx, trivial⟩
      exact h1 m1 x (oka x hx) f1' E1 T1 (fun y hy => own_good post f1' n1' h30 h5 hrc hy aR) (fun hy => own_bad post f1' n1' w.1 e53 (if_neg n34).symm h30 h5 hrc hy)
theorem own_one {a : R3} (hk : d.1 = 11 ∨ d.1 = 22 ∨ d.1 = 23) : ownS e d [a] = if d.1 = 11 then (if a.1 = -2 then some (-2, 0, 0) else none) else if d.1 = 22 then (if a.1 = -2 then none else some a) else (if a.1 ≠ -2 ∧ d.2.2.1 ≤ 12 then some a else none) := by
  unfold ownS
  rw [if_neg (by omega), if_neg (by omega), if_neg (by omega), if_neg (by omega), if_neg (by omega), if_neg (by omega), if_neg (by omega), if_neg (by omega)]
/-- a part without parts -/
theorem leafC (hk : 0 ≤ d.1 ∧ d.1 ≤ 4) (w : okN d c) : c = .leaf := by
  have ar := okN_ar w (by omega)
  cases c with
  | leaf => rfl
  | inner z a u ca s =>
    exfalso
    have := ar.1
    unfold arT at this
    have l : lenT (Std.DTreeMap.Internal.Impl.inner z a u ca s) = lenT s + 1 := rfl
    omega
theorem ringOfC (w : okN d c) (wc : wfT c) (hk : 0 ≤ d.1 ∧ d.1 ≤ 25) (hC : ∀ dep', 4 * htT c ≤ dep' → JCon (R_X5_part dep') b e T c) (hd : 4 * htT c ≤ dep) (hE : ECj m b e) (hT : TN m b d c lo hi k) (hn : NC m n) (post : JPost m b e d c lo hi k n Q) : W_X5_ringOf (R_X5_part (dep + 2)) k m Q T := by
  have h30 : d.1 < 30 := by omega
  have hb := hE.2.1
  have bx := hb
  unfold isTx at bx
  obtain ⟨cl, ch, t2, ⟨e1, e4, e5, e9⟩, t4⟩ := id hT
  have kb : 0 ≤ k ∧ k < 160 := by omega
  have C0 := hC dep hd
  have C2 := hC (dep + 2) (by omega)
  have C1 := hC (dep + 1) (by omega)
  unfold W_X5_ringOf
  rw [hE.1, e1, e4]
  refine ⟨hb, kb, by constructor <;> omega, ?_⟩
  have nl : (d.1 ≠ 5) → d.1 = 5 → e.2.2.1 d.2.2.2 := fun a q => absurd q a
  -- without parts
  have good : ∀ x, d.1 ≤ 3 → ownS e d [] = some x → Q (encC x) m := by
    intro x q hx
    have cl' : c = .leaf := leafC (by omega) w
    subst cl'
    exact own_good post (FJd.refl m) (by rw [show (jdS e .leaf).2 = none from rfl, mn_none]; exact hn) h30 (nl (by omega)) rfl hx ⟨fun q => by exfalso; omega, fun q => by exfalso; omega, fun _ => trivial⟩
  by_cases k0 : d.1 = 0
  · rw [if_pos k0]
    exact of_000 (good (0, 0, 0) (by omega) (by unfold ownS; rw [if_pos k0]))
  rw [if_neg k0]
  by_cases k1 : d.1 = 1
  · rw [if_pos k1]
    exact of_enc (x := (0, 1, 0)) (ok3_n (by decide)) (by decide) (good (0, 1, 0) (by omega) (by unfold ownS; rw [if_neg k0, if_pos k1]))
  rw [if_neg k1]
  by_cases k2 : d.1 = 2
  · rw [if_pos k2]
    exact of_enc (x := (0, 2, 0)) (ok3_n (by decide)) (by decide) (good (0, 2, 0) (by omega) (by unfold ownS; rw [if_neg k0, if_neg k1, if_pos k2]))
  rw [if_neg k2]
  by_cases k3 : d.1 = 3
  · rw [if_pos k3]
    have own : ownS e d [] = e.2.1 d.2.2.1 := by unfold ownS; rw [if_neg k0, if_neg k1, if_neg k2, if_pos k3]
    have cl' : c = .leaf := leafC (by omega) w
    have bad : e.2.1 d.2.2.1 = none → P_X5_ringOf_175 (R_X5_part (dep + 2)) Q T k m := by
      intro q
      unfold P_X5_ringOf_175
      rw [hE.1]
      subst cl'
      exact ⟨hb, kb, own_bad post (FJd.refl m) (by rw [show (jdS e .leaf).2 = none from rfl, mn_none]; exact hn) w.1 e5 (if_pos (Or.inl k3)).symm h30 (nl (by omega)) rfl (own.trans q)⟩
    rcases hE.2.2.2.2 with ⟨F, g, R, q1, q2, q3, q4, q5, q6, q7⟩ | ⟨F, nf, nr, rR, nv, vN, vR, q1, q2, q3, q4, q5⟩
    · rw [q5]
      refine ⟨by decide, ?_⟩
      rw [if_neg (by decide)]
      exact bad (by rw [q1]; rfl)
    · rw [q3, q5.1.1]
      have nrb := q5.1.2.1
      have er : e.2.1 d.2.2.1 = if d.2.2.1 < nr then some (rR d.2.2.1) else none := by rw [q1]; rfl
      refine ⟨by decide, ?_⟩
      rw [if_pos rfl]
      have v0 := w.2.1
      refine ⟨by constructor <;> omega, by constructor <;> omega, ?_⟩
      by_cases c3 : d.2.2.1 < nr
      · rw [if_pos c3]
        rw [if_pos c3] at er
        obtain ⟨y1, y2⟩ := q5.1.2.2 d.2.2.1 v0.1 c3
        refine ⟨by omega, ?_⟩
        rw [y1]
        exact good (rR d.2.2.1) (by omega) (own.trans er)
      · rw [if_neg c3]
        rw [if_neg c3] at er
        exact bad er
  rw [if_neg k3]
  by_cases k4 : d.1 = 4
  · rw [if_pos k4]
    have own : ∀ o, o = e.1 d.2.2.2 → ownS e d [] = match o with
        | none => none
        | some x => some x.2 := by
      intro o ho
      unfold ownS
      rw [if_neg k0, if_neg k1, if_neg k2, if_neg k3, if_pos k4, ← ho]
      rcases o with - | x <;> rfl
    have cl' : c = .leaf := leafC (by omega) w
    subst cl'
    have nn : NC m (mn n (jdS e .leaf).2) := by rw [show (jdS e .leaf).2 = none from rfl, mn_none]; exact hn
    refine c_namedC hE hn kb w.2.2.1 (e9 (by omega)) e5 w.1 (fun i x m1 hx ox ib f1 n1 e7 => ?_) (fun m1 hx f1 n1 => ?_)
    · have f1' : FJd b lo hi m m1 := f1.mono (by omega) (by omega)
      exact own_good post f1' (by rw [show (jdS e .leaf).2 = none from rfl, mn_none]; exact n1) h30 (nl (by omega)) rfl (own _ hx.symm) ⟨fun _ i' x' hx' => by rw [hx] at hx'; cases hx'; exact e7, fun q => by exfalso; omega, fun _ => trivial⟩
    · have f1' : FJd b lo hi m m1 := f1.mono (by omega) (by omega)
      obtain ⟨r1, r2⟩ := nd_bad (e := e) (c := .leaf) h30 (nl (by omega)) rfl (own none hx.symm)
      have := post m1 f1' (by rw [r2, if_pos (Or.inr k4), show (jdS e .leaf).2 = none from rfl]; exact n1) (fun x hx => by rw [r1] at hx; cases hx)
      rw [r1] at this
      exact this
  rw [if_neg k4]
  by_cases k5 : d.1 = 5
  · rw [if_pos k5]; exact toP0 (callC k5 w wc C0 hE hT hn post)
  rw [if_neg k5]
  by_cases k6 : d.1 = 6
  · rw [if_pos k6]; exact toP2 (functionC k6 w wc C0 hE hT hn post)
  rw [if_neg k6]
  by_cases k7 : d.1 = 7
  · rw [if_pos k7]; exact toP3 (matrixC k7 w wc C0 hE hT hn post)
  rw [if_neg k7]
  by_cases k8 : d.1 = 8
  · rw [if_pos k8]; exact toP1 (choiceC k8 w wc C0 hE hT hn post)
  rw [if_neg k8]
  by_cases k11 : d.1 = 11
  · rw [if_pos k11]
    refine oneC (Or.inl k11) w wc C2 hE hT hn post (fun m1 f1 E1 hrc q => ?_) (fun m1 a oa f1 E1 T1 gd bd => ?_)
    · refine ⟨by decide, ?_⟩
      rw [if_pos rfl]
      exact q
    · have xa := encC_bd oa
      have ow := own_one (e := e) (a := a) (d := d) (Or.inl k11)
      rw [if_pos k11] at ow
      refine ⟨xa.1, ?_⟩
      by_cases aB : a.1 = -2
      · have x2 := xa.2.1 aB
        rw [if_neg (by omega), if_pos x2, x2]
        rw [if_pos aB] at ow
        exact gd (-2, 0, 0) ow
      · have x2 := xa.2.2 aB
        rw [if_neg (by omega), if_neg (by omega), E1.1]
        rw [if_neg aB] at ow
        exact ⟨hb, bd ow⟩
  rw [if_neg k11]
  by_cases k22 : d.1 = 22
  · rw [if_pos k22]
    refine oneC (Or.inr (Or.inl k22)) w wc C2 hE hT hn post (fun m1 f1 E1 hrc q => ?_) (fun m1 a oa f1 E1 T1 gd bd => ?_)
    · refine ⟨by decide, ?_⟩
      rw [if_neg (by decide)]
      exact q
    · have xa := encC_bd oa
      have ow := own_one (e := e) (a := a) (d := d) (Or.inr (Or.inl k22))
      rw [if_neg k11, if_pos k22] at ow
      refine ⟨xa.1, ?_⟩
      by_cases aB : a.1 = -2
      · have x2 := xa.2.1 aB
        rw [if_pos x2, E1.1]
        rw [if_pos aB] at ow
        exact ⟨hb, bd ow⟩
      · have x2 := xa.2.2 aB
        rw [if_neg (by omega)]
        rw [if_neg aB] at ow
        exact gd a ow
  rw [if_neg k22]
  by_cases k23 : d.1 = 23
  · rw [if_pos k23]
    refine oneC (Or.inr (Or.inr k23)) w wc C2 hE hT hn post (fun m1 f1 E1 hrc q => ?_) (fun m1 a oa f1 E1 T1 gd bd => ?_)
    · refine ⟨by decide, ?_⟩
      rw [if_pos rfl]
      exact q
    · have xa := encC_bd oa
      have ow := own_one (e := e) (a := a) (d := d) (Or.inr (Or.inr k23))
      rw [if_neg k11, if_neg k22] at ow
      obtain ⟨cl3, ch3, t23, ⟨e13, e43, e53, e93⟩, t43⟩ := id T1
      have bad : ownS e d [a] = none → P_X5_ringOf_368 (R_X5_part (dep + 2)) Q T k m1 := by
        intro q
        unfold P_X5_ringOf_368
        rw [E1.1]
        exact ⟨hb, kb, bd q⟩
      refine ⟨xa.1, ?_⟩
      by_cases aB : a.1 = -2
      · have x2 := xa.2.1 aB
        rw [if_neg (by omega), if_pos x2]
        exact bad (by rw [ow, if_neg (fun q => q.1 aB)])
      · have x2 := xa.2.2 aB
        have v0 := w.2.1
        rw [if_neg (by omega), if_neg (by omega), E1.1, e43]
        refine ⟨hb, by constructor <;> omega, ?_⟩
        by_cases v12 : 12 < d.2.2.1
        · rw [if_pos v12]
          exact bad (by rw [ow, if_neg (fun q => by have := q.2; omega)])
        · rw [if_neg v12]
          exact gd a (by rw [ow, if_pos ⟨aB, by omega⟩])
  rw [if_neg k23]
  by_cases k24 : d.1 = 24
  · rw [if_pos k24]; exact toP7 (turnedC (Or.inl k24) w wc C1 hE hT hn post)
  rw [if_neg k24]
  by_cases k25 : d.1 = 25
  · rw [if_pos k25]; exact toP7 (turnedC (Or.inr k25) w wc C1 hE hT hn post)
  rw [if_neg k25]
  exact toP8 (twoC (by omega) w wc C0 hE hT hn post)
theorem okN_kind (w : okN d c) (h : d.1 < 30) : 0 ≤ d.1 ∧ d.1 ≤ 25 := by
  rcases w.2.2.2.2.2.2.2.2 with q | q | q | q
  · have := q.1; unfold arT at this; omega
  · omega
  · omega
  · omega
theorem partC : ∀ (t : TT), wfT t → ∀ dep, 4 * htT t ≤ dep → JCon (R_X5_part dep) b e T t := by
  intro t
  induction t with
  | leaf => intro _ dep _; trivial
  | inner z d u c s ihc ihs =>
    intro wt dep hd
    obtain ⟨w, wc, ws⟩ := wt
    have hht : htT c + 1 ≤ htT (Std.DTreeMap.Internal.Impl.inner z d u c s) ∧ htT s ≤ htT (Std.DTreeMap.Internal.Impl.inner z d u c s) := by
      show htT c + 1 ≤ max (htT c + 1) (htT s) ∧ htT s ≤ max (htT c + 1) (htT s)
      omega
    refine ⟨fun h30 m n lo hi k Q hE hT hn post => ?_, ihs ws dep (by omega)⟩
    obtain ⟨dep, rfl⟩ : ∃ q, dep = q + 4 := ⟨dep - 4, by omega⟩
    have hb := hE.2.1
    have bx := hb
    unfold isTx at bx
    refine toP4 (toP6 (ringOfC (dep := dep) w wc (okN_kind w h30) (fun dep' hd' => ihc wc dep' hd') (by omega) hE hT hn (fun m1 f1 n1 a1 => ?_)))
    have E1 := hE.fj f1
    obtain ⟨cl, ch, t2, t3, t4⟩ := id hT
    rw [E1.1]
    refine ⟨hb, by omega, ?_⟩
    rintro m2 rfl
    have f12 : FJd b k (k + 1) m1 (up m1 (b + 6) k (encX (rgS e d c))) := fun c' i' q1 q2 q3 q4 => up_ne (fun z => q1 ⟨Or.inl z.1, by omega, by omega⟩)
    refine post _ (f1.trans (f12.mono (by omega) (by omega))) (n1.congr (up_ne (by omega)) (up_ne (by omega))) (fun x hx => ?_)
    obtain ⟨r1, r2, r3⟩ := a1 x hx
    refine ⟨fun y hy => ?_, fun q i y hy => ?_, fun q rc f R z h1 h2 => ?_, fun q => ?_⟩
    · rw [up_at, hy]
      rfl
    · rw [up_ne (by omega)]
      exact r1 q i y hy
    · rw [up_ne (by omega), up_ne (by omega)]
      exact r2 q rc f R z h1 h2
    · rw [f12.st hb (by omega)]
      have t4' := t4.fj hb f1
      have e2 : m1 (b + 2) k = m (b + 2) k := f1.st hb (by omega) k
      rw [← e2] at t4'
      exact (r3 q).fj hb f12 t4' (by omega)
/-- the rings of a whole text -/
theorem c_partC {t : TT} (hk : d.1 < 30) (w : wfT (nd d c lf)) (hE : ECj m b e) (hT : TN m b d c lo hi k) (hn : NC m n) (h : ∀ m', FJd b lo hi m m' → NC m' (mn n (ntS e d c)) → (∀ x, rgS e d c = some x → AnN m' b e d c k) → Q (encX (rgS e d c)) m') : R_X5_part 640 4 [k] m Q T := by
  have hh : (htT (nd d c lf) : Int) ≤ 160 := by
    obtain ⟨cl, ch, t2, t3, t4⟩ := id hT
    have := TF_ht t4
    show ((max (htT c + 1) 0 : Nat) : Int) ≤ 160
    omega
  exact (partC (nd d c lf) w 640 (by omega)).1 hk m n lo hi k Q hE hT hn h
end WALK3
