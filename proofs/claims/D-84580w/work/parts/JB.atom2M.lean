set_option maxRecDepth 100000
/-! the model's parser: atoms, and all of it -/
section ATOM2M
variable {T : MM → Prop} {tk : Int → TK} {N : Int} {f dep n : Nat} {m0 m m' : MM} {p o lo hi p0 x k k0 w r t first last : Int} {a : PT} {Q K : Int → MM → Prop} {e : Int × Int} {q : Int} {d : ND}
theorem pw_135 {x2 : Int} (hE : ExM tk N T f 0 4 13) (hM : LiI tk N T f) (hf : 20 * (151 - p) + 4 < (f + 1 : Nat)) (hd : 13 * (13 - o) + 3 ≤ dep + 2) (hP : PM m tk N p o k0) (hb : k0 + 2 * (150 - p) ≤ 11900) (hx : x2 = 1 ∧ kdS tk p = 2 ∨ x2 = 3 ∧ kdS tk p = 4) (h1 : ∀ rs q, bAtom tk (pS tk f) p o = .ok (rs, q) → EmOk tk N k0 p Q m o rs q) (h0 : ∀ e, bAtom tk (pS tk f) p o = .error e → EmEr k0 p Q m o e) : P_X10_readAtom_135 (R_X10_readE (dep + 1)) Q T p x2 m := by
  have ob := hP.2.2.2.1.2
  have pb := hP.2.1
  have kb := hP.2.2.2.2
  obtain ⟨⟨u1, u2, u3, u4⟩, u5, uw⟩ := hP.tok
  have rx : RI x2 := by constructor <;> omega
  have n9 : m 589 p = nmS' tk p := u3 (by have z : (tk p).1 = kdS tk p := rfl; omega)
  unfold bAtom at h1 h0
  rcases hx with ⟨rfl, k2⟩ | ⟨rfl, k4⟩
  · rw [if_neg (by omega), if_pos k2] at h1 h0
    refine c_acceptM hP (by have z : (tk p).1 = 2 := k2; omega) (fun m1 g1 P1 f1 => ⟨rx, ?_⟩) (fun e m1 g1 P1 f1 => ⟨rx, ?_⟩)
    · rw [if_pos rfl]
      rw [g1] at h1 h0
      have F1 : FwM k0 m m1 := FwM.refl.f582 (fun c i z => f1 c i (by omega))
      have E : ∀ e', (if isSg tk 40 (p + 1) then (opS tk (p + 1) o >>= fun q1 => pS tk f 20 acc0 q1 (o + 1) >>= fun x => ndS tk 41 x.2 >>= fun q3 => oneR ((5, plS tk p, 0, nmS' tk p), chT (fstR x.1)) q3) else oneR ((4, plS tk p, 0, nmS' tk p), lf) (p + 1)) = e' → (Except.ok (p + 1) >>= fun q => if isSg tk 40 q then (opS tk q o >>= fun q1 => pS tk f 20 acc0 q1 (o + 1) >>= fun x => ndS tk 41 x.2 >>= fun q3 => oneR ((5, plS tk p, 0, nmS' tk p), chT (fstR x.1)) q3) else oneR ((4, plS tk p, 0, nmS' tk p), lf) q : RS) = e' := fun e' z => z
      refine c_isSignM (c := 40) rfl (by decide) (by decide) P1 (fun y => ⟨by decide, ?_⟩) (fun y => ⟨by decide, ?_⟩)
      · rw [if_neg (by decide)]
        have no : noS tk 40 (p + 1) o = opS tk (p + 1) o := by unfold noS; rw [if_pos y]
        refine c_163 (d := (5, plS tk p, 0, nmS' tk p)) hM (by omega) (by omega) P1 ⟨pb.2.1, by omega⟩ (by rw [f1 _ _ (by omega)]; exact u5) hb F1 (.inl ⟨rfl, rfl⟩) rfl (fun _ => by rw [f1 _ _ (by omega)]; exact n9) (fun z => ?_) (fun rs q a1 hq a3 r m' k' P' F' T' n' => h1 [[((5, plS tk p, 0, nmS' tk p), chT (fstR rs))]] (q + 1) (E _ ?_) r m' k' P' F' T' n') (fun e z => h0 e (E _ ?_)) (fun e a1 z => h0 e (E _ ?_)) (fun rs q e a1 hq z => h0 e (E _ ?_))
        · exfalso; simp [fstP] at z
        · rw [if_pos y, ← no, a1]; show (pS tk f 20 acc0 (p + 1 + 1) (o + 1) >>= _) = _; rw [hq]; show (ndS tk 41 q >>= _) = _; rw [a3]; rfl
        · rw [if_pos y, ← no, z]; rfl
        · rw [if_pos y, ← no, a1]; show (pS tk f 20 acc0 (p + 1 + 1) (o + 1) >>= _) = _; rw [z]; rfl
        · rw [if_pos y, ← no, a1]; show (pS tk f 20 acc0 (p + 1 + 1) (o + 1) >>= _) = _; rw [hq]; show (ndS tk 41 q >>= _) = _; rw [z]; rfl
      · rw [if_pos rfl]
        refine c_nodeM P1.2.2.2.2.1 ⟨by omega, by omega⟩ (by omega) (fun m2 f2 e15 e590 e591 e592 e593 e594 e595 e597 e605 => ?_)
        rw [f1 _ _ (by omega)] at e595 e605
        rw [u5] at e595
        rw [n9] at e605
        exact h1 [[((4, plS tk p, 0, nmS' tk p), lf)]] (p + 1) (by show (if isSg tk 40 (p + 1) then _ else _) = _; rw [if_neg y]; rfl) k0 m2 (k0 + 1) (P1.nd f2 e15) (F1.ad (Int.le_refl _) f2) (TNB.lf (d := (4, plS tk p, 0, nmS' tk p)) (by show (0 : Int) ≤ 4 ∧ (4 : Int) ≤ 4; decide) (by omega) e590 e595 (fun z => by exfalso; simp [fstP] at z) (fun _ => e605)) (by omega)
    · rw [if_pos rfl]
      refine f_isSign P1 ⟨by decide, ?_⟩
      rw [if_pos rfl]
      exact f_nodeM P1 (by omega) (by omega) (FwM.refl.f582 (fun c i z => f1 c i (by omega))) (Int.le_refl _) (fun m2 P2 F2 => h0 e (by rw [g1]; rfl) k0 m2 p (k0 + 1) P2 F2 (Int.le_refl _) (by omega) (by omega))
  · rw [if_neg (by omega), if_neg (by omega), if_pos k4] at h1 h0
    have w4 := uw.2.2.2.1 k4
    refine c_acceptM hP (by have z : (tk p).1 = 4 := k4; omega) (fun m1 g1 P1 f1 => ⟨rx, ?_⟩) (fun e m1 g1 P1 f1 => ⟨rx, ?_⟩)
    · rw [if_neg (by decide)]
      rw [g1] at h1 h0
      have F1 : FwM k0 m m1 := FwM.refl.f582 (fun c i z => f1 c i (by omega))
      have E : ∀ e', (noS tk 40 (p + 1) o >>= fun q1 => pS tk f 20 acc0 q1 (o + 1) >>= fun x => ndS tk 41 x.2 >>= fun q3 => oneR ((6, plS tk p, vlS tk p, 0), chT (fstR x.1)) q3) = e' → (Except.ok (p + 1) >>= fun q => noS tk 40 q o >>= fun q1 => pS tk f 20 acc0 q1 (o + 1) >>= fun x => ndS tk 41 x.2 >>= fun q3 => oneR ((6, plS tk p, vlS tk p, 0), chT (fstR x.1)) q3 : RS) = e' := fun e' z => z
      refine c_163 (d := (6, plS tk p, vlS tk p, 0)) hM (by omega) (by omega) P1 ⟨pb.2.1, by omega⟩ (by rw [f1 _ _ (by omega)]; exact u5) hb F1 (.inr ⟨rfl, rfl⟩) rfl (fun z => ?_) (fun _ => by rw [f1 _ _ (by omega), n9]; exact w4.2) (fun rs q a1 hq a3 r m' k' P' F' T' n' => h1 [[((6, plS tk p, vlS tk p, 0), chT (fstR rs))]] (q + 1) (E _ ?_) r m' k' P' F' T' n') (fun e z => h0 e (E _ ?_)) (fun e a1 z => h0 e (E _ ?_)) (fun rs q e a1 hq z => h0 e (E _ ?_))
      · exfalso; simp [fstP] at z
      · rw [a1]; show (pS tk f 20 acc0 (p + 1 + 1) (o + 1) >>= _) = _; rw [hq]; show (ndS tk 41 q >>= _) = _; rw [a3]; rfl
      · rw [z]; rfl
      · rw [a1]; show (pS tk f 20 acc0 (p + 1 + 1) (o + 1) >>= _) = _; rw [z]; rfl
      · rw [a1]; show (pS tk f 20 acc0 (p + 1 + 1) (o + 1) >>= _) = _; rw [hq]; show (ndS tk 41 q >>= _) = _; rw [z]; rfl
    · rw [if_neg (by decide)]
      exact f_163 P1 rx (by omega) (by omega) (by omega) (FwM.refl.f582 (fun c i z => f1 c i (by omega))) (Int.le_refl _) (fun r m2 P2 F2 => h0 e (by rw [g1]; rfl) r m2 p (k0 + 1) P2 F2 (Int.le_refl _) (by omega) (by omega))
theorem c_atomM (hE : ExM tk N T f 0 4 13) (hM : LiI tk N T f) (hL : LrI tk N T f) : ExM tk N T (f + 1) 9 1 4 := by
  intro dep p o k0 m Q hf hd hP hb h1 h0
  have ob := hP.2.2.2.1.2
  have pb := hP.2.1
  have kb := hP.2.2.2.2
  obtain ⟨d, rfl⟩ : ∃ d, dep = d + 1 + 1 := ⟨dep - 2, by omega⟩
  have h1 : ∀ rs q, bAtom tk (pS tk f) p o = .ok (rs, q) → EmOk tk N k0 p Q m o rs q := h1
  have h0 : ∀ e, bAtom tk (pS tk f) p o = .error e → EmEr k0 p Q m o e := h0
  have P135 := fun (x2 : Int) (hx : x2 = 1 ∧ kdS tk p = 2 ∨ x2 = 3 ∧ kdS tk p = 4) => pw_135 hE hM hf (by omega) hP hb hx h1 h0 (dep := d)
  obtain ⟨⟨u1, u2, u3, u4⟩, u5, uw⟩ := hP.tok
  have kt := kT_5 uw.1
  have u1 : m 587 p = kT (kdS tk p) := u1
  have kt : (kT (kdS tk p) = 5 ↔ kdS tk p = 5) ∧ (kT (kdS tk p) = 2 ↔ kdS tk p = 3) ∧ (kT (kdS tk p) = 4 ↔ kdS tk p = 1) ∧ (kT (kdS tk p) = 1 ↔ kdS tk p = 2) ∧ (kT (kdS tk p) = 3 ↔ kdS tk p = 4) ∧ (kT (kdS tk p) = 0 ↔ kdS tk p = 0) ∧ RI (kT (kdS tk p)) := kt
  show W_X10_readAtom (R_X10_readE (d + 1)) m Q T
  unfold W_X10_readAtom
  rw [hP.2.2.1, pb.1, u1]
  refine ⟨by decide, ?_⟩
  rw [if_pos (by decide)]
  refine ⟨by omega, kt.2.2.2.2.2.2, ?_⟩
  -- a leaf behind an accepted token
  have leaf : ∀ (ks v : Int), (0 ≤ ks ∧ ks ≤ 2) → (ks = 0 → m 589 p = v) → (bAtom tk (pS tk f) p o = (goS tk p >>= fun q => oneR ((ks, plS tk p, v, 0), lf) q)) → (∀ m1, goS tk p = .ok (p + 1) → PM m1 tk N (p + 1) o k0 → F911 m m1 → P_X10_node ks (-1) (-1) (-1) p m1 (fun r m2 => Q r m2)) ∧ (∀ e m1, goS tk p = .error e → PF m1 e p o k0 → F911 m m1 → P_X10_node ks (-1) (-1) (-1) p m1 (fun r m2 => Q r m2)) := by
    intro ks v hks hv E
    refine ⟨fun m1 g P1 f1 => ?_, fun e m1 g P1 f1 => ?_⟩
    · refine c_nodeM P1.2.2.2.2.1 ⟨by omega, by omega⟩ (by omega) (fun m2 f2 e15 e590 e591 e592 e593 e594 e595 e597 e605 => ?_)
      rw [f1 _ _ (by omega)] at e595 e605
      rw [u5] at e595
      exact h1 [[((ks, plS tk p, v, 0), lf)]] (p + 1) (by rw [E, g]; rfl) k0 m2 (k0 + 1) (P1.nd f2 e15) ((FwM.refl.f11 f1).ad (Int.le_refl _) f2) (TNB.lf (d := (ks, plS tk p, v, 0)) (by show 0 ≤ ks ∧ ks ≤ 4; omega) (by omega) e590 e595 (fun z => by have z' : ks = 0 ∨ ks = 3 := z; rw [e605]; exact hv (by omega)) (fun z => by exfalso; have z' : ks = 4 := z; omega)) (by omega)
    · exact f_nodeM P1 (by omega) (by omega) (FwM.refl.f11 f1) (Int.le_refl _) (fun m2 P2 F2 => h0 e (by rw [E, g]; rfl) k0 m2 p (k0 + 1) P2 F2 (Int.le_refl _) (by omega) (by omega))
  by_cases k1 : kdS tk p = 1
  · rw [if_pos (kt.2.2.1.2 k1)]
    have E : bAtom tk (pS tk f) p o = (goS tk p >>= fun q => oneR ((0, plS tk p, vlS tk p, 0), lf) q) := by unfold bAtom; rw [if_pos k1]
    have L := leaf 0 (vlS tk p) (by decide) (fun _ => u2 k1) E
    exact c_acceptM hP (by have z : (tk p).1 = 1 := k1; omega) (fun m1 g P1 f1 => L.1 m1 g P1 (fun c i z => f1 c i (by omega))) (fun e m1 g P1 f1 => L.2 e m1 g P1 (fun c i z => f1 c i (by omega)))
  rw [if_neg (fun z => k1 (kt.2.2.1.1 z))]
  refine c_takesKeyM (c := 12) rfl (by decide) hP (fun m1 y g P1 f1 => ⟨by decide, ?_⟩) (fun y => ⟨by decide, ?_⟩) (fun e m1 y g P1 f1 => ⟨by decide, ?_⟩)
  · rw [if_neg (by decide)]
    have y3 : kdS tk p = 3 := y.1
    have E : bAtom tk (pS tk f) p o = (goS tk p >>= fun q => oneR ((1, plS tk p, 0, 0), lf) q) := by unfold bAtom; rw [if_neg k1, if_neg (by omega), if_neg (by omega), if_pos y3, if_pos (.inl y.2), if_pos y.2]
    exact (leaf 1 0 (by decide) (fun z => by exfalso; omega) E).1 m1 g P1 f1
  rotate_left
  · rw [if_neg (by decide)]
    have y3 : kdS tk p = 3 := y.1
    have E : bAtom tk (pS tk f) p o = (goS tk p >>= fun q => oneR ((1, plS tk p, 0, 0), lf) q) := by unfold bAtom; rw [if_neg k1, if_neg (by omega), if_neg (by omega), if_pos y3, if_pos (.inl y.2), if_pos y.2]
    exact (leaf 1 0 (by decide) (fun z => by exfalso; omega) E).2 e m1 g P1 f1
  rw [if_pos rfl]
  refine c_takesKeyM (c := 13) rfl (by decide) hP (fun m1 yy g P1 f1 => ⟨by decide, ?_⟩) (fun yy => ⟨by decide, ?_⟩) (fun e m1 yy g P1 f1 => ⟨by decide, ?_⟩)
  · rw [if_neg (by decide)]
    have y3 : kdS tk p = 3 := yy.1
    have y13 : vlS tk p = 13 := yy.2
    have E : bAtom tk (pS tk f) p o = (goS tk p >>= fun q => oneR ((2, plS tk p, 0, 0), lf) q) := by unfold bAtom; rw [if_neg k1, if_neg (by omega), if_neg (by omega), if_pos y3, if_pos (.inr y13), if_neg (by omega)]
    exact (leaf 2 0 (by decide) (fun z => by exfalso; omega) E).1 m1 g P1 f1
  rotate_left
  · rw [if_neg (by decide)]
    have y3 : kdS tk p = 3 := yy.1
    have y13 : vlS tk p = 13 := yy.2
    have E : bAtom tk (pS tk f) p o = (goS tk p >>= fun q => oneR ((2, plS tk p, 0, 0), lf) q) := by unfold bAtom; rw [if_neg k1, if_neg (by omega), if_neg (by omega), if_pos y3, if_pos (.inr y13), if_neg (by omega)]
    exact (leaf 2 0 (by decide) (fun z => by exfalso; omega) E).2 e m1 g P1 f1
  rw [if_pos rfl]
  refine c_takesSignM (c := 37) rfl (by decide) (by decide) hP (fun m1 yp g P1 f1 => ⟨by decide, ?_⟩) (fun yp => ⟨by decide, ?_⟩) (fun e m1 yp g P1 f1 => ⟨by decide, ?_⟩)
  · rw [if_neg (by decide)]
    have y5 : kdS tk p = 5 := yp.1
    have yv : vlS tk p = 37 := yp.2
    have E : bAtom tk (pS tk f) p o = (kgS tk 1 (p + 1) >>= fun q1 => oneR ((3, plS tk p, vlS tk (p + 1), 0), lf) q1) := by
      unfold bAtom
      rw [if_neg k1, if_neg (by omega), if_neg (by omega), if_neg (by omega), if_neg (fun z => by have z' : vlS tk p = 40 := z.2; omega), if_neg (fun z => by have z' : vlS tk p = 91 := z.2; omega), if_pos yp, g]
      unfold kgS
      show (kdE tk 1 (p + 1) >>= _) = _
      cases kdE tk 1 (p + 1) with
      | error e => rfl
      | ok u => rfl
    have F1 : FwM k0 m m1 := FwM.refl.f11 f1
    have pb1 := P1.2.1
    refine c_needM (kd := 1) rfl (.inl rfl) P1 (fun m2 g2 P2 f2 => ?_) (fun e m2 g2 P2 f2 => ?_)
    · refine c_nodeM P2.2.2.2.2.1 ⟨by omega, by omega⟩ (by omega) (fun m3 f3 e15 e590 e591 e592 e593 e594 e595 e597 e605 => ⟨by omega, by omega, ?_⟩)
      rw [f2 _ _ (by omega), f1 _ _ (by omega), u5] at e595
      have t9 : m3 589 (p + 1) = vlS tk (p + 1) := by
        rw [f3 _ _ (by omega) (by omega), f2 _ _ (by omega)]
        obtain ⟨⟨v1, v2, v3, v4⟩, v5, vw⟩ := P1.tok
        refine v2 ?_
        unfold kgS at g2
        obtain ⟨u, hu, -⟩ := exb g2
        exact kd_ok hu
      rw [t9]
      rintro m4 rfl
      exact h1 [[((3, plS tk p, vlS tk (p + 1), 0), lf)]] (p + 1 + 1) (by rw [E, g2]; rfl) k0 _ (k0 + 1) ((P2.nd f3 e15).up (by decide)) (((F1.f11 f2).ad (Int.le_refl _) f3).nd (by decide) (Int.le_refl _)) (TNB.lf (d := (3, plS tk p, vlS tk (p + 1), 0)) (by show (0 : Int) ≤ 3 ∧ (3 : Int) ≤ 4; decide) (by omega) (by rw [up_ne (by omega)]; exact e590) (by rw [up_ne (by omega)]; exact e595) (fun _ => up_at ..) (fun z => by exfalso; simp [fstP] at z)) (by omega)
    · refine f_nodeM P2 (by omega) (by omega) (F1.f11 f2) (Int.le_refl _) (fun m3 P3 F3 => ⟨by omega, by omega, ?_⟩)
      rintro m4 rfl
      exact h0 e (by rw [E, g2]; rfl) k0 _ (p + 1) (k0 + 1) (P3.up (by decide)) (F3.nd (by decide) (Int.le_refl _)) (by omega) (by omega) (by omega)
  rotate_left
  · rw [if_neg (by decide)]
    have y5 : kdS tk p = 5 := yp.1
    have yv : vlS tk p = 37 := yp.2
    have E : bAtom tk (pS tk f) p o = .error e := by
      unfold bAtom
      rw [if_neg k1, if_neg (by omega), if_neg (by omega), if_neg (by omega), if_neg (fun z => by have z' : vlS tk p = 40 := z.2; omega), if_neg (fun z => by have z' : vlS tk p = 91 := z.2; omega), if_pos yp, g]
      rfl
    refine f_need P1 ?_
    refine f_nodeM P1 (by omega) (by omega) (FwM.refl.f11 f1) (Int.le_refl _) (fun m3 P3 F3 => ⟨by omega, by omega, ?_⟩)
    rintro m4 rfl
    exact h0 e E k0 _ p (k0 + 1) (P3.up (by decide)) (F3.nd (by decide) (Int.le_refl _)) (by omega) (by omega) (by omega)
  rw [if_pos rfl]
  by_cases k2 : kdS tk p = 2
  · have ek : kT (kdS tk p) = 1 := kt.2.2.2.1.2 k2
    rw [ek, if_pos rfl]
    exact P135 1 (.inl ⟨rfl, k2⟩)
  rw [if_neg (fun z => k2 (kt.2.2.2.1.1 z))]
  by_cases k4 : kdS tk p = 4
  · have ek : kT (kdS tk p) = 3 := kt.2.2.2.2.1.2 k4
    rw [ek, if_pos rfl]
    exact P135 3 (.inr ⟨rfl, k4⟩)
  rw [if_neg (fun z => k4 (kt.2.2.2.2.1.1 z))]
  unfold bAtom at h1 h0
  rw [if_neg k1, if_neg k2, if_neg k4] at h1 h0
  by_cases k3 : kdS tk p = 3
  · -- a key that is no part
    rw [if_pos k3, if_neg (by rintro (z | z); exact y ⟨k3, z⟩; exact yy ⟨k3, z⟩)] at h0
    refine c_isSignM (c := 40) rfl (by decide) (by decide) hP (fun z => by exfalso; have z' : kdS tk p = 5 := z.1; omega) (fun _ => ⟨by decide, ?_⟩)
    rw [if_pos rfl]
    refine c_isSignM (c := 91) rfl (by decide) (by decide) hP (fun z => by exfalso; have z' : kdS tk p = 5 := z.1; omega) (fun _ => ⟨by decide, ?_⟩)
    rw [if_pos rfl]
    exact c_failM hP (by decide) (fun m1 P1 f1 => h0 _ rfl 0 m1 p k0 P1 (FwM.refl.f582 (fun c i z => f1 c i (by omega))) (Int.le_refl _) (Int.le_refl _) (by omega))
  rw [if_neg k3] at h1 h0
  refine c_isSignM (c := 40) rfl (by decide) (by decide) hP (fun yb => ⟨by decide, ?_⟩) (fun yb => ⟨by decide, ?_⟩)
  · rw [if_neg (by decide)]
    rw [if_pos yb] at h1 h0
    have no : noS tk 40 p o = opS tk p o := by unfold noS; rw [if_pos yb]
    refine c_openWithM (c := 40) rfl (by decide) (by decide) hP (fun m1 a1 P1 f1 => ?_) (fun e m1 q a1 P1 hq f1 => ?_)
    · rw [← no, a1] at h1 h0
      have F1 : FwM k0 m m1 := FwM.refl.f12 f1
      refine hE (d + 1) (p + 1) (o + 1) k0 m1 _ (by omega) (by omega) P1 (by omega) (fun rs q hq r m2 k2' P2 F2 T2 n2 => ?_) (fun e z r m2 q k2' P2 F2 hq k2a k2b => ?_)
      · have lt := (pS_lt hq).1
        have r2 := T2.rng
        have F2' := F1.trans F2 (Int.le_refl _)
        refine c_closeWithM (c := 41) rfl (by decide) (by decide) P2 ob.1 (fun m3 a3 P3 f3 => ?_) (fun e m3 a3 P3 f3 => ?_)
        · exact h1 [[fstP rs]] (q + 1) (by show (pS tk f 0 acc0 (p + 1) (o + 1) >>= _) = _; rw [hq]; show (ndS tk 41 q >>= _) = _; rw [a3]; rfl) r m3 k2' P3 (F2'.f12 f3) (T2.fr f3.agm r2.1 (Int.le_refl _) (Int.le_refl _) r2.2.2.2) (by omega)
        · exact h0 e (by show (pS tk f 0 acc0 (p + 1) (o + 1) >>= _) = _; rw [hq]; show (ndS tk 41 q >>= _) = _; rw [a3]; rfl) r m3 q k2' P3 (F2'.f12 f3) (by omega) (by omega) (by omega)
      · refine f_closeWith P2 ob.1 (fun m3 P3 f3 => ?_)
        exact h0 e (by show (pS tk f 0 acc0 (p + 1) (o + 1) >>= _) = _; rw [z]; rfl) r m3 q k2' P3 ((F1.trans F2 (Int.le_refl _)).f12 f3) (by omega) k2a (by omega)
    · rw [← no, a1] at h0
      have pq := P1.1
      refine fe_E (d + 1) e q (o + 1) k0 m1 _ (by omega) P1 ?_
      refine f_closeWith P1 ob.1 (fun m2 P2 f2 => ?_)
      exact h0 e rfl 0 m2 q k0 P2 ((FwM.refl.f12 f1).f12 f2) hq (Int.le_refl _) (by omega)
  rw [if_neg yb] at h1 h0
  rw [if_pos rfl]
  refine c_isSignM (c := 91) rfl (by decide) (by decide) hP (fun ym => ⟨by decide, ?_⟩) (fun ym => ⟨by decide, ?_⟩)
  · rw [if_neg (by decide)]
    rw [if_pos ym] at h1 h0
    have no : noS tk 91 p o = opS tk p o := by unfold noS; rw [if_pos ym]
    refine c_openWithM (c := 91) rfl (by decide) (by decide) hP (fun m1 a1 P1 f1 => ?_) (fun e m1 q a1 P1 hq f1 => ?_)
    · rw [← no, a1] at h1 h0
      have F1 : FwM k0 m m1 := FwM.refl.f12 f1
      rw [P1.2.2.1]
      refine ⟨by decide, ?_⟩
      rw [if_pos rfl]
      refine ⟨f, hL (d + 1) f (p + 1) (o + 1) k0 (p + 1) p (-1) (-1) k0 [] [] m m1 Q (by omega) (Nat.le_refl _) (by omega) (by omega) P1 F1 ⟨⟨rfl, Int.le_refl _⟩, .inl ⟨rfl, rfl, rfl⟩⟩ (by omega) (fun rs q hq fi m2 k2' nss P2 F2 C2 l2 n2 => ?_) (fun e z r m2 q k2' P2 F2 hq k2a k2b => ?_)⟩
      · have lt := (pS_lt hq).1
        have le := C2.le
        have pq := P2.2.1
        rw [List.nil_append] at C2
        refine c_closeWithM (c := 93) rfl (by decide) (by decide) P2 ob.1 (fun m3 a3 P3 f3 => ?_) (fun e m3 a3 P3 f3 => ?_)
        · refine c_nodeM P3.2.2.2.2.1 ⟨by omega, by omega⟩ (by omega) (fun m4 f4 e15 e590 e591 e592 e593 e594 e595 e597 e605 => ?_)
          have t5' : m3 588 p = plS tk p := by rw [f3 _ _ (by omega), F2 _ _ (by omega) (by omega)]; exact u5
          rw [t5'] at e595
          exact h1 [[((7, plS tk p, rowsN rs, 0), chT rs.flatten)]] (q + 1) (by show (pS tk f 22 acc0 (p + 1) (o + 1) >>= _) = _; rw [hq]; show (ndS tk 93 q >>= _) = _; rw [a3]; rfl) k2' m4 (k2' + 1) (P3.nd f4 e15) ((F2.f12 f3).ad (by omega) f4) (TNB.mat (C2.fr (Int.le_refl _) f3.agm) l2 kb.2 (by omega) f4 e590 e591 e595) (by omega)
        · exact f_nodeM P3 (by omega) (by omega) (F2.f12 f3) (by omega) (fun m4 P4 F4 => h0 e (by show (pS tk f 22 acc0 (p + 1) (o + 1) >>= _) = _; rw [hq]; show (ndS tk 93 q >>= _) = _; rw [a3]; rfl) k2' m4 q (k2' + 1) P4 F4 (by omega) (by omega) (by omega))
      · have pq := P2.1
        exact f_350 P2 ob.1 (by omega) (by omega) F2 k2a (fun r' m3 P3 F3 => h0 e (by show (pS tk f 22 acc0 (p + 1) (o + 1) >>= _) = _; rw [z]; rfl) r' m3 q (k2' + 1) P3 F3 (by omega) (by omega) (by omega)) r
    · rw [← no, a1] at h0
      have pq := P1.1
      have ri := P1.ri
      refine ⟨ri.1, ?_⟩
      rw [if_neg ri.2.1]
      refine ⟨1, by decide, ?_⟩
      rw [if_pos rfl]
      exact f_350 P1 ob.1 (by omega) (by omega) (FwM.refl.f12 f1) (Int.le_refl _) (fun r' m3 P3 F3 => h0 e rfl r' m3 q (k0 + 1) P3 F3 hq (by omega) (by omega)) (-1)
  · rw [if_neg ym, if_neg yp] at h0
    rw [if_pos rfl]
    exact c_failM hP (by decide) (fun m1 P1 f1 => h0 _ rfl 0 m1 p k0 P1 (FwM.refl.f582 (fun c i z => f1 c i (by omega))) (Int.le_refl _) (Int.le_refl _) (by omega))
/-- all of it, by induction on fuel -/
def EmA (tk : Int → TK) (N : Int) (T : MM → Prop) (f : Nat) : Prop := (ExM tk N T f 0 4 13 ∧ ExM tk N T f 1 7 12 ∧ ExM tk N T f 2 0 11 ∧ ExM tk N T f 3 6 10 ∧ ExM tk N T f 4 3 9 ∧ ExM tk N T f 5 9 8 ∧ ExM tk N T f 6 8 7 ∧ ExM tk N T f 7 10 6 ∧ ExM tk N T f 8 2 5 ∧ ExM tk N T f 9 1 4) ∧ (LoM tk N T f 11 11 P_X10_readOr_5 ∧ LoM tk N T f 12 10 P_X10_readAnd_5 ∧ LoM tk N T f 15 7 P_X10_readSum_5 ∧ LoM tk N T f 16 6 PLprod ∧ LoM tk N T f 18 0 PLbeh) ∧ (LiI tk N T f ∧ LrI tk N T f)
theorem em_no {md id : Nat} {l : Int} (hl : 0 ≤ l) : ExM tk N T 0 md id l := fun dep p o k0 m Q hf _ hP => by have := hP.2.1; omega
theorem lm_no {lp : Nat} {l : Int} {P : PLo} : LoM tk N T 0 lp l P := fun dep n p o lo p0 x k a m0 m Q hf _ _ hP => by have := hP.2.1; omega
theorem c_allM : ∀ f : Nat, EmA tk N T f := by
  intro f
  induction f with
  | zero =>
    refine ⟨⟨em_no (by decide), em_no (by decide), em_no (by decide), em_no (by decide), em_no (by decide), em_no (by decide), em_no (by decide), em_no (by decide), em_no (by decide), em_no (by decide)⟩, ⟨lm_no, lm_no, lm_no, lm_no, lm_no⟩, ?_, ?_⟩
    · intro dep n p o lo p0 first last k acc ns m0 m Q hf _ _ hP; have := hP.2.1; omega
    · intro dep n p o lo p0 t first last k rws nss m0 m Q hf _ _ _ hP; have := hP.2.1; omega
  | succ f ih =>
    obtain ⟨⟨x0, x1, x2, x3, x4, x5, x6, x7, x8, x9⟩, ⟨l11, l12, l15, l16, l18⟩, ia, ir⟩ := ih
    have lev : ∀ {md lo' lp id : Nat} {l l' : Int} {P : PLo} (id' : Nat), ExM tk N T f lo' id l → LoM tk N T f lp l' P → l' ≤ l ∧ 3 ≤ l → lo' < 10 → (∀ p o, pS tk (f + 1) md acc0 p o = bLev (pS tk f) lo' lp p o) → (∀ (d : Nat) m Q, ∃ W : Int → MM → Prop, (∀ r m1, m1 582 10 = 0 → (∃ nn, P (R_X10_readE d) Q T nn r m1) → W r m1) ∧ (∀ r m1 e q o k, PF m1 e q o k → Q r m1 → W r m1) ∧ (R_X10_readE d id [] m W T → R_X10_readE (d + 1) id' [] m Q T)) → ExM tk N T (f + 1) md id' (l + 1) := by
      intro md lo' lp id l l' P id' hE hL hl hlt heq hW dep p o k0 m Q hf hd hP hb h1 h0
      obtain ⟨d, rfl⟩ : ∃ d, dep = d + 1 := ⟨dep - 1, by have := hP.2.2.2.1.2; omega⟩
      obtain ⟨W, w1, w2, w3⟩ := hW d m Q
      exact w3 (c_levM hE hL hl hlt heq hf (by omega) hP hb w1 w2 h1 h0)
    refine ⟨⟨c_exprM x0 x1, lev 7 x2 l11 (by decide) (by decide) (fun _ _ => rfl) (fun d m Q => ⟨_, fun r m1 _ h => h, fun r m1 e q o k P h => ⟨2, fl_or P (by decide) h⟩, fun h => h⟩), lev 0 x3 l12 (by decide) (by decide) (fun _ _ => rfl) (fun d m Q => ⟨_, fun r m1 _ h => h, fun r m1 e q o k P h => ⟨2, fl_and P (by decide) h⟩, fun h => h⟩), c_notM x3 x4, c_relM x5, lev 9 x6 l15 (by decide) (by decide) (fun _ _ => rfl) (fun d m Q => ⟨_, fun r m1 _ h => h, fun r m1 e q o k P h => ⟨2, fl_sum P (by decide) h⟩, fun h => h⟩), ?_, c_unaryM x7 x8, ?_, c_atomM x0 ia ir⟩, ⟨c_orM x2 l11, c_andM x3 l12, c_sumM x6 l15, c_prodM x7 l16, c_behM l18⟩, c_liI x0 ia, c_lrI ia ir⟩
    · refine lev (P := PLprod) 8 x7 l16 (by decide) (by decide) (fun _ _ => rfl) (fun d m Q => ⟨fun r1 m1 => (RI (m1 582 10)) ∧ (if (m1 582 10) = 0 then ∃ nn, P_X10_readProduct_18 (R_X10_readE d) Q T nn r1 1 m1 else ∃ nn, P_X10_readProduct_18 (R_X10_readE d) Q T nn r1 0 m1), fun r m1 z h => ?_, fun r m1 e q o k P h => ?_, fun h => h⟩)
      · show (RI (m1 582 10)) ∧ (if (m1 582 10) = 0 then _ else _)
        rw [z]; exact ⟨by decide, by rw [if_pos rfl]; exact h⟩
      · have ri := P.ri
        exact ⟨ri.1, by rw [if_neg ri.2.1]; exact ⟨1, fl_prod0 h⟩⟩
    · refine lev (P := PLbeh) 2 x9 l18 (by decide) (by decide) (fun _ _ => rfl) (fun d m Q => ⟨fun r1 m1 => (RI (m1 582 10)) ∧ (if (m1 582 10) = 0 then ∃ nn, P_X10_readBehind_18 (R_X10_readE d) Q T nn r1 1 m1 else ∃ nn, P_X10_readBehind_18 (R_X10_readE d) Q T nn r1 0 m1), fun r m1 z h => ?_, fun r m1 e q o k P h => ?_, fun h => h⟩)
      · show (RI (m1 582 10)) ∧ (if (m1 582 10) = 0 then _ else _)
        rw [z]; exact ⟨by decide, by rw [if_pos rfl]; exact h⟩
      · have ri := P.ri
        exact ⟨ri.1, by rw [if_neg ri.2.1]; exact ⟨1, fl_beh0 h⟩⟩
end ATOM2M
