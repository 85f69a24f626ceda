set_option maxRecDepth 100000
/-! the component's parser: atoms -/
section ATOMC
variable {T : MM → Prop} {tk : Int → TK} {N b : Int} {f dep n : Nat} {m0 m : MM} {p o lo s x w kd : Int} {a : PT} {Q K : Int → MM → Prop}
theorem PC.tok (hP : PC m tk N b p o) : (m 368 p = kdS tk p ∧ m 369 p = vlS tk p ∧ (kdS tk p = 2 → m 371 p = nmS' tk p)) ∧ RI (kdS tk p) ∧ (0 ≤ p ∧ p < 401) := by
  obtain ⟨tN, tt⟩ := hP.1.2.1
  have pb := hP.2.2.1
  have t := tt p pb.2.1 pb.2.2.1
  exact ⟨⟨t.1, t.2.1, t.2.2.2.1⟩, t.2.2.2.2.1, by omega⟩
/-- brackets, a matrix, a variable of a ring -/
theorem c_signedC {k0 : Int} (hE : ExC tk N b T f 0 5 13) (hL : LrM tk N b T f) (hf : 20 * (151 - p) + 4 < (f + 1 : Nat)) (hd : 13 * (12 - o) + 2 ≤ dep + 1) (hP : PC m tk N b p o) (hn : m b 0 = k0) (hs : 0 ≤ k0 ∧ 0 ≤ s ∧ k0 + s ≤ p) (k1 : kdS tk p ≠ 1) (k2 : kdS tk p ≠ 2) (k3 : kdS tk p ≠ 3) (k4 : kdS tk p ≠ 4) (h1 : ∀ rs q, bAtom tk (pS tk f) p o = .ok (rs, q) → ExOk tk N b k0 s Q m o rs q) (h0 : ∀ e, bAtom tk (pS tk f) p o = .error e → PEr T b m e) : R_X3_expression (dep + 1) 11 [plS tk p] m Q T := by
  have hb := hP.1.1
  have hb' := tx_b hb
  have pb := hP.2.2.1
  have ob := hP.2.2.2.2
  unfold bAtom at h1 h0
  rw [if_neg k1, if_neg k2, if_neg k4, if_neg k3] at h1 h0
  show W_X3_signed (R_X3_expression dep) (plS tk p) m Q T
  refine c_signP (by decide) hP (fun y => ⟨by decide, ?_⟩) (fun y => ⟨by decide, ?_⟩)
  · rw [if_neg (by decide)]
    rw [if_pos y] at h1 h0
    refine c_opensP hP (sg_kd y) (fun m1 a1 g1 P1 => ?_) (fun e z => h0 e (by rw [z]; rfl))
    have F1 : Fnw b k0 m m1 := Fnw.refl.s3 g1
    rw [a1] at h1 h0
    have n1 : m1 b 0 = k0 := by rw [g1 _ _ (by omega)]; exact hn
    refine hE dep (p + 1) (o + 1) k0 (s + 1) m1 _ (by omega) (by omega) P1 n1 (by omega) (fun rs q hq r m2 P2 F2 T2 n2 => ?_) (fun e z => F1.per hb (h0 e (by show (pS tk f 0 acc0 (p + 1) (o + 1) >>= _) = _; rw [z]; rfl)))
    have F12 := F1.trans F2 (Int.le_refl _)
    refine c_closesP (by decide) P2 (by omega) (fun m3 a3 g3 P3 => ?_) (fun e z => F12.per hb (h0 e (by show (pS tk f 0 acc0 (p + 1) (o + 1) >>= _) = _; rw [hq]; show (ndS tk 41 q >>= _) = _; rw [z]; rfl)))
    rw [show o + 1 - 1 = o by omega] at P3
    have n3 : m3 b 0 = m2 b 0 := g3 _ _ (by omega)
    refine h1 [[fstP rs]] (q + 1) (by show (pS tk f 0 acc0 (p + 1) (o + 1) >>= _) = _; rw [hq]; show (ndS tk 41 q >>= _) = _; rw [a3]; rfl) r m3 P3 (F12.s3 g3) ?_ (by omega)
    rw [n3]
    exact T2.fr (fun c i z _ _ => g3 c i (by omega))
  rw [if_neg y] at h1 h0
  rw [if_pos rfl]
  refine c_signP (by decide) hP (fun y1 => ⟨by decide, ?_⟩) (fun y1 => ⟨by decide, ?_⟩)
  · rw [if_neg (by decide)]
    rw [if_pos y1] at h1 h0
    obtain ⟨d', rfl⟩ : ∃ d', dep = d' + 1 := ⟨dep - 1, by omega⟩
    refine c_matC hL (by omega) (by omega) hP (sg_kd y1) hn hs (fun rs q a1 hq a3 r m' P' F' T' n' => h1 [[((7, plS tk p, rowsN rs, 0), chT rs.flatten)]] (q + 1) ?_ r m' P' F' T' n') (fun e z => h0 e (by rw [z]; rfl)) (fun e a1 z => h0 e ?_) (fun rs q e a1 hq z => h0 e ?_)
    · rw [a1]; show (pS tk f 22 acc0 (p + 1) (o + 1) >>= _) = _; rw [hq]; show (ndS tk 93 q >>= _) = _; rw [a3]; rfl
    · rw [a1]; show (pS tk f 22 acc0 (p + 1) (o + 1) >>= _) = _; rw [z]; rfl
    · rw [a1]; show (pS tk f 22 acc0 (p + 1) (o + 1) >>= _) = _; rw [hq]; show (ndS tk 93 q >>= _) = _; rw [z]; rfl
  rw [if_neg y1] at h1 h0
  rw [if_pos rfl]
  refine c_signP (by decide) hP (fun y2 => ⟨by decide, ?_⟩) (fun y2 => ⟨by decide, ?_⟩)
  · rw [if_neg (by decide)]
    rw [if_pos y2] at h1 h0
    unfold P_X3_signed_56
    rw [hP.2.1]
    refine ⟨hb, c_newC hP hn (by omega) (by decide) (fun m1 f1 n1 P1 d1 => ?_)⟩
    have F1 : Fnw b k0 m m1 := Fnw.refl.ad (Int.le_refl _) f1
    refine c_goP P1 (sg_kd y2) (fun m2 a2 g2 P2 => ?_) (fun e z => F1.per hb (h0 e (by rw [z]; rfl)))
    rw [a2] at h1 h0
    have F2 := F1.s2 g2
    obtain ⟨⟨t1, t2, -⟩, t3, t4⟩ := P2.tok
    rw [P2.2.2.1.1, t1]
    refine ⟨t4, t3, ?_⟩
    by_cases z1 : kdS tk (p + 1) = 1
    · rw [if_pos z1]
      have K1 : kdE tk 1 (p + 1) = .ok () := by unfold kdE; rw [if_pos z1]
      unfold P_X3_signed_95
      rw [P2.2.1, P2.2.2.1.1, t2]
      refine ⟨hb, t4, by omega, ?_⟩
      rintro m3 rfl
      have P3 := P2.tx (c := b + 4) (i := k0) (v := vlS tk (p + 1)) (by omega)
      have F3 : Fnw b k0 m (up m2 (b + 4) k0 (vlS tk (p + 1))) := F2.tx (by omega) (Int.le_refl _)
      refine c_goP P3 (by have z : (tk (p + 1)).1 = 1 := z1; omega) (fun m4 a4 g4 P4 => ?_) (fun e z => F3.per hb (h0 e (by show (kdE tk 1 (p + 1) >>= _) = _; rw [K1]; show (goS tk (p + 1) >>= _) = _; rw [z]; rfl)))
      obtain ⟨⟨q1, q2, q3, q4⟩, q5, q6⟩ := d1
      have n4 : m4 b 0 = k0 + 1 := by rw [g4 _ _ (by omega), up_ne (by omega), g2 _ _ (by omega)]; exact n1
      refine h1 [[((3, plS tk p, vlS tk (p + 1), 0), lf)]] (p + 1 + 1) (by show (kdE tk 1 (p + 1) >>= _) = _; rw [K1]; show (goS tk (p + 1) >>= _) = _; rw [a4]; rfl) k0 m4 P4 (F3.s2 g4) ?_ (by omega)
      rw [n4]
      refine NdH.nil ⟨⟨?_, ?_, ?_, fun z => ?_⟩, ?_, ?_⟩ (by omega)
      · rw [g4 _ _ (by omega), up_ne (by omega), g2 _ _ (by omega)]; exact q1
      · rw [g4 _ _ (by omega), up_at]
      · rw [g4 _ _ (by omega), up_ne (by omega), g2 _ _ (by omega)]; exact q3
      · exfalso
        have z' : (3 : Int) = 4 ∨ (3 : Int) = 5 ∨ (3 : Int) = 33 ∨ (3 : Int) = 35 := z
        omega
      · rw [g4 _ _ (by omega), up_ne (by omega), g2 _ _ (by omega)]; exact q5
      · rw [g4 _ _ (by omega), up_ne (by omega), g2 _ _ (by omega)]; exact q6
    · rw [if_neg z1]
      refine c_synP P2 (F2.per hb (h0 _ ?_))
      show (kdE tk 1 (p + 1) >>= _) = _
      unfold kdE
      rw [if_neg z1]; rfl
  · rw [if_neg y2] at h1 h0
    rw [if_pos rfl]
    exact c_faultC ((h0 _ rfl).thr hP.2.1)
theorem c_atomC (hE : ExC tk N b T f 0 5 13) (hA : LiA tk N b T f) (hL : LrM tk N b T f) : ExC tk N b T (f + 1) 9 1 4 := by
  intro dep p o k0 s m Q hf hd hP hn hs h1 h0
  have hb := hP.1.1
  have hb' := tx_b hb
  have pb := hP.2.2.1
  have ob := hP.2.2.2.2
  obtain ⟨d, rfl⟩ : ∃ d, dep = d + 1 + 1 := ⟨dep - 2, by omega⟩
  have h1 : ∀ rs q, bAtom tk (pS tk f) p o = .ok (rs, q) → ExOk tk N b k0 s Q m o rs q := h1
  have h0 : ∀ e, bAtom tk (pS tk f) p o = .error e → PEr T b m e := h0
  show W_X3_atom (R_X3_expression (d + 1)) m Q T
  refine c_hereP hP ?_
  obtain ⟨⟨t1, t2, t5⟩, t3, t4⟩ := hP.tok
  rw [pb.1, t1, hP.2.1]
  refine ⟨t4, t3, ?_⟩
  by_cases k1 : kdS tk p = 1
  · rw [if_pos k1]
    unfold bAtom at h1 h0
    rw [if_pos k1] at h1 h0
    refine ⟨hb, c_newC hP hn (by omega) (by decide) (fun m1 f1 n1 P1 d1 => ?_)⟩
    obtain ⟨⟨u1, u2, u5⟩, u3, u4⟩ := P1.tok
    rw [P1.2.1, P1.2.2.1.1, u2]
    refine ⟨hb, t4, by omega, ?_⟩
    rintro m3 rfl
    have P3 := P1.tx (c := b + 4) (i := k0) (v := vlS tk p) (by omega)
    have F3 : Fnw b k0 m (up m1 (b + 4) k0 (vlS tk p)) := (Fnw.refl.ad (Int.le_refl _) f1).tx (by omega) (Int.le_refl _)
    refine c_goP P3 (by have z : (tk p).1 = 1 := k1; omega) (fun m4 a4 g4 P4 => ?_) (fun e z => F3.per hb (h0 e (by rw [z]; rfl)))
    obtain ⟨⟨q1, q2, q3, q4⟩, q5, q6⟩ := d1
    have n4 : m4 b 0 = k0 + 1 := by rw [g4 _ _ (by omega), up_ne (by omega)]; exact n1
    refine h1 [[((0, plS tk p, vlS tk p, 0), lf)]] (p + 1) (by rw [a4]; rfl) k0 m4 P4 (F3.s2 g4) ?_ (by omega)
    rw [n4]
    refine NdH.nil ⟨⟨?_, ?_, ?_, fun z => ?_⟩, ?_, ?_⟩ (by omega)
    · rw [g4 _ _ (by omega), up_ne (by omega)]; exact q1
    · rw [g4 _ _ (by omega), up_at]
    · rw [g4 _ _ (by omega), up_ne (by omega)]; exact q3
    · exfalso
      have z' : (0 : Int) = 4 ∨ (0 : Int) = 5 ∨ (0 : Int) = 33 ∨ (0 : Int) = 35 := z
      omega
    · rw [g4 _ _ (by omega), up_ne (by omega)]; exact q5
    · rw [g4 _ _ (by omega), up_ne (by omega)]; exact q6
  rw [if_neg k1]
  by_cases k2 : kdS tk p = 2
  · rw [if_pos k2]
    unfold bAtom at h1 h0
    rw [if_neg k1, if_pos k2] at h1 h0
    refine ⟨hb, c_addC hb hn (by omega) (fun m1 f1 n1 g1 g2 g3 g4 g5 g6 => ?_)⟩
    have P1 : PC m1 tk N b p o := hP.ag (fun c i z => f1 c i (by omega) (by omega))
    obtain ⟨⟨u1, u2, u5⟩, u3, u4⟩ := P1.tok
    rw [P1.2.1, P1.2.2.1.1, u5 k2]
    refine ⟨hb, t4, by omega, ?_⟩
    rintro m3 rfl
    have P3 := P1.tx (c := b + 9) (i := k0) (v := nmS' tk p) (by omega)
    have F3 : Fnw b k0 m (up m1 (b + 9) k0 (nmS' tk p)) := (Fnw.refl.ad (Int.le_refl _) f1).tx (by omega) (Int.le_refl _)
    refine c_goP P3 (by have z : (tk p).1 = 2 := k2; omega) (fun m4 a4 q4 P4 => ?_) (fun e z => F3.per hb (h0 e (by rw [z]; rfl)))
    rw [a4] at h1 h0
    have F4 := F3.s2 q4
    have n4 : m4 b 0 = k0 + 1 := by rw [q4 _ _ (by omega), up_ne (by omega)]; exact n1
    have e1 : m4 (b + 1) k0 = 4 := by rw [q4 _ _ (by omega), up_ne (by omega)]; exact g1
    have e2 : m4 (b + 2) k0 = -1 := by rw [q4 _ _ (by omega), up_ne (by omega)]; exact g2
    have e3 : m4 (b + 3) k0 = -1 := by rw [q4 _ _ (by omega), up_ne (by omega)]; exact g3
    have e4 : m4 (b + 4) k0 = 0 := by rw [q4 _ _ (by omega), up_ne (by omega)]; exact g4
    have e5 : m4 (b + 5) k0 = plS tk p := by rw [q4 _ _ (by omega), up_ne (by omega)]; exact g5
    have e9 : m4 (b + 9) k0 = nmS' tk p := by rw [q4 _ _ (by omega), up_at]
    refine c_signP (by decide) P4 (fun y => ⟨by decide, ?_⟩) (fun y => ⟨by decide, ?_⟩)
    · rw [if_neg (by decide)]
      have E : ∀ e', (if isSg tk 40 (p + 1) then (opS tk (p + 1) o >>= fun q1 => pS tk f 20 acc0 q1 (o + 1) >>= fun x => ndS tk 41 x.2 >>= fun q3 => oneR ((5, plS tk p, 0, nmS' tk p), chT (fstR x.1)) q3) else oneR ((4, plS tk p, 0, nmS' tk p), lf) (p + 1)) = e' → (Except.ok (p + 1) >>= fun q => if isSg tk 40 q then (opS tk q o >>= fun q1 => pS tk f 20 acc0 q1 (o + 1) >>= fun x => ndS tk 41 x.2 >>= fun q3 => oneR ((5, plS tk p, 0, nmS' tk p), chT (fstR x.1)) q3) else oneR ((4, plS tk p, 0, nmS' tk p), lf) q : RS) = e' := fun e' z => z
      have no : noS tk 40 (p + 1) o = opS tk (p + 1) o := by unfold noS; rw [if_pos y]
      refine c_argsC (d := (5, plS tk p, 0, nmS' tk p)) (s := s) hA (by omega) (by omega) P4 n4 ⟨⟨up_at .., ?_, ?_, fun _ => ?_⟩, ?_, ?_⟩ F4 ⟨Int.le_refl _, hs.1⟩ (by omega) (fun rs q a1 hq a3 m' P' F' T' n' => h1 [[((5, plS tk p, 0, nmS' tk p), chT (fstR rs))]] (q + 1) (E _ ?_) k0 m' P' F' T' n') (fun e z => h0 e (E _ ?_)) (fun e a1 z => h0 e (E _ ?_)) (fun rs q e a1 hq z => h0 e (E _ ?_))
      · rw [up_ne (by omega)]; exact e4
      · rw [up_ne (by omega)]; exact e5
      · rw [up_ne (by omega)]; exact e9
      · rw [up_ne (by omega)]; exact e2
      · rw [up_ne (by omega)]; exact e3
      · rw [if_pos y, ← no, a1]; show (pS tk f 20 acc0 (p + 1 + 1) (o + 1) >>= _) = _; rw [hq]; show (ndS tk 41 q >>= _) = _; rw [a3]; rfl
      · rw [if_pos y, ← no, z]; rfl
      · rw [if_pos y, ← no, a1]; show (pS tk f 20 acc0 (p + 1 + 1) (o + 1) >>= _) = _; rw [z]; rfl
      · rw [if_pos y, ← no, a1]; show (pS tk f 20 acc0 (p + 1 + 1) (o + 1) >>= _) = _; rw [hq]; show (ndS tk 41 q >>= _) = _; rw [z]; rfl
    · rw [if_pos rfl]
      refine h1 [[((4, plS tk p, 0, nmS' tk p), lf)]] (p + 1) (by show (if isSg tk 40 (p + 1) then _ else _) = _; rw [if_neg y]; rfl) k0 m4 P4 F4 ?_ (by omega)
      rw [n4]
      exact NdH.nil ⟨⟨e1, e4, e5, fun _ => e9⟩, e2, e3⟩ (by omega)
  rw [if_neg k2]
  by_cases k3 : kdS tk p = 3
  · rw [if_pos k3]
    unfold bAtom at h1 h0
    rw [if_neg k1, if_neg k2, if_neg (by rw [k3]; decide), if_pos k3] at h1 h0
    have go : (vlS tk p = 12 ∨ vlS tk p = 13) → P_X3_atom_206 (R_X3_expression (d + 1)) Q T (plS tk p) m := by
      intro y
      rw [if_pos y] at h1 h0
      unfold P_X3_atom_206
      rw [hP.2.1]
      have fin : ∀ k, (k = if vlS tk p = 12 then 1 else 2) → P_X2_add b k (plS tk p) m (fun r2 m2 => P_X3_go m2 (fun r3 m3 => Q r2 m3) T) := by
        intro k ek
        have hk : ¬ (k = 4 ∨ k = 5 ∨ k = 33 ∨ k = 35) := by
          by_cases z : vlS tk p = 12
          · rw [if_pos z] at ek; omega
          · rw [if_neg z] at ek; omega
        refine c_newC hP hn (by omega) hk (fun m1 f1 n1 P1 d1 => ?_)
        have F1 : Fnw b k0 m m1 := Fnw.refl.ad (Int.le_refl _) f1
        refine c_goP P1 (by have z : (tk p).1 = 3 := k3; omega) (fun m4 a4 g4 P4 => ?_) (fun e z => F1.per hb (h0 e (by rw [z]; rfl)))
        have n4 : m4 b 0 = k0 + 1 := by rw [g4 _ _ (by omega)]; exact n1
        refine h1 [[((k, plS tk p, 0, 0), lf)]] (p + 1) (by rw [a4, ek]; rfl) k0 m4 P4 (F1.s2 g4) ?_ (by omega)
        rw [n4]
        exact (d1.fr (fun c z => g4 c k0 (by omega))).nil (by omega)
      refine c_keyP (by decide) hP (fun y1 => ⟨by decide, hb, ?_⟩) (fun y1 => ⟨by decide, hb, ?_⟩)
      · rw [if_neg (by decide)]; exact fin 1 (by rw [if_pos y1.2])
      · rw [if_pos rfl]; exact fin 2 (by rw [if_neg (fun z => y1 ⟨k3, z⟩)])
    refine c_keyP (by decide) hP (fun y => ⟨by decide, ?_⟩) (fun y => ⟨by decide, ?_⟩)
    · rw [if_neg (by decide)]; exact go (.inl y.2)
    rw [if_pos rfl]
    refine c_keyP (by decide) hP (fun y1 => ⟨by decide, ?_⟩) (fun y1 => ⟨by decide, ?_⟩)
    · rw [if_neg (by decide)]; exact go (.inr y1.2)
    rw [if_pos rfl]
    refine c_faultC ((h0 _ ?_).thr hP.2.1)
    rw [if_neg (by rintro (z | z); exact y ⟨k3, z⟩; exact y1 ⟨k3, z⟩)]
  rw [if_neg k3]
  by_cases k4 : kdS tk p = 4
  · rw [if_pos k4]
    unfold bAtom at h1 h0
    rw [if_neg k1, if_neg k2, if_pos k4] at h1 h0
    refine ⟨hb, c_newC hP hn (by omega) (by decide) (fun m1 f1 n1 P1 d1 => ?_)⟩
    obtain ⟨⟨u1, u2, u5⟩, u3, u4⟩ := P1.tok
    rw [P1.2.1, P1.2.2.1.1, u2]
    refine ⟨hb, t4, by omega, ?_⟩
    rintro m3 rfl
    have P3 := P1.tx (c := b + 4) (i := k0) (v := vlS tk p) (by omega)
    have F3 : Fnw b k0 m (up m1 (b + 4) k0 (vlS tk p)) := (Fnw.refl.ad (Int.le_refl _) f1).tx (by omega) (Int.le_refl _)
    refine c_goP P3 (by have z : (tk p).1 = 4 := k4; omega) (fun m4 a4 q4 P4 => ?_) (fun e z => F3.per hb (h0 e (by rw [z]; rfl)))
    rw [a4] at h1 h0
    have F4 := F3.s2 q4
    have n4 : m4 b 0 = k0 + 1 := by rw [q4 _ _ (by omega), up_ne (by omega)]; exact n1
    obtain ⟨⟨e1, e4, e5, e9⟩, e2, e3⟩ := d1
    have E : ∀ e', (noS tk 40 (p + 1) o >>= fun q1 => pS tk f 20 acc0 q1 (o + 1) >>= fun x => ndS tk 41 x.2 >>= fun q3 => oneR ((6, plS tk p, vlS tk p, 0), chT (fstR x.1)) q3) = e' → (Except.ok (p + 1) >>= fun q => noS tk 40 q o >>= fun q1 => pS tk f 20 acc0 q1 (o + 1) >>= fun x => ndS tk 41 x.2 >>= fun q3 => oneR ((6, plS tk p, vlS tk p, 0), chT (fstR x.1)) q3 : RS) = e' := fun e' z => z
    refine c_argsC (d := (6, plS tk p, vlS tk p, 0)) (s := s) hA (by omega) (by omega) P4 n4 ⟨⟨up_at .., ?_, ?_, fun z => ?_⟩, ?_, ?_⟩ F4 ⟨Int.le_refl _, hs.1⟩ (by omega) (fun rs q a1 hq a3 m' P' F' T' n' => h1 [[((6, plS tk p, vlS tk p, 0), chT (fstR rs))]] (q + 1) (E _ ?_) k0 m' P' F' T' n') (fun e z => h0 e (E _ ?_)) (fun e a1 z => h0 e (E _ ?_)) (fun rs q e a1 hq z => h0 e (E _ ?_))
    · rw [up_ne (by omega), q4 _ _ (by omega), up_at]
    · rw [up_ne (by omega), q4 _ _ (by omega), up_ne (by omega)]; exact e5
    · exfalso
      have z' : (6 : Int) = 4 ∨ (6 : Int) = 5 ∨ (6 : Int) = 33 ∨ (6 : Int) = 35 := z
      omega
    · rw [up_ne (by omega), q4 _ _ (by omega), up_ne (by omega)]; exact e2
    · rw [up_ne (by omega), q4 _ _ (by omega), up_ne (by omega)]; exact e3
    · rw [a1]; show (pS tk f 20 acc0 (p + 1 + 1) (o + 1) >>= _) = _; rw [hq]; show (ndS tk 41 q >>= _) = _; rw [a3]; rfl
    · rw [z]; rfl
    · rw [a1]; show (pS tk f 20 acc0 (p + 1 + 1) (o + 1) >>= _) = _; rw [z]; rfl
    · rw [a1]; show (pS tk f 20 acc0 (p + 1 + 1) (o + 1) >>= _) = _; rw [hq]; show (ndS tk 41 q >>= _) = _; rw [z]; rfl
  rw [if_neg k4]
  exact c_signedC hE hL (by omega) (by omega) hP hn hs k1 k2 k3 k4 h1 h0
/-- all of it, by induction on fuel -/
def ExA (tk : Int → TK) (N b : Int) (T : MM → Prop) (f : Nat) : Prop := (ExC tk N b T f 0 5 13 ∧ ExC tk N b T f 1 4 12 ∧ ExC tk N b T f 2 3 11 ∧ ExC tk N b T f 3 8 10 ∧ ExC tk N b T f 4 10 9 ∧ ExC tk N b T f 5 12 8 ∧ ExC tk N b T f 6 9 7 ∧ ExC tk N b T f 7 7 6 ∧ ExC tk N b T f 8 2 5 ∧ ExC tk N b T f 9 1 4) ∧ (LoC tk N b T f 11 11 P_X3_either_5 ∧ LoC tk N b T f 12 10 P_X3_both_5 ∧ LoC tk N b T f 15 7 P_X3_sum_5 ∧ LoC tk N b T f 16 6 P_X3_product_5 ∧ LoC tk N b T f 18 0 P_X3_behind_5) ∧ (LiA tk N b T f ∧ LiM tk N b T f ∧ LrM tk N b T f)
theorem ex_no {md id : Nat} {l : Int} (hl : 0 ≤ l) : ExC tk N b T 0 md id l := fun dep p o k0 s m Q hf _ hP => by have := hP.2.2.1; omega
theorem lo_no {lp : Nat} {l : Int} {P : PLo} : LoC tk N b T 0 lp l P := fun dep n p o lo s x a m0 m Q hf _ _ hP => by have := hP.2.2.1; omega
theorem c_allC : ∀ f : Nat, ExA tk N b T f := by
  intro f
  induction f with
  | zero =>
    refine ⟨⟨ex_no (by decide), ex_no (by decide), ex_no (by decide), ex_no (by decide), ex_no (by decide), ex_no (by decide), ex_no (by decide), ex_no (by decide), ex_no (by decide), ex_no (by decide)⟩, ⟨lo_no, lo_no, lo_no, lo_no, lo_no⟩, ?_, ?_, ?_⟩
    · intro dep n p o lo s x l d acc m0 m Q hf _ _ hP; have := hP.2.2.1; omega
    · intro dep n p o lo s x l x3 x5 x6 c K28 d acc m0 m Q hf _ _ hP; have := hP.2.2.1; omega
    · intro dep n p o lo s x l d rws m0 m Q hf _ _ hP; have := hP.2.2.1; omega
  | succ f ih =>
    obtain ⟨⟨x0, x1, x2, x3, x4, x5, x6, x7, x8, x9⟩, ⟨l11, l12, l15, l16, l18⟩, ia, im, ir⟩ := ih
    have lev : ∀ {md lo' lp id : Nat} {l l' : Int} {P : PLo} (id' : Nat), ExC tk N b T f lo' id l → LoC tk N b T f lp l' P → l' ≤ l ∧ 3 ≤ l → lo' < 10 → (∀ p o, pS tk (f + 1) md acc0 p o = bLev (pS tk f) lo' lp p o) → (∀ (d : Nat) m Q, R_X3_expression d id [] m (fun r1 m1 => ∃ nn, P (R_X3_expression d) Q T nn r1 m1) T → R_X3_expression (d + 1) id' [] m Q T) → ExC tk N b T (f + 1) md id' (l + 1) := by
      intro md lo' lp id l l' P id' hE hL hl hlt heq hW dep p o k0 s m Q hf hd hP hn hs h1 h0
      obtain ⟨d, rfl⟩ : ∃ d, dep = d + 1 := ⟨dep - 1, by have := hP.2.2.2.2; omega⟩
      exact hW d m Q (c_levC hE hL hl hlt heq hf (by omega) hP hn hs h1 h0)
    refine ⟨⟨c_exprC x0 x1, lev 4 x2 l11 (by decide) (by decide) (fun _ _ => rfl) (fun _ _ _ h => h), lev 3 x3 l12 (by decide) (by decide) (fun _ _ => rfl) (fun _ _ _ h => h), c_negC x3 x4, c_relC x5, lev 12 x6 l15 (by decide) (by decide) (fun _ _ => rfl) (fun _ _ _ h => h), lev 9 x7 l16 (by decide) (by decide) (fun _ _ => rfl) (fun _ _ _ h => h), c_minusC x7 x8, lev 2 x9 l18 (by decide) (by decide) (fun _ _ => rfl) (fun _ _ _ h => h), c_atomC x0 ia ir⟩, ⟨c_eitherC x2 l11, c_bothC x3 l12, c_sumC x6 l15, c_prodC x7 l16, c_behindC l18⟩, c_liA x0 ia, c_liM x0 im, c_lrM im ir⟩
end ATOMC
