set_option maxRecDepth 100000
/-! the component's parser: what stands behind -/
section BEHINDC
variable {T : MM → Prop} {tk : Int → TK} {N b : Int} {f dep n : Nat} {m0 m : MM} {p o lo s x w kd : Int} {a : PT} {Q K : Int → MM → Prop}
/-- a ring, and the node over both -/
theorem c_convC (hP : PC m tk N b p o) (fr : Fnw b lo m0 m) (hA : TNs m b a lo (m b 0) x) (hs : 0 ≤ s ∧ m b 0 + s + 1 ≤ p) (hkd : ¬ (kd = 4 ∨ kd = 5 ∨ kd = 33 ∨ kd = 35))
    (h1 : ∀ c q, pT tk 16 p o = .ok (c, q) → ∀ r m', PC m' tk N b q o → Fnw b lo m0 m' → TNs m' b ((kd, w, 0, 0), chT [a, c]) lo (m' b 0) r → m' b 0 + s ≤ q → K r m')
    (e1 : ∀ e, pT tk 16 p o = .error e → PEr T b m0 e) :
    R_X3_type 20 0 [] m (fun r2 m2 => isTx (m 365 1) ∧ P_X2_add_2 (m 365 1) kd w x r2 m2 K) T := by
  have hb := hP.1.1
  have hb' := tx_b hb
  have ra := hA.rng
  have ob := hP.2.2.2.2
  rw [hP.2.1]
  refine c_typeP 16 20 (by decide) p o (m b 0) (s + 1) m _ (by omega) hP rfl (by omega) (fun c q hq r m2 P2 F2 T2 S2 n2 => ⟨hb, ?_⟩) (fun e z => fr.per hb (e1 e z))
  have A2 : TN m2 b a.1 a.2 lo (m b 0) x := (hA.fr (fun c i z z1 z2 => F2 c i (by omega) (by omega) (by omega))).1
  refine c_add2C (a2 := c) hb A2 ⟨T2, S2⟩ rfl (by have := P2.2.2.1; omega) hkd (fun m3 f3 n3 T3 => ?_)
  refine h1 c q hq _ m3 (P2.ag (fun c i z => f3 c i (by omega) (by omega))) (fun c i z z' z'' => ?_) (by rw [n3]; exact T3) (by omega)
  rw [f3 c i (fun y => z ⟨by omega, y.2⟩) z', F2 c i (fun y => z ⟨y.1, by omega⟩) z' z'']
  exact fr c i z z' z''
theorem c_105C {rec : Nat → List Int → MM → (Int → MM → Prop) → (MM → Prop) → Prop} (hP : PC m tk N b p o) (hk : kdS tk p = 1) (fr : Fnw b lo m0 m) (hA : TNs m b a lo (m b 0) x) (hs : 0 ≤ s ∧ m b 0 + s + 1 ≤ p) (hkd : ¬ (kd = 4 ∨ kd = 5 ∨ kd = 33 ∨ kd = 35))
    (h1 : goS tk p = .ok (p + 1) → ∀ r m', PC m' tk N b (p + 1) o → Fnw b lo m0 m' → TNs m' b ((kd, w, vlS tk p, 0), chT [a]) lo (m' b 0) r → m' b 0 + s ≤ p + 1 → K r m')
    (e1 : ∀ e, goS tk p = .error e → PEr T b m0 e) : P_X3_behind_105 rec Q T K x w kd m := by
  have hb := hP.1.1
  have hb' := tx_b hb
  have ra := hA.rng
  have pb := hP.2.2.1
  unfold P_X3_behind_105
  rw [hP.2.1]
  refine ⟨hb, c_newC hP rfl (by omega) hkd (fun m1 f1 n1 P1 d1 => ?_)⟩
  rw [P1.2.1]
  refine ⟨hb, by omega, ?_⟩
  rintro m2 rfl
  have P2 := P1.tx (c := b + 2) (i := m b 0) (v := x) (by omega)
  rw [P2.2.1, P2.2.2.1.1]
  obtain ⟨tN, tt⟩ := P2.1.2.1
  have e2 : up m1 (b + 2) (m b 0) x 369 p = vlS tk p := (tt p pb.2.1 pb.2.2.1).2.1
  rw [e2]
  refine ⟨hb, by omega, ?_⟩
  rintro m3 rfl
  have P3 := P2.tx (c := b + 4) (i := m b 0) (v := vlS tk p) (by omega)
  have F3 : Fnw b lo m0 (up (up m1 (b + 2) (m b 0) x) (b + 4) (m b 0) (vlS tk p)) := ((fr.ad (by omega) f1).tx (by omega) (by omega)).tx (by omega) (by omega)
  refine c_goP P3 (by have z : (tk p).1 = 1 := hk; omega) (fun m4 a4 g4 P4 => ?_) (fun e z => F3.per hb (e1 e z))
  have n4 : m4 b 0 = m b 0 + 1 := by rw [g4 _ _ (by omega), up_ne (by omega), up_ne (by omega)]; exact n1
  obtain ⟨⟨q1, q2, q3, q4⟩, q5, q6⟩ := d1
  refine h1 a4 (m b 0) m4 P4 (F3.s2 g4) ?_ (by omega)
  rw [n4]
  refine ⟨⟨lo, m b 0, by omega, ⟨?_, ?_, ?_, fun z => absurd z hkd⟩, ?_⟩, ?_⟩
  · rw [g4 _ _ (by omega), up_ne (by omega), up_ne (by omega)]; exact q1
  · rw [g4 _ _ (by omega), up_at]
  · rw [g4 _ _ (by omega), up_ne (by omega), up_ne (by omega)]; exact q3
  · rw [g4 _ _ (by omega), up_ne (by omega), up_at]
    exact (hA.fr (fun c i z z1 z2 => by rw [g4 c i (by omega), up_ne (by omega), up_ne (by omega)]; exact f1 c i (by omega) (by omega))).one
  · rw [g4 _ _ (by omega), up_ne (by omega), up_ne (by omega)]; exact q6
theorem c_behindC (hL : LoC tk N b T f 18 0 P_X3_behind_5) : LoC tk N b T (f + 1) 18 0 P_X3_behind_5 := by
  intro dep n p o lo s x a m0 m Q hf hn hd hP fr hA hs h1 h0
  obtain ⟨n', rfl⟩ : ∃ n', n = n' + 1 := ⟨n - 1, by omega⟩
  have hb := hP.1.1
  have hb' := tx_b hb
  have ra := hA.rng
  have E : pS tk (f + 1) 18 a p o = bBehind tk (pS tk f) a p o := rfl
  unfold bBehind at E
  have g70 : ∀ k, ¬ (k = 4 ∨ k = 5 ∨ k = 33 ∨ k = 35) → ¬ isSg tk 94 p → (isSg tk 130 p ∨ isSg tk 33 p) → k = (if isSg tk 33 p then 25 else 24) → P_X3_behind_70 (R_X3_expression dep) Q T (fun z0 z1 => P_X3_behind_5 (R_X3_expression dep) Q T n' z0 z1) x (plS tk p) 0 k m := by
    intro k hk z1 z2 ek
    rw [if_neg z1, if_pos z2, ← ek] at E
    refine c_goP hP (by rcases z2 with z | z <;> exact sg_kd z) (fun m1 a1 g1 P1 => ⟨by decide, ?_⟩) (fun e z => fr.per hb (h0 e (by rw [E, z]; rfl)))
    rw [if_pos rfl]
    have n1 : m1 b 0 = m b 0 := g1 _ _ (by omega)
    rw [a1] at E
    have E1 : pS tk (f + 1) 18 a p o = (pT tk 16 (p + 1) o >>= fun x => pS tk f 18 ((k, plS tk p, 0, 0), chT [a, x.1]) x.2 o) := E
    refine c_convC (m0 := m0) (lo := lo) (a := a) (s := s) P1 (fr.s2 g1) (by rw [n1]; exact hA.fr (fun c i z _ _ => g1 c i (by omega))) (by omega) hk (fun c q hq r m' P' F' T' nn' => ?_) (fun e z => h0 e (by rw [E1, z]; rfl))
    have := pT_lt hq
    exact hL dep n' q o lo s r _ m0 m' Q (by omega) (by omega) hd P' F' T' ⟨hs.1, nn'⟩ (fun rs' q' z => h1 rs' q' (by rw [E1, hq]; exact z)) (fun e z => h0 e (by rw [E1, hq]; exact z))
  have g33 : (isSg tk 94 p ∨ isSg tk 130 p ∨ isSg tk 33 p) → P_X3_behind_33 (R_X3_expression dep) Q T (fun z0 z1 => P_X3_behind_5 (R_X3_expression dep) Q T n' z0 z1) x m := by
    intro hz
    refine c_hereP hP (c_signP (by decide) hP (fun y => ⟨by decide, ?_⟩) (fun y => ⟨by decide, ?_⟩))
    · rw [if_neg (by decide)]
      rw [if_pos y] at E
      refine c_goP hP (sg_kd y) (fun m1 a1 g1 P1 => ⟨by decide, ?_⟩) (fun e z => fr.per hb (h0 e (by rw [E, z]; rfl)))
      rw [if_neg (by decide)]
      have n1 : m1 b 0 = m b 0 := g1 _ _ (by omega)
      rw [a1] at E
      have E1 : pS tk (f + 1) 18 a p o = (kdE tk 1 (p + 1) >>= fun _ => goS tk (p + 1) >>= fun q1 => pS tk f 18 ((23, plS tk p, vlS tk (p + 1), 0), chT [a]) q1 o) := E
      have pb1 := P1.2.2.1
      obtain ⟨tN, tt⟩ := P1.1.2.1
      have t1 := tt _ pb1.2.1 pb1.2.2.1
      rw [pb1.1, t1.1]
      refine ⟨by omega, t1.2.2.2.2.1, ?_⟩
      by_cases y1 : (tk (p + 1)).1 = 1
      · rw [if_pos y1]
        have E2 : pS tk (f + 1) 18 a p o = (goS tk (p + 1) >>= fun q1 => pS tk f 18 ((23, plS tk p, vlS tk (p + 1), 0), chT [a]) q1 o) := by rw [E1]; unfold kdE; rw [if_pos y1]; rfl
        refine c_105C (m0 := m0) (lo := lo) (a := a) (s := s) P1 y1 (fr.s2 g1) (by rw [n1]; exact hA.fr (fun c i z _ _ => g1 c i (by omega))) (by omega) (by decide) (fun a2 r m' P' F' T' nn' => ?_) (fun e z => h0 e (by rw [E2, z]; rfl))
        exact hL dep n' (p + 1 + 1) o lo s r _ m0 m' Q (by omega) (by omega) hd P' F' T' ⟨hs.1, nn'⟩ (fun rs' q' z => h1 rs' q' (by rw [E2, a2]; exact z)) (fun e z => h0 e (by rw [E2, a2]; exact z))
      · rw [if_neg y1]
        refine c_synP P1 ((fr.s2 g1).per hb (h0 _ ?_))
        rw [E1]; unfold kdE; rw [if_neg y1]; rfl
    · rw [if_pos rfl]
      refine c_signP (by decide) hP (fun y1 => ⟨by decide, ?_⟩) (fun y1 => ⟨by decide, ?_⟩)
      · rw [if_neg (by decide)]
        exact g70 25 (by decide) y (.inr y1) (by rw [if_pos y1])
      · rw [if_pos rfl]
        exact g70 24 (by decide) y (.inl ((hz.resolve_left y).resolve_right y1)) (by rw [if_neg y1])
  refine c_signP (by decide) hP (fun y => ⟨by decide, ?_⟩) (fun y => ⟨by decide, ?_⟩)
  · rw [if_neg (by decide)]; exact g33 (.inl y)
  rw [if_pos rfl]
  refine c_signP (by decide) hP (fun y1 => ⟨by decide, ?_⟩) (fun y1 => ⟨by decide, ?_⟩)
  · rw [if_neg (by decide)]; exact g33 (.inr (.inl y1))
  rw [if_pos rfl]
  refine c_signP (by decide) hP (fun y2 => ⟨by decide, ?_⟩) (fun y2 => ⟨by decide, ?_⟩)
  · rw [if_neg (by decide)]; exact g33 (.inr (.inr y2))
  rw [if_pos rfl]
  rw [if_neg y, if_neg (by rintro (z | z); exact y1 z; exact y2 z)] at E
  exact h1 [[a]] p (by rw [E]; rfl) x m hP fr hA hs.2
end BEHINDC
