set_option maxRecDepth 100000
/-! the component's parser: a line -/
def mkD (tk : Int → TK) (ps : List (Int × Int × PT)) (a : PT) (ru fp q7 : Int) (e : PT) : DFN := (nmS' tk 0, plS tk 0, (ps.length : Int), ru, fp, plS tk q7, (fun k => (parD ps k).1), (fun k => (parD ps k).2.1), (fun k => if k = 0 then chT [a] else chT [(parD ps k).2.2]), e.1, e.2)
theorem td_eq {tk : Int → TK} : pTold tk = (goS tk 0 >>= fun q => opS tk q 0 >>= fun q1 => pPar tk 5 q1 0 >>= fun x => ndS tk 41 x.2 >>= fun q3 => ndS tk 58 q3 >>= fun q4 => pT tk 16 q4 0 >>= fun y => pFor tk y.2 >>= fun z => ndS tk 129 z.2.2 >>= fun q7 => pEx tk q7 >>= fun e => .ok (mkD tk x.1 y.1 z.1 z.2.1 q7 e.1, e.2)) := rfl
theorem pe_eq {tk : Int → TK} {p : Int} : pEx tk p = (pS tk 4000 0 acc0 p 0 >>= fun x => .ok (fstP x.1, x.2)) := rfl
section LINEC
variable {T : MM → Prop} {tk : Int → TK} {N b : Int} {f n : Nat} {m0 m m' : MM} {p o lo s x w kd c i v : Int} {a : PT} {Q K : Int → MM → Prop} {e : Int × Int}
/-- an expression at the outermost level -/
theorem c_pexC (hP : PC m tk N b p 0) (hs : 0 ≤ m b 0 ∧ m b 0 ≤ p) (fr : Ftx b m0 m) (h1 : ∀ x q, pEx tk p = .ok (x, q) → ∀ r m', PC m' tk N b q 0 → Fnw b (m b 0) m m' → TNs m' b x (m b 0) (m' b 0) r → Q r m') (h0 : ∀ e, pEx tk p = .error e → PE2 T b m0 e) : R_X3_expression 300 5 [] m Q T := by
  have pb := hP.2.2.1
  refine (c_allC 4000).1.1 300 p 0 (m b 0) 0 m Q (by omega) (by decide) hP rfl (by omega) (fun rs q hq r m' P' F' T' n' => ?_) (fun e z => (h0 e (by rw [pe_eq, z]; rfl)).per fr)
  exact h1 (fstP rs) q (by rw [pe_eq, hq]; rfl) r m' P' F' T'
theorem c_314C {ps : List (Int × Int × PT)} {ty : PT} {ru fp : Int} (hP : PC m tk N b p 0) (hs : 0 ≤ m b 0 ∧ m b 0 ≤ p) (fr : Ftx b m0 m) (hI : PrI m b ps) (hR : m b 1 = 2 ∧ m b 16 = nmS' tk 0 ∧ m b 20 = plS tk 0 ∧ m b 22 = ru ∧ (ru ≠ 0 → m b 21 = fp)) (hT : ∃ lo hi, (0 ≤ lo ∧ hi ≤ m b 0) ∧ TF m b (chT [ty]) lo hi (m b 6)) (h1 : ∀ x q, ndS tk 129 p = .ok (p + 1) → pEx tk (p + 1) = .ok (x, q) → ∀ m', PC m' tk N b q 0 → Ftx b m0 m' → DFc m' b (mkD tk ps ty ru fp (p + 1) x) → Q 0 m') (e1 : ∀ e, ndS tk 129 p = .error e → PE2 T b m0 e) (e2 : ∀ e, ndS tk 129 p = .ok (p + 1) → pEx tk (p + 1) = .error e → PE2 T b m0 e) : P_X3_told_314 Q T m := by
  have hb := hP.1.1
  have hb' := tx_b hb
  have hb2 := tx_c hb
  refine c_needP (by decide) hP (fun m1 a1 g1 P1 => c_hereP P1 ⟨by rw [P1.2.1]; exact hb, ?_⟩) (fun e z => (e1 e z).per fr)
  rw [P1.2.1]
  rintro m3 rfl
  have P3 := P1.tx2 (c := b) (i := 3) (v := plS tk (p + 1)) (by omega)
  have f3 : Ftx b m0 (up m1 b 3 (plS tk (p + 1))) := (fr.s2 g1).tx (by omega)
  have n3 : up m1 b 3 (plS tk (p + 1)) b 0 = m b 0 := by rw [up_ne (by omega)]; exact g1 _ _ (by omega)
  rw [P3.2.1]
  refine c_pexC P3 (by omega) f3 (fun x q hq r m4 P4 F4 T4 => ⟨hb, ?_⟩) (fun e z => e2 e a1 z)
  rw [n3] at F4 T4
  rintro m5 rfl
  have tr := T4.rng
  have ag : ∀ c i, ¬ (c = 365) → ¬ (c = b ∧ (i = 0 ∨ i = 2 ∨ i = 3)) → ¬ ((b + 1 ≤ c ∧ c ≤ b + 6 ∨ c = b + 9) ∧ m b 0 ≤ i) → up m4 b 2 r c i = m c i := fun c i z z1 z2 => by
    rw [up_ne (by omega), F4 c i z2 (by omega) (by omega), up_ne (by omega), g1 c i (by omega)]
  have n5 : up m4 b 2 r b 0 = m4 b 0 := up_ne (by omega)
  have agN : Agr b 0 (m b 0) m (up m4 b 2 r) := fun c i z z1 z2 => ag c i (by omega) (by omega) (by omega)
  have I5 : PrI (up m4 b 2 r) b ps := hI.fr (ag _ _ (by omega) (by omega) (by omega)) (fun c i z z1 => ag c i (by omega) (by omega) (by omega)) agN (by omega)
  refine h1 x q a1 hq _ (P4.tx2 (by omega)) ((f3.nw F4).tx (by omega)) ⟨⟨?_, ?_, ?_, ?_, ?_, fun z => ?_, ?_⟩, fun k k1 k2 => ?_, ?_, ?_⟩
  · rw [ag _ _ (by omega) (by omega) (by omega)]; exact hR.1
  · rw [ag _ _ (by omega) (by omega) (by omega)]; exact hR.2.1
  · rw [ag _ _ (by omega) (by omega) (by omega)]; exact hR.2.2.1
  · exact I5.1.1
  · rw [ag _ _ (by omega) (by omega) (by omega)]; exact hR.2.2.2.1
  · rw [ag _ _ (by omega) (by omega) (by omega)]; exact hR.2.2.2.2 z
  · rw [up_ne (by omega), F4 _ _ (by omega) (by omega) (by omega), up_at]; rfl
  · obtain ⟨q1, q2, lo, hi, q3, q4⟩ := I5.2 k k1 k2
    refine ⟨q1, q2, lo, hi, ?_⟩
    show TF _ b (if k = 0 then chT [ty] else chT [(parD ps k).2.2]) lo hi _
    rw [if_neg (by omega)]; exact q4
  · obtain ⟨lo, hi, q3, q4⟩ := hT
    refine ⟨lo, hi, ?_⟩
    show TF _ b (if (0 : Int) = 0 then chT [ty] else chT [(parD ps 0).2.2]) lo hi _
    rw [if_pos rfl, ag _ _ (by omega) (by omega) (by omega)]
    exact q4.frr (fun c i z z1 z2 => agN c i z (by omega) (by omega))
  · refine ⟨m b 0, m4 b 0, ?_⟩
    rw [up_at]
    exact (T4.fr (fun c i z z1 z2 => up_ne (by omega))).1
theorem c_185C {ps : List (Int × Int × PT)} (hP : PC m tk N b p 1) (hs : 0 ≤ m b 0 ∧ m b 0 ≤ p) (fr : Ftx b m0 m) (hI : PrI m b ps) (hR : m b 1 = 2 ∧ m b 16 = nmS' tk 0 ∧ m b 20 = plS tk 0) {G : Except (Int × Int) (DFN × Int)} (E : G = (ndS tk 41 p >>= fun q3 => ndS tk 58 q3 >>= fun q4 => pT tk 16 q4 0 >>= fun y => pFor tk y.2 >>= fun z => ndS tk 129 z.2.2 >>= fun q7 => pEx tk q7 >>= fun e => .ok (mkD tk ps y.1 z.1 z.2.1 q7 e.1, e.2))) (h1 : ∀ D q, G = .ok (D, q) → ∀ m', PC m' tk N b q 0 → Ftx b m0 m' → DFc m' b D → Q 0 m') (h0 : ∀ e, G = .error e → PE2 T b m0 e) : P_X3_told_185 Q T m := by
  have hb := hP.1.1
  have hb' := tx_b hb
  have hb2 := tx_c hb
  refine c_closesP (by decide) hP (by decide) (fun m1 a1 g1 P1 => ?_) (fun e z => (h0 e (by rw [E, z]; rfl)).per fr)
  rw [a1] at E
  have E1 : G = (ndS tk 58 (p + 1) >>= fun q4 => pT tk 16 q4 0 >>= fun y => pFor tk y.2 >>= fun z => ndS tk 129 z.2.2 >>= fun q7 => pEx tk q7 >>= fun e => .ok (mkD tk ps y.1 z.1 z.2.1 q7 e.1, e.2)) := E
  clear E
  have P1 : PC m1 tk N b (p + 1) 0 := P1
  have f1 := fr.s3 g1
  refine c_needP (by decide) P1 (fun m2 a2 g2 P2 => ?_) (fun e z => (h0 e (by rw [E1, z]; rfl)).per f1)
  rw [a2] at E1
  have E2 : G = (pT tk 16 (p + 1 + 1) 0 >>= fun y => pFor tk y.2 >>= fun z => ndS tk 129 z.2.2 >>= fun q7 => pEx tk q7 >>= fun e => .ok (mkD tk ps y.1 z.1 z.2.1 q7 e.1, e.2)) := E1
  clear E1
  have f2 := f1.s2 g2
  have ag2 : ∀ c i, ¬ (c = 365) → m2 c i = m c i := fun c i z => by rw [g2 c i (by omega), g1 c i (by omega)]
  have n2 : m2 b 0 = m b 0 := ag2 _ _ (by omega)
  rw [P2.2.1]
  refine c_typeP 16 20 (by decide) (p + 1 + 1) 0 (m b 0) 0 m2 _ (by decide) P2 n2 (by omega) (fun ty q hq r m3 P3 F3 T3 S3 n3 => ⟨hb, ?_⟩) (fun e z => (h0 e (by rw [E2, z]; rfl)).per f2)
  rw [hq] at E2
  have E3 : G = (pFor tk q >>= fun z => ndS tk 129 z.2.2 >>= fun q7 => pEx tk q7 >>= fun e => .ok (mkD tk ps ty z.1 z.2.1 q7 e.1, e.2)) := E2
  clear E2
  rintro m4 rfl
  have P4 := P3.tx2 (c := b) (i := 6) (v := r) (by omega)
  rw [P4.2.1]
  refine ⟨hb, ?_⟩
  rintro m5 rfl
  have P5 := P4.tx2 (c := b) (i := 22) (v := 0) (by omega)
  have f5 : Ftx b m0 (up (up m3 b 6 r) b 22 0) := ((f2.nw F3).tx (by omega)).tx (by omega)
  have tr := T3.rng
  have ag5 : ∀ c i, ¬ (c = 365) → ¬ (c = b ∧ (i = 0 ∨ i = 6 ∨ i = 22)) → ¬ ((b + 1 ≤ c ∧ c ≤ b + 6 ∨ c = b + 9) ∧ m b 0 ≤ i) → up (up m3 b 6 r) b 22 0 c i = m c i := fun c i z z1 z2 => by
    rw [up_ne (by omega), up_ne (by omega), F3 c i z2 (by omega) (by omega)]; exact ag2 c i z
  have n5 : up (up m3 b 6 r) b 22 0 b 0 = m3 b 0 := by rw [up_ne (by omega), up_ne (by omega)]
  have I5 : PrI (up (up m3 b 6 r) b 22 0) b ps := hI.fr (ag5 _ _ (by omega) (by omega) (by omega)) (fun c i z z1 => ag5 c i (by omega) (by omega) (by omega)) (fun c i z z1 z2 => ag5 c i (by omega) (by omega) (by omega)) (by omega)
  have t5 : ∃ lo hi, (0 ≤ lo ∧ hi ≤ up (up m3 b 6 r) b 22 0 b 0) ∧ TF (up (up m3 b 6 r) b 22 0) b (chT [ty]) lo hi (up (up m3 b 6 r) b 22 0 b 6) := by
    refine ⟨m b 0, m3 b 0, by omega, ?_⟩
    rw [up_ne (show ¬ (b = b ∧ (6 : Int) = 22) by omega), up_at]
    exact TNs.one (TNs.fr (a := ty) ⟨T3, S3⟩ (fun c i z z1 z2 => by rw [up_ne (by omega), up_ne (by omega)]))
  have e1 : up (up m3 b 6 r) b 22 0 b 1 = 2 := by rw [ag5 _ _ (by omega) (by omega) (by omega)]; exact hR.1
  have e16 : up (up m3 b 6 r) b 22 0 b 16 = nmS' tk 0 := by rw [ag5 _ _ (by omega) (by omega) (by omega)]; exact hR.2.1
  have e20 : up (up m3 b 6 r) b 22 0 b 20 = plS tk 0 := by rw [ag5 _ _ (by omega) (by omega) (by omega)]; exact hR.2.2
  have e22 : up (up m3 b 6 r) b 22 0 b 22 = 0 := up_at ..
  have s5 : 0 ≤ up (up m3 b 6 r) b 22 0 b 0 ∧ up (up m3 b 6 r) b 22 0 b 0 ≤ q := by omega
  generalize up (up m3 b 6 r) b 22 0 = m5 at P5 f5 I5 t5 e1 e16 e20 e22 s5
  unfold pFor at E3
  refine c_keyP (by decide) P5 (fun y => ⟨by decide, ?_⟩) (fun y => ⟨by decide, ?_⟩)
  · rw [if_neg (by decide)]
    rw [if_pos y] at E3
    refine c_hereP P5 ⟨by rw [P5.2.1]; exact hb, ?_⟩
    rw [P5.2.1]
    rintro m8 rfl
    have P8 := P5.tx2 (c := b) (i := 21) (v := plS tk q) (by omega)
    have f8 : Ftx b m0 (up m5 b 21 (plS tk q)) := f5.tx (by omega)
    refine c_goP P8 (ky_kd y) (fun m9 a9 g9 P9 => ?_) (fun e z => (h0 e (by rw [E3, z]; rfl)).per f8)
    rw [a9] at E3
    have f9 := f8.s2 g9
    have go : (isKy tk 9 (q + 1) ∨ isKy tk 10 (q + 1) ∨ isKy tk 11 (q + 1)) → P_X3_told_286 Q T m9 := by
      intro z
      have E4 : G = (goS tk (q + 1) >>= fun q1 => ndS tk 129 q1 >>= fun q7 => pEx tk q7 >>= fun e => .ok (mkD tk ps ty (1 + vlS tk (q + 1) - 9) (plS tk q) q7 e.1, e.2)) := by
        rw [E3]
        show ((if isKy tk 9 (q + 1) ∨ isKy tk 10 (q + 1) ∨ isKy tk 11 (q + 1) then _ else _) >>= _) = _
        rw [if_pos z]
        cases goS tk (q + 1) with
        | error e => rfl
        | ok q' => rfl
      obtain ⟨⟨u1, u2, u5⟩, u3, u4⟩ := P9.tok
      unfold P_X3_told_286
      rw [P9.2.1, P9.2.2.1.1, u2]
      refine ⟨u4, hb, ?_⟩
      rintro m10 rfl
      have P10 := P9.tx2 (c := b) (i := 22) (v := 1 + vlS tk (q + 1) - 9) (by omega)
      have f10 : Ftx b m0 (up m9 b 22 (1 + vlS tk (q + 1) - 9)) := f9.tx (by omega)
      refine c_goP P10 (by rcases z with z | z | z <;> exact ky_kd z) (fun m11 a11 g11 P11 => ?_) (fun e z => (h0 e (by rw [E4, z]; rfl)).per f10)
      rw [a11] at E4
      have E5 : G = (ndS tk 129 (q + 1 + 1) >>= fun q7 => pEx tk q7 >>= fun e => .ok (mkD tk ps ty (1 + vlS tk (q + 1) - 9) (plS tk q) q7 e.1, e.2)) := E4
      clear E4
      have ag : ∀ c i, ¬ (c = 365) → ¬ (c = b ∧ (i = 21 ∨ i = 22)) → m11 c i = m5 c i := fun c i z z1 => by
        rw [g11 c i (by omega), up_ne (by omega), g9 c i (by omega), up_ne (by omega)]
      have n11 : m11 b 0 = m5 b 0 := ag _ _ (by omega) (by omega)
      refine c_314C (ps := ps) (ty := ty) (ru := 1 + vlS tk (q + 1) - 9) (fp := plS tk q) P11 (by omega) (f10.s2 g11) (I5.fr (ag _ _ (by omega) (by omega)) (fun c i z z1 => ag c i (by omega) (by omega)) (fun c i z _ _ => ag c i (by omega) (by omega)) (by omega)) ⟨?_, ?_, ?_, ?_, fun _ => ?_⟩ ?_ (fun x q' a' hx m' P' F' D' => h1 _ q' (by rw [E5, a']; show (pEx tk (q + 1 + 1 + 1) >>= _) = _; rw [hx]; rfl) m' P' F' D') (fun e z => h0 e (by rw [E5, z]; rfl)) (fun e a' z => h0 e (by rw [E5, a']; show (pEx tk (q + 1 + 1 + 1) >>= _) = _; rw [z]; rfl))
      · rw [ag _ _ (by omega) (by omega)]; exact e1
      · rw [ag _ _ (by omega) (by omega)]; exact e16
      · rw [ag _ _ (by omega) (by omega)]; exact e20
      · rw [g11 _ _ (by omega), up_at]
      · rw [g11 _ _ (by omega), up_ne (by omega), g9 _ _ (by omega), up_at]
      · obtain ⟨lo, hi, q3, q4⟩ := t5
        refine ⟨lo, hi, by omega, ?_⟩
        rw [ag _ _ (by omega) (by omega)]
        exact q4.frr (fun c i z _ _ => ag c i (by omega) (by omega))
    have g267 : (isKy tk 9 (q + 1) ∨ isKy tk 10 (q + 1) ∨ isKy tk 11 (q + 1)) → P_X3_told_267 Q T m9 := by
      intro z
      unfold P_X3_told_267
      rw [if_neg (by decide)]; exact go z
    refine c_keyP (by decide) P9 (fun z => ⟨by decide, ?_⟩) (fun z => ⟨by decide, ?_⟩)
    · rw [if_neg (by decide)]; exact g267 (.inl z)
    rw [if_pos rfl]
    refine c_keyP (by decide) P9 (fun z1 => ⟨by decide, ?_⟩) (fun z1 => ⟨by decide, ?_⟩)
    · rw [if_neg (by decide)]; exact g267 (.inr (.inl z1))
    rw [if_pos rfl]
    refine c_keyP (by decide) P9 (fun z2 => ⟨by decide, ?_⟩) (fun z2 => ⟨by decide, ?_⟩)
    · rw [if_neg (show ¬ (1 : Int) = 0 by decide)]
      refine ⟨by decide, ?_⟩
      rw [if_neg (by decide)]
      exact go (.inr (.inr z2))
    · rw [if_pos (show (0 : Int) = 0 from rfl)]
      refine ⟨by decide, ?_⟩
      rw [if_pos rfl]
      refine c_synP P9 ((h0 _ ?_).per f9)
      rw [E3]
      show ((if isKy tk 9 (q + 1) ∨ isKy tk 10 (q + 1) ∨ isKy tk 11 (q + 1) then _ else _) >>= _) = _
      rw [if_neg (by rintro (h | h | h); exact z h; exact z1 h; exact z2 h)]
      rfl
  · rw [if_pos rfl]
    rw [if_neg y] at E3
    have E4 : G = (ndS tk 129 q >>= fun q7 => pEx tk q7 >>= fun e => .ok (mkD tk ps ty 0 (-1) q7 e.1, e.2)) := E3
    refine c_314C (ps := ps) (ty := ty) (ru := 0) (fp := -1) P5 s5 f5 I5 ⟨e1, e16, e20, e22, fun z => absurd rfl z⟩ t5 (fun x q' a' hx m' P' F' D' => h1 _ q' (by rw [E4, a']; show (pEx tk (q + 1) >>= _) = _; rw [hx]; rfl) m' P' F' D') (fun e z => h0 e (by rw [E4, z]; rfl)) (fun e a' z => h0 e (by rw [E4, a']; show (pEx tk (q + 1) >>= _) = _; rw [z]; rfl))
theorem c_toldC (hP : PC m tk N b 0 0) (hk : kdS tk 0 = 2) (hs1 : isSg tk 40 1) (h00 : m b 0 = 0 ∧ m b 5 = 0) (h1 : ∀ D q, pTold tk = .ok (D, q) → ∀ m', PC m' tk N b q 0 → Ftx b m m' → DFc m' b D → Q 0 m') (h0 : ∀ e, pTold tk = .error e → PE2 T b m e) : P_X3_told m Q T := by
  have hb := hP.1.1
  have hb' := tx_b hb
  have hb2 := tx_c hb
  have E := td_eq (tk := tk)
  unfold P_X3_told
  rw [hP.2.1]
  refine ⟨hb, ?_⟩
  rintro m1 rfl
  have P1 := hP.tx2 (c := b) (i := 1) (v := 2) (by omega)
  obtain ⟨⟨t1, t2, t5⟩, t3, t4⟩ := P1.tok
  rw [P1.2.1, t5 hk]
  refine ⟨hb, ?_⟩
  rintro m2 rfl
  have P2 := P1.tx2 (c := b) (i := 16) (v := nmS' tk 0) (by omega)
  rw [P2.2.1]
  refine c_hereP P2 ⟨hb, ?_⟩
  rintro m4 rfl
  have P4 := P2.tx2 (c := b) (i := 20) (v := plS tk 0) (by omega)
  have f4 : Ftx b m (up (up (up m b 1 2) b 16 (nmS' tk 0)) b 20 (plS tk 0)) := ((Ftx.refl.tx (by omega)).tx (by omega)).tx (by omega)
  generalize h4 : up (up (up m b 1 2) b 16 (nmS' tk 0)) b 20 (plS tk 0) = m4 at P4 f4
  refine c_goP P4 (by have z : (tk 0).1 = 2 := hk; omega) (fun m5 a5 g5 P5 => ?_) (fun e z => (h0 e (by rw [E, z]; rfl)).per f4)
  rw [a5] at E
  have E1 : pTold tk = (opS tk (0 + 1) 0 >>= fun q1 => pPar tk 5 q1 0 >>= fun x => ndS tk 41 x.2 >>= fun q3 => ndS tk 58 q3 >>= fun q4 => pT tk 16 q4 0 >>= fun y => pFor tk y.2 >>= fun z => ndS tk 129 z.2.2 >>= fun q7 => pEx tk q7 >>= fun e => .ok (mkD tk x.1 y.1 z.1 z.2.1 q7 e.1, e.2)) := E
  clear E
  have f5 := f4.s2 g5
  refine c_opensP P5 (sg_kd hs1) (fun m6 a6 g6 P6 => ⟨5, ?_⟩) (fun e z => (h0 e (by rw [E1, z]; rfl)).per f5)
  rw [a6] at E1
  have E2 : pTold tk = (pPar tk 5 (0 + 1 + 1) 0 >>= fun x => ndS tk 41 x.2 >>= fun q3 => ndS tk 58 q3 >>= fun q4 => pT tk 16 q4 0 >>= fun y => pFor tk y.2 >>= fun z => ndS tk 129 z.2.2 >>= fun q7 => pEx tk q7 >>= fun e => .ok (mkD tk x.1 y.1 z.1 z.2.1 q7 e.1, e.2)) := E1
  clear E1
  have ag : ∀ i, i ≠ 1 → i ≠ 16 → i ≠ 20 → m6 b i = m b i := fun i z z1 z2 => by
    rw [g6 _ _ (by omega), g5 _ _ (by omega), ← h4, up_ne (by omega), up_ne (by omega), up_ne (by omega)]
  have f6 := f5.s3 g6
  refine c_parC 5 5 [] (0 + 1 + 1) m m6 rfl (Nat.le_refl _) P6 ⟨⟨?_, by decide⟩, fun k k1 k2 => ?_⟩ (by rw [ag _ (by decide) (by decide) (by decide), h00.1]; decide) f6 (fun r q hq m7 P7 I7 s7 f7 t7 => ?_) (fun e z => h0 e ?_)
  · rw [ag _ (by decide) (by decide) (by decide)]; exact h00.2
  · have k2 : k ≤ ((0 : Nat) : Int) := k2
    omega
  · have hq : pPar tk 5 (0 + 1 + 1) 0 = .ok (r, q) := hq
    rw [hq] at E2
    refine c_185C (ps := r) P7 s7 f7 I7 ⟨?_, ?_, ?_⟩ E2 h1 h0
    · rw [t7 _ (by decide) (by decide), g6 _ _ (by omega), g5 _ _ (by omega), ← h4, up_ne (by omega), up_ne (by omega), up_at]
    · rw [t7 _ (by decide) (by decide), g6 _ _ (by omega), g5 _ _ (by omega), ← h4, up_ne (by omega), up_at]
    · rw [t7 _ (by decide) (by decide), g6 _ _ (by omega), g5 _ _ (by omega), ← h4, up_at]
  · have z : pPar tk 5 (0 + 1 + 1) 0 = .error e := z
    rw [E2, z]; rfl
end LINEC
