set_option maxRecDepth 100000
/-! the component: a line is worked -/
section RUNC
variable {Q : Int → MM → Prop} {m m' : MM} {F : Int → FnR} {n : Int} {fr : List Fr} {k x2 : Int}
/-- a code is given up -/
theorem MsI.drop (h : MsI m F n fr) (k0 : 0 ≤ k ∧ k < 48) (e : m' = up m (389 + 4 * k) 4 (-1)) : MsI m' F n fr := by
  have f : ∀ c i, ¬ (c = 389 + 4 * k ∧ i = 4) → m' c i = m c i := fun c i q => by rw [e, up_ne q]
  obtain ⟨⟨h1, h1'⟩, h2, h3, h4, h5, h6, h7, h8⟩ := h
  refine ⟨⟨by rw [f _ _ (by omega)]; exact h1, h1'⟩, h2.keep (fun c i a1 a2 _ _ => f c i (by omega)), fun j j0 j1 => by rw [f _ _ (by omega)]; exact h3 j j0 j1, by rw [f _ _ (by omega)]; exact h4, fun j j0 j1 => ?_, h6.lw (fun c i a => f c i (by omega)), by rw [f 376 17 (by omega), f 376 18 (by omega)]; exact h7, by rw [f 376 19 (by omega), f 376 20 (by omega)]; exact h8⟩
  by_cases c : j = k
  · subst c; exact .inl (by rw [e, up_at])
  · rw [f _ _ (by omega), f _ _ (by omega)]
    rcases h5 j j0 j1 with q | ⟨g, R, z, q1, q2, q3, q4, q5, q6⟩
    · exact .inl q
    · exact .inr ⟨g, R, z, q1, q2, q3, q4, q5, q6.fr (fun c i a _ _ => f c i (by omega))⟩
/-- frames that are left are taken back -/
theorem c_run142 (x20 : 0 ≤ x2 ∧ x2 < 48) : ∀ (fr : List Fr) (m : MM), MsI m F n fr → (∀ m', MsI m' F n [] → (∀ c i, ¬ (c = 376 ∧ i = 13) → ¬ (389 ≤ c ∧ c ≤ 580) → m' c i = m c i) → Q (m 378 2) m') → P_X6_run_142 Q (fr.length + 1) x2 m := by
  intro fr
  induction fr with
  | nil =>
    intro m I K
    have h1 := I.1.1
    rw [List.length_nil] at h1
    unfold P_X6_run_142
    rw [h1]
    refine ⟨by decide, ?_⟩
    rw [if_pos (by decide)]
    unfold P_X6_run_185
    refine ⟨x20, by unfold isCd; omega, fun m1 e1 => ?_⟩
    have e2 : m1 378 2 = m 378 2 := by rw [e1, up_ne (by omega)]
    rw [e2]
    exact K m1 (I.drop x20 e1) (fun c i a1 a2 => by rw [e1, up_ne (by omega)])
  | cons y fr ih =>
    intro m I K
    have I0 := I
    obtain ⟨⟨h1, h1'⟩, ⟨g1, g2, g3, g4, g5, g6⟩, h3, -⟩ := I
    rw [List.length_cons] at h1 h1'
    rw [List.length_cons]
    unfold P_X6_run_142
    rw [h1]
    refine ⟨by constructor <;> omega, ?_⟩
    rw [if_neg (by omega)]
    intro m1 e1
    have a1 : m1 376 13 = (fr.length : Int) := by rw [e1, up_at]; omega
    have f1 : ∀ c i, ¬ (c = 376 ∧ i = 13) → m1 c i = m c i := fun c i q => by rw [e1, up_ne q]
    rw [a1, f1 382 _ (by omega), g3]
    refine ⟨by omega, g2, by unfold isCd; omega, fun m2 e2 => ?_⟩
    have f2 : ∀ c i, ¬ (c = 376 ∧ i = 13) → ¬ (c = 389 + 4 * y.1 ∧ i = 6) → m2 c i = m c i := fun c i q1 q2 => by rw [e2, up_ne q2]; exact f1 c i q1
    refine ih m2 ⟨⟨by rw [e2, up_ne (by omega)]; exact a1, by omega⟩, g1.keep (fun c i b1 b2 _ _ => f2 c i (by omega) (by omega)), fun j j0 j1 => ?_, I0.keepC (m' := m2) (fun c i q => f2 c i (by omega) (by omega))⟩ (fun m3 I3 f3 => ?_)
    · have cj : m (389 + 4 * j) 6 = cntF j fr + (if y.1 = j then 1 else 0) := h3 j j0 j1
      by_cases c : y.1 = j
      · rw [if_pos c] at cj
        subst c
        rw [e2, up_at, f1 _ _ (by omega), cj]; omega
      · rw [if_neg c] at cj
        rw [f2 _ _ (by omega) (by omega), cj]; omega
    · have := K m3 I3 (fun c i b1 b2 => (f3 c i b1 b2).trans (f2 c i b1 (by omega)))
      rw [f2 378 2 (by decide) (by omega)]
      exact this
theorem c_run {b lo hi nr nv fl : Int} {rR vR : Int → R3} {vN : Int → Int} {varV resV : Int → VV} {a : PT} {x : R3} (I : MsI m F n []) (tb : isTx b) (hbn : b = 8 + 17 * n) (hE : EvO F n (JEl F n nr rR nv vN vR, 0, 0, varV, resV)) (hT : TN m b a.1 a.2 lo hi (m b 2)) (hfl : m b 1 = fl) (fl01 : 0 ≤ fl ∧ fl ≤ 1) (hx : rgS (JEl F n nr rR nv vN vR) a.1 a.2 = some x) (h6 : m (b + 6) (m b 2) = encC x) (h31 : m 3 1 = n) (hRS : RSc m nr rR nv vN vR) (hVc : VcO m (JEl F n nr rR nv vN vR, 0, 0, varV, resV) fl) (hk : 0 ≤ a.1.1 ∧ a.1.1 ≤ 25) (w : okN a.1 a.2) (wc : wfT a.2) (hs : szT a.2 ≤ 150) (hv : vT a ≤ 59) (ok : ∀ V s' m', ev F 20001 (JEl F n nr rR nv vN vR, 0, 0, varV, resV) a (0, 0) = (.ok V, s') → MsI m' F n [] → m' 378 2 = 0 → VC (m' 379) 0 x.2.1 x.2.2 V → m' (b + 6) (m' b 2) = encC x → m' 376 15 = s'.1 → m' 376 16 = s'.2 → FmC (n + 1) [] m m' → Q 0 m') (er : ∀ e s' m', ev F 20001 (JEl F n nr rR nv vN vR, 0, 0, varV, resV) a (0, 0) = (.error e, s') → (1 ≤ e ∧ e ≤ 9) → MsI m' F n [] → m' 376 15 = s'.1 → m' 376 16 = s'.2 → FmC (n + 1) [] m m' → Q e m') : P_X6_run b m Q := by
  have tb2 := tx_b2 tb
  have rg := hT.rng
  have ntx : ∀ c, 365 ≤ c → ¬ (∃ b, isTx b ∧ b < 8 + 17 * (n + 1) ∧ b + 6 ≤ c ∧ c ≤ b + 8) := fun c hc w => by
    obtain ⟨b', tx', w1, w2⟩ := w
    have := tx_b2 tx'
    omega
  have x3 := rgS_ok hE.jok w wc hx
  have eR : rgN (JEl F n nr rR nv vN vR) a = x := by unfold rgN; rw [hx]; rfl
  unfold P_X6_run
  intro m1 e1 m2 e2 m3 e3 m4 e4 m5 e5 m6 e6 m7 e7
  have f7 : ∀ c i, ¬ (c = 378 ∧ i = 2) → ¬ (c = 376 ∧ (i = 8 ∨ i = 13 ∨ i = 14 ∨ i = 15 ∨ i = 16)) → ¬ (c = 381 ∧ i = 0) → m7 c i = m c i := fun c i q1 q2 q3 => by rw [e7, up_ne (by omega), e6, up_ne (by omega), e5, up_ne (by omega), e4, up_ne (by omega), e3, up_ne (by omega), e2, up_ne (by omega), e1, up_ne (by omega)]
  have v13 : m7 376 13 = 0 := by rw [e7, up_neI (by decide), e6, up_neI (by decide), e5, up_neI (by decide), e4, up_at]
  have v8 : m7 376 8 = 0 := by rw [e7, up_neI (by decide), e6, up_neI (by decide), e5, up_neI (by decide), e4, up_neI (by decide), e3, up_ne (by decide), e2, up_at]
  have v15 : m7 376 15 = 0 := by rw [e7, up_neI (by decide), e6, up_neI (by decide), e5, up_at]
  have v16 : m7 376 16 = 0 := by rw [e7, up_neI (by decide), e6, up_at]
  have v14 : m7 376 14 = 0 := by rw [e7, up_at]
  have v381 : m7 381 0 = 0 := by rw [e7, up_ne (by decide), e6, up_ne (by decide), e5, up_ne (by decide), e4, up_ne (by decide), e3, up_at]
  have v378 : m7 378 2 = 0 := by rw [e7, up_ne (by decide), e6, up_ne (by decide), e5, up_ne (by decide), e4, up_ne (by decide), e3, up_ne (by decide), e2, up_ne (by decide), e1, up_at]
  have I7 : MsI m7 F n [] := by
    obtain ⟨⟨h1, h1'⟩, h2, h3, -⟩ := id I
    exact ⟨⟨v13, by decide⟩, trivial, fun j j0 j1 => by rw [f7 _ _ (by omega) (by omega) (by omega)]; exact h3 j j0 j1, I.keepC (m' := m7) (fun c i q => f7 c i (by omega) (by omega) (by omega))⟩
  have lw7 : ∀ c i, c < 365 → m7 c i = m c i := fun c i hc => f7 c i (by omega) (by omega) (by omega)
  have T7 : TN m7 b a.1 a.2 lo hi (m7 b 2) := by rw [lw7 b 2 (by omega)]; exact hT.lw lw7 tb
  have RS7 : RSc m7 nr rR nv vN vR := by
    obtain ⟨⟨a1, a2, a3⟩, a4, a5, a6⟩ := hRS
    exact ⟨⟨by rw [lw7 _ _ (by decide)]; exact a1, a2, fun k k0 k1 => by rw [lw7 _ _ (by decide)]; exact a3 k k0 k1⟩, by rw [lw7 _ _ (by decide)]; exact a4, a5, fun k k0 k1 => by rw [lw7 _ _ (by decide), lw7 _ _ (by decide)]; exact a6 k k0 k1⟩
  have B7 := I7.2.2.2.2.2.1
  refine ⟨tb, by rw [lw7 b 2 (by omega)]; omega, ?_⟩
  rw [lw7 b 2 (by omega), lw7 (b + 6) _ (by omega), h6]
  have fin : ∀ k m8, (0 ≤ k ∧ k < 48) → MsI m8 F n [] → FmC (n + 1) [] m7 m8 → FcO (n + 1) k m7 m8 → AnN m8 b (JEl F n nr rR nv vN vR) a.1 a.2 (m8 b 2) → CoA m8 (389 + 4 * k) 0 (cgW F (JEl F n nr rR nv vN vR) fl a x) → P_X6_enter k 0 0 m8 (fun r2 m9 => ∃ nn, P_X6_run_64 Q nn k m9) := by
    intro k m8 k0 I8 fm8 fo8 A8 C8
    have g8 := fo8.fm2 k0.1
    refine c_enter I8 k0 (by decide) (fun m9 I9 f9 p9 o9 => ?_)
    have e14 : m8 376 14 = 0 := by rw [g8.1 _ _ (by omega)]; exact v14
    rw [e14] at I9
    have g9 : ∀ c i, c = 374 ∨ c = 375 ∨ c = 379 ∨ c = 381 ∨ (c = 376 ∧ (i = 8 ∨ i = 15 ∨ i = 16)) ∨ (c = 378 ∧ i = 2) → m9 c i = m7 c i := fun c i q => by
      rw [f9 c i (by omega) (by omega) (by omega) (by omega)]
      exact g8.1 c i (by omega)
    have S9 : MS m9 F n (JEl F n nr rR nv vN vR, 0, 0, varV, resV) fl [(k, 0, 0, 0)] [] 0 (0, 0) := by
      refine ⟨I9, ⟨by rw [g9 _ _ (by omega)]; exact v378, ?_, by rw [g9 _ _ (by omega), v8]; rfl, p9, by rw [g9 _ _ (by omega)]; exact v15, by rw [g9 _ _ (by omega)]; exact v16, o9⟩, hVc.fm (fun i => ⟨?_, ?_⟩), rfl, by show (0 : Int) ≤ 0; omega, by decide, by decide⟩
      · show m9 381 0 = 0
        rw [g9 _ _ (by omega)]; exact v381
      · rw [g9 _ _ (by omega)]; exact f7 _ _ (by omega) (by omega) (by omega)
      · rw [g9 _ _ (by omega)]; exact f7 _ _ (by omega) (by omega) (by omega)
    have fm9 : FmC (n + 1) [] m m9 := by
      refine ⟨fun x hx => (by cases hx), fun c i a1 a2 a3 a4 => ?_⟩
      rw [f9 c i (by omega) (by omega) (by omega) (by omega), fm8.2 c i a1 a2 a3 a4]
      exact f7 c i (by omega) (by omega) (by omega)
    obtain ⟨ne, eb⟩ := ev_end (F := F) (E := (JEl F n nr rR nv vN vR, 0, 0, varV, resV)) (a := a) (s := (0, 0)) (by decide)
    obtain ⟨N, H⟩ := simS 20001 (JEl F n nr rR nv vN vR, 0, 0, varV, resV) fl a (0, 0) x hE hk w wc hx ne
    have C9 : CoA m9 (389 + 4 * k) 0 (cgW F (JEl F n nr rR nv vN vR) fl a x) := C8.fr (fun c i q _ _ => f9 c i (by omega) (by omega) (by omega) (by omega))
    have hC := CoA.app.1 C9
    have hC2 := CoA.app.1 hC.2
    rw [eR, cgTn_same, List.length_nil] at hC2
    have lb : (cg F (JEl F n nr rR nv vN vR) fl a 0).length ≤ 603 := by
      have q := cgC_lb (fl := fl) (n' := n) hE.jok ⟨by have := B7.1; omega, rfl, fun k k0 k1 => (hE.1.1 k k0 k1).1⟩ (nd a.1 a.2 lf) ⟨w, wc, trivial⟩ 0 (Nat.succ_pos _) hk (by show rgS (JEl F n nr rR nv vN vR) a.1 a.2 ≠ none; rw [hx]; intro q; cases q) 0
      have q : (cg F (JEl F n nr rR nv vN vR) fl a 0).length + 1 ≤ 4 * (szT a.2 + 1) := q
      omega
    have fin2 : ∀ m', MsI m' F n [] → m' 378 2 = 0 → ∀ (P : MM → Prop), (∀ m'', MsI m'' F n [] → (∀ c i, ¬ (c = 376 ∧ i = 13) → ¬ (389 ≤ c ∧ c ≤ 580) → m'' c i = m' c i) → Q 0 m'') → ∀ r, 1 ≤ r → P_X6_run_64 Q r k m' := by
      intro m' I' e' _ KQ r hr
      obtain ⟨r, rfl⟩ : ∃ r', r = r' + 1 := ⟨r - 1, by omega⟩
      unfold P_X6_run_64
      rw [e']
      refine ⟨by decide, ?_⟩
      rw [if_pos rfl]
      have h13 := I'.1.1
      rw [List.length_nil] at h13
      rw [h13]
      refine ⟨by decide, ?_⟩
      rw [if_pos (by decide)]
      refine ⟨_, c_run142 (F := F) (n := n) k0 [] m' I' (fun m'' I'' f'' => ?_)⟩
      rw [e']
      exact KQ m'' I'' f''
    have goal := H Q k m9 [(k, 0, 0, 0)] [] 0 2 S9 ⟨rfl, fun q => by omega⟩ hC.1 (by show (0 : Int) ≤ 0 ∧ 0 + ((cg F (JEl F n nr rR nv vN vR) fl a 0).length : Int) ≤ 1199; omega) (by show ((0 : Nat) : Int) + (vT a : Int) + 59 * (20 - 0) ≤ 1280; omega) ?_
    · exact ⟨2 + N, goal (2 + N) (Nat.le_refl _)⟩
    · generalize hev : ev F 20001 (JEl F n nr rR nv vN vR, 0, 0, varV, resV) a (0, 0) = res at ne eb ⊢
      obtain ⟨o, s'⟩ := res
      cases o with
      | error e =>
        intro m' fr' I' e1' e2' e3' fm'
        intro r hr
        obtain ⟨r, rfl⟩ : ∃ r', r = r' + 1 := ⟨r - 1, by omega⟩
        have eb' := eb e rfl
        unfold P_X6_run_64
        rw [e1']
        refine ⟨by constructor <;> omega, ?_⟩
        rw [if_neg (by omega)]
        refine ⟨_, c_run142 (F := F) (n := n) k0 fr' m' I' (fun m'' I'' f'' => ?_)⟩
        rw [e1']
        exact er e s' m'' hev eb' I'' (by rw [f'' _ _ (by decide) (by decide)]; exact e2') (by rw [f'' _ _ (by decide) (by decide)]; exact e3') (fm9.trans (fm'.up.trans ⟨fun x hx => (by cases hx), fun c i a1 a2 a3 a4 => f'' c i (by omega) (by omega)⟩))
      | ok V =>
        intro m' S' fm'
        have C' := hC2.2.fm (fr := [(k, 0, 0, 0)]) fm' (by intro z; cases z)
        rw [show (0 : Int) + ((cg F (JEl F n nr rR nv vN vR) fl a 0).length : Int) + ((0 : Nat) : Int) = 0 + ((cg F (JEl F n nr rR nv vN vR) fl a 0).length : Int) by omega] at C'
        refine run1 (R := 1) S' C' (by show (0 : Int) ≤ 0 + ((cg F (JEl F n nr rR nv vN vR) fl a 0).length : Int) ∧ 0 + ((cg F (JEl F n nr rR nv vN vR) fl a 0).length : Int) < 1200; omega) (fun m4' S4 f4 r4 hr4 => ?_)
        unfold P_X6_perform
        simp only [Int.reduceEq, reduceIte]
        refine ⟨by decide, ?_⟩
        obtain ⟨I4, ⟨c1, c2, c3, c4, c5, c6, c7⟩, -⟩ := S4
        refine c_ends (args := []) (l := []) I4 (encC_RB x3) c2 (by rw [c3]; rfl) (by decide) rfl (fun m5' I5 st5 tp5 _ f5 => ?_)
        have e5' : m5' 378 2 = 0 := by rw [f5 _ _ (by decide) (by decide) (by decide) (by decide) (by omega)]; exact c1
        refine fin2 m5' I5 e5' (fun _ => True) (fun m6' I6 f6 => ?_) r4 hr4
        obtain ⟨s0, -, -, vx, -⟩ := st5
        have s0 : m5' 381 0 = 0 := s0
        have vx : VC (m5' 379) (m5' 381 0) x.2.1 x.2.2 V := vx
        rw [s0] at vx
        have nx : ∀ c, c = b ∨ c = b + 6 → ¬ (∃ b', isTx b' ∧ b' < 8 + 17 * n ∧ b' + 6 ≤ c ∧ c ≤ b' + 8) := fun c hc w => by
          obtain ⟨b', t, w1, w2⟩ := w
          unfold isTx at t
          omega
        have rb : ∀ c i, (c = b ∨ c = b + 6) → m6' c i = m8 c i := fun c i hc => by
          rw [f6 c i (by omega) (by omega), f5 c i (by omega) (by omega) (by omega) (by omega) (by omega), f4.2 c i (by omega) (by omega) (by omega) (nx c hc), fm'.2 c i (by omega) (by omega) (by omega) (nx c hc), f9 c i (by omega) (by omega) (by omega) (by omega)]
        refine ok V s' m6' hev I6 (by rw [f6 _ _ (by decide) (by decide)]; exact e5') ?_ (by rw [rb b 2 (.inl rfl), rb (b + 6) _ (.inr rfl)]; exact A8.1 x hx) ?_ ?_ ?_
        · have e9 : m6' 379 = m5' 379 := funext (fun i => f6 _ _ (by omega) (by omega))
          rw [e9]; exact vx
        · rw [f6 _ _ (by decide) (by decide), f5 _ _ (by decide) (by decide) (by decide) (by decide) (by omega)]; exact c5
        · rw [f6 _ _ (by decide) (by decide), f5 _ _ (by decide) (by decide) (by decide) (by decide) (by omega)]; exact c6
        · refine fm9.trans ((fm'.nil.up).trans ((f4.nil.up).trans ⟨fun x hx => (by cases hx), fun c i a1 a2 a3 a4 => ?_⟩))
          rw [f6 c i (by omega) (by omega)]
          exact f5 c i (by omega) (by omega) (by omega) (by omega) (by omega)
  obtain ⟨⟨h1, h1'⟩, h2, h3, h4, -⟩ := id I7
  refine ⟨1, ?_⟩
  unfold P_X6_codeOf_3
  refine ⟨by decide, ?_⟩
  rw [if_neg (by decide)]
  refine ⟨by decide, ?_⟩
  rw [if_pos rfl]
  refine c_fresh h4 h3 (by decide) (fun m8 k k0 k6 f8 cnt => ?_)
  have I8 : MsI m8 F n [] := by
    refine ⟨⟨by rw [f8 _ _ (by decide)]; exact h1, by decide⟩, trivial, fun j j0 j1 => by rw [f8 _ _ (by omega)]; exact h3 j j0 j1, ?_⟩
    obtain ⟨-, -, -, -, q5, q6, q7, q8⟩ := id I7
    refine ⟨by rw [k6]; exact k0, fun j j0 j1 => ?_, q6.lw (fun c i a => f8 c i (by omega)), by rw [f8 376 17 (by decide), f8 376 18 (by decide)]; exact q7, by rw [f8 376 19 (by decide), f8 376 20 (by decide)]; exact q8⟩
    rw [f8 _ _ (by omega), f8 _ _ (by omega)]
    rcases q5 j j0 j1 with q | ⟨g, R, z, w1, w2, w3, w4, w5, w6⟩
    · exact .inl q
    · exact .inr ⟨g, R, z, w1, w2, w3, w4, w5, w6.fr (fun c i a _ _ => f8 c i (by omega))⟩
  have lw8 : ∀ c i, c < 365 → m8 c i = m7 c i := fun c i hc => f8 c i (by omega)
  have B8 : BKh m8 F n := B7.2.1.lw lw8
  have T8 : TN m8 b a.1 a.2 lo hi (m8 b 2) := by rw [lw8 b 2 (by omega)]; exact T7.lw lw8 tb
  refine c_code80 (e := JEl F n nr rR nv vN vR) (fl := fl) (a := a) (z := x) (n' := n + 1) I8 k6 k0 cnt tb (by omega) (fun m3' Q' f3' e3' K => ?_) ⟨hE.jok, ⟨by rw [lw8 _ _ (by omega), lw7 _ _ (by omega)]; exact hfl, by omega⟩, n, by have := B7.1; omega, rfl, B8⟩ T8 hk w wc hs (by rw [hx]; intro q; cases q) x3 (fun m' q1 _ _ => .inl q1) (fun m' q1 q2 q3 q34 q4 => ?_)
  · have g3 : ∀ c i, c < 365 → m3' c i = m8 c i := fun c i hc => f3' c i (by omega) (by omega)
    have RS3 : RSc m3' nr rR nv vN vR := by
      obtain ⟨⟨a1, a2, a3⟩, a4, a5, a6⟩ := RS7
      have t : ∀ c i, c < 365 → m3' c i = m7 c i := fun c i hc => (g3 c i hc).trans (lw8 c i hc)
      exact ⟨⟨by rw [t _ _ (by decide)]; exact a1, a2, fun k k0 k1 => by rw [t _ _ (by decide)]; exact a3 k k0 k1⟩, by rw [t _ _ (by decide)]; exact a4, a5, fun k k0 k1 => by rw [t _ _ (by decide), t _ _ (by decide)]; exact a6 k k0 k1⟩
    refine c_judgeL (n := none) (by omega) ⟨w, wc, trivial⟩ tb (by rw [g3 _ _ (by omega)]; exact T8.lw g3 tb) e3' (B8.lw g3) (by rw [g3 _ _ (by decide), lw8 _ _ (by decide), lw7 _ _ (by decide)]; exact h31) RS3 (fun m' g1 g2 g4 g5 => K _ m' g1 (g5 x hx).1)
  · refine fin k m' k0 q1 (FmC.trans ⟨fun x hx => (by cases hx), fun c i a1 a2 _ _ => f8 c i (by omega)⟩ q2) (fun c i p1 p2 p3 p4 p5 p6 => (q3 c i p1 p2 p3 p4 p5 p6).trans (f8 c i p2)) q34 q4
end RUNC
