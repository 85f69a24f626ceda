set_option maxRecDepth 100000
/-! the model's parser: lines, whole -/
section DEFM4
variable {T : MM → Prop} {tk : Int → TK} {N : Int} {m0 m m' : MM} {p o k k0 n : Int} {a : PT} {Q : Int → MM → Prop} {e : Int × Int} {q : Int}
theorem ITB.itm {hi : Int} (hh : hi ≤ 12000) : ∀ {cs : List Int} {lo i : Int}, 0 ≤ lo → ITB m hi lo i cs → ITM m i cs := by
  intro cs
  induction cs with
  | nil => intro lo i _ h; exact h
  | cons c cs ih => intro lo i l0 h; exact ⟨by have := h.1; omega, h.2.1, ih (by have := h.1; omega) h.2.2⟩
theorem RWB.rwm {hi : Int} (hh : hi ≤ 12000) : ∀ {rs : List (List Int)} {lo i : Int}, 0 ≤ lo → RWB m hi lo i rs → RWM m i rs := by
  intro rs
  induction rs with
  | nil => intro lo i _ h; exact h
  | cons r rs ih => intro lo i l0 h; exact ⟨by have := h.1; omega, h.2.1.itm (by have := h.1; omega) l0, h.2.2.1, ih (by have := h.1; omega) h.2.2.2⟩
theorem LKb.lkm {lo hi : Int} {d : ND} {cs : List Int} {n : Int} (h : LKb m lo hi d n cs) (l0 : 0 ≤ lo) (hh : hi ≤ 12000) : LKm m d n cs := by
  refine ⟨fun q => (h.1 q).itm hh l0, fun q => ?_, h.2.2⟩
  obtain ⟨rs, g1, g2⟩ := h.2.1 q
  exact ⟨rs, g1.rwm hh l0, g2⟩
theorem TB.tm : ∀ {t : TT} {lo hi : Int} {ns : List Int}, TB m t lo hi ns → TM m Tt t lo hi ns := by
  intro t
  induction t with
  | leaf => intro lo hi ns h; exact h
  | inner z d u c s ihc ihs =>
    intro lo hi ns h
    obtain ⟨n, ns', mid, h1, h2, ⟨cl, ch, cs, h3, h4, h5, h7⟩, h8⟩ := h
    exact ⟨n, ns', mid, h1, h2, ⟨cl, ch, cs, h3, h4, h5.lkm (by omega) (by omega), trivial, ihc h7⟩, ihs h8⟩
theorem TNB.tnm {lo hi n : Int} (h : TNB m a lo hi n) : TNM m Tt a.1 a.2 lo hi n := by
  obtain ⟨cl, ch, cs, h3, h4, h5, h7⟩ := h
  exact ⟨cl, ch, cs, h3, h4, h5.lkm (by omega) (by omega), trivial, h7.tm⟩
/-- an expression at the outermost level -/
theorem c_pexM (hP : PM m tk N p 0 k0) (hb : k0 + 2 * (150 - p) ≤ 11900) (h1 : ∀ x q, pEx tk p = .ok (x, q) → ∀ r m' k', PM m' tk N q 0 k' → FwM k0 m m' → TNB m' x k0 k' r → k' ≤ k0 + 2 * (q - p) → Q r m') (h0 : ∀ e, pEx tk p = .error e → ∀ r m' q k', PF m' e q 0 k' → FwM k0 m m' → Q r m') : R_X10_readE 300 4 [] m Q T := by
  have pb := hP.2.1
  refine (c_allM 4000).1.1 300 p 0 k0 m Q (by omega) (by decide) hP hb (fun rs q hq r m' k' P' F' T' n' => ?_) (fun e z r m' q k' P' F' _ _ _ => ?_)
  · exact h1 (fstP rs) q (by rw [pe_eq, hq]; rfl) r m' k' P' F' T' n'
  · exact h0 e (by rw [pe_eq, z]; rfl) r m' q k' P' F'
/-- what was read of a head -/
def HdM (m : MM) (tk : Int → TK) (n k0 k : Int) (ps : List (Int × Int × PT)) (ty : PT) (ru fp : Int) : Prop := (m 582 32 = n ∧ m 606 n = nmS' tk 0 ∧ m 611 n = ru ∧ (ru = 0 → m 582 113 = -1) ∧ (ru ≠ 0 → (0 ≤ m 582 113 ∧ m 582 113 < 420) ∧ m 588 (m 582 113) = fp)) ∧ PrM m n k0 k ps ∧ ∃ lo hi, k0 ≤ lo ∧ hi ≤ k ∧ TB m (chT [ty]) lo hi [m 582 112]
theorem f_265 (hP : PF m e q o k) (fr : FdM n k0 m0 m) (h0 : DfEr n k0 Q m0 e) : P_X10_readDefinition_265 Q m := by
  have pb := hP.1
  refine f_sign hP ?_
  rw [pb.1]
  refine ⟨by omega, ?_⟩
  rintro m2 rfl
  have P2 : PF (up m 582 110 (m 588 q)) e q o k := hP.up2 (by omega)
  exact fe_E 300 e q o k _ _ (by decide) P2 (h0 0 _ q o k P2 (fr.up (by omega)))
theorem c_265 {ps : List (Int × Int × PT)} {ty : PT} {ru fp : Int} (hP : PM m tk N p 0 k) (hk : k0 ≤ k) (hB : k0 ≤ 11600) (hb : k + 2 * (150 - p) ≤ k0 + 300) (fr : FdM n k0 m0 m) (hH : HdM m tk n k0 k ps ty ru fp) (h1 : ∀ x q, ndS tk 129 p = .ok (p + 1) → pEx tk (p + 1) = .ok (x, q) → ∀ r m' k', PM m' tk N q 0 k' → FdM n k0 m0 m' → DFm m' n k0 (mkD tk ps ty ru fp (p + 1) x) → TNB m' x k k' r → k0 ≤ k → k' ≤ k0 + 300 → Q r m') (e1 : ∀ e, ndS tk 129 p = .error e → DfEr n k0 Q m0 e) (e2 : ∀ e, ndS tk 129 p = .ok (p + 1) → pEx tk (p + 1) = .error e → DfEr n k0 Q m0 e) : P_X10_readDefinition_265 Q m := by
  have pb := hP.2.1
  refine c_signM (c := 129) rfl (by decide) (by decide) hP (fun m1 g1 P1 f1 => ?_) (fun e m1 g1 P1 f1 => ?_)
  · have pb1 := P1.2.1
    have t5 := P1.tok.2.1
    rw [pb1.1, t5]
    refine ⟨by omega, ?_⟩
    rintro m2 rfl
    have P2 : PM (up m1 582 110 (plS tk (p + 1))) tk N (p + 1) 0 k := P1.up2 (by omega)
    have fr2 : FdM n k0 m0 (up m1 582 110 (plS tk (p + 1))) := (fr.f11 f1).up (by omega)
    refine c_pexM P2 (by omega) (fun x q hq r m' k' P' F' T' n' => ?_) (fun e z r m' q k' P' F' => e2 e g1 z r m' q 0 k' P' (fr2.fw F' hk))
    have pq := P'.2.1
    have tr := T'.rng
    obtain ⟨⟨d1, d2, d3, d4, d5⟩, dP, lo, hi, dT1, dT2, dT3⟩ := hH
    have ag : ∀ c i, ¬ (c = 582 ∧ (9 ≤ i ∧ i ≤ 12 ∨ i = 15 ∨ i = 110)) → ¬ (590 ≤ c ∧ c ≤ 605 ∧ k ≤ i) → m' c i = m c i := fun c i z z1 => by rw [F' c i (by omega) z1, up_ne (by omega), f1 c i (by omega)]
    have dP' : PrM m' n k0 k' ps := dP.fr (ag _ _ (by omega) (by omega)) (fun i => ag _ _ (by omega) (by omega)) (fun c i z => ag _ _ (by omega) (by omega)) (fun c i z z1 z2 => ag c i (by omega) (by omega)) (by omega)
    refine h1 x q g1 hq r m' k' P' (fr2.fw F' hk) ⟨⟨?_, ?_, dP'.1.1, ?_, ?_, ?_, fun z => ?_, fun z => ?_⟩, fun j j1 j2 => ?_, lo, hi, dT1, ?_⟩ T' hk (by omega)
    · rw [ag _ _ (by omega) (by omega)]; exact d1
    · rw [ag _ _ (by omega) (by omega)]; exact d2
    · rw [ag _ _ (by omega) (by omega)]; exact d3
    · rw [ag _ _ (by omega) (by omega)]; exact (hP.1.1.2 0 (Int.le_refl _) (by omega)).2.1
    · rw [F' _ _ (by omega) (by omega), up_at]; rfl
    · rw [ag _ _ (by omega) (by omega)]; exact d4 z
    · rw [ag 582 _ (by omega) (by omega), ag 588 _ (by omega) (by omega)]; exact d5 z
    · obtain ⟨a1, a2, lo', hi', b1, b2, b3⟩ := dP'.2 j j1 j2
      refine ⟨a1, a2, lo', hi', b1, ?_⟩
      show TM m' Tt (if j = 0 then chT [ty] else chT [(parD ps j).2.2]) lo' hi' _
      rw [if_neg (by omega)]; exact b3.tm
    · show TM m' Tt (if (0 : Int) = 0 then chT [ty] else chT [(parD ps 0).2.2]) lo hi _
      rw [if_pos rfl, ag _ _ (by omega) (by omega)]
      exact (dT3.fr (fun c i z z1 z2 => ag c i (by omega) (by omega))).tm
  · have pb1 := P1.1
    rw [pb1.1]
    refine ⟨by omega, ?_⟩
    rintro m2 rfl
    have P2 : PF (up m1 582 110 (m1 588 p)) e p 0 k := P1.up2 (by omega)
    exact fe_E 300 e p 0 k _ _ (by decide) P2 (e1 e g1 0 _ p 0 k P2 ((fr.f11 f1).up (by omega)))
theorem f_247 {s2 : Int} (hn : 0 ≤ n ∧ n ≤ 20) (hP : PF m e q o k) (rs : RI s2) (fr : FdM n k0 m0 m) (h0 : DfEr n k0 Q m0 e) : P_X10_readDefinition_247 Q n n s2 m := by
  refine ⟨by omega, ?_⟩
  rintro m1 rfl
  rw [up_at]
  have P1 : PF (up m 611 n s2) e q o k := hP.up2 (by omega)
  have fr1 : FdM n k0 m0 (up m 611 n s2) := fr.up (by omega)
  refine ⟨by omega, rs, ?_⟩
  by_cases y : s2 = 3
  · rw [if_pos y]; exact f_key P1 (f_265 P1 fr1 h0)
  · rw [if_neg y]; exact f_265 P1 fr1 h0
theorem c_171 {ps : List (Int × Int × PT)} (hn : 0 ≤ n ∧ n ≤ 20) (k00 : 0 ≤ k0) (hB : k0 ≤ 11600) (hP : PM m tk N p 1 k) (hk : k0 ≤ k) (hb : k + 2 * (150 - p) ≤ k0 + 300) (fr : FdM n k0 m0 m) (hI : PrM m n k0 k ps) (hR : m 582 32 = n ∧ m 606 n = nmS' tk 0 ∧ m 611 n = 0 ∧ m 582 113 = -1) {G : Except (Int × Int) (DFN × Int)} (E : G = (ndS tk 41 p >>= fun q3 => ndS tk 58 q3 >>= fun q4 => pT tk 16 q4 0 >>= fun y => pFor tk y.2 >>= fun z => ndS tk 129 z.2.2 >>= fun q7 => pEx tk q7 >>= fun e => .ok (mkD tk ps y.1 z.1 z.2.1 q7 e.1, e.2))) (h1 : ∀ D q, G = .ok (D, q) → ∀ r m' lo k', PM m' tk N q 0 k' → FdM n k0 m0 m' → DFm m' n k0 D → TNB m' (dRd D, dRc D) lo k' r → k0 ≤ lo → k' ≤ k0 + 300 → Q r m') (h0 : ∀ e, G = .error e → DfEr n k0 Q m0 e) : P_X10_readDefinition_171 Q n m := by
  have pb := hP.2.1
  have tail : ∀ {e q o k} {m1 : MM} {x : Int}, G = .error e → PF m1 e q o k → k < 12000 → k0 ≤ k → FdM n k0 m0 m1 → R_X10_readRing 20 0 [] m1 (fun r3 m3 => ∀ m4 : MM, m4 = up m3 582 112 r3 → P_X10_isKey x m4 (fun r4 m5 => (RI r4) ∧ (if r4 = 0 then P_X10_readDefinition_265 Q m5 else ∀ m6 : MM, m6 = up m5 582 113 (m5 582 9) → P_X10_accept m6 (fun r5 m7 => P_X10_takesKey 1919512167 m7 (fun r6 m8 => (RI r6) ∧ (if r6 = 0 then P_X10_takesKey 482854660462 m8 (fun r7 m9 => (RI r7) ∧ (if r7 = 0 then P_X10_readDefinition_247 Q n n 3 m9 else P_X10_readDefinition_247 Q n n 2 m9)) else P_X10_readDefinition_247 Q n n 1 m8)))))) (fun _ => False) := by
    intro e q o k m1 x hG P1 kb hk1 F1
    refine f_ring (f := 19) e q o k m1 _ P1 kb (fun m2 P2 F2 => ?_)
    rintro m3 rfl
    have P3 : PF (up m2 582 112 k) e q o (k + 1) := P2.up2 (by omega)
    refine f_isKey P3 ⟨by decide, ?_⟩
    rw [if_pos rfl]
    exact f_265 P3 ((F1.fw F2 hk1).up (by omega)) (h0 e hG)
  refine c_closeWithM (c := 41) (o := 0) rfl (by decide) (by decide) hP (by decide) (fun m1 a1 P1 f1 => ?_) (fun e m1 a1 P1 f1 => ?_)
  · rw [a1] at E
    have E1 : G = (ndS tk 58 (p + 1) >>= fun q4 => pT tk 16 q4 0 >>= fun y => pFor tk y.2 >>= fun z => ndS tk 129 z.2.2 >>= fun q7 => pEx tk q7 >>= fun e => .ok (mkD tk ps y.1 z.1 z.2.1 q7 e.1, e.2)) := E
    clear E
    have fr1 := fr.f12 f1
    refine c_signM (c := 58) rfl (by decide) (by decide) P1 (fun m2 a2 P2 f2 => ?_) (fun e m2 a2 P2 f2 => ?_)
    · rw [a2] at E1
      have E2 : G = (pT tk 16 (p + 1 + 1) 0 >>= fun y => pFor tk y.2 >>= fun z => ndS tk 129 z.2.2 >>= fun q7 => pEx tk q7 >>= fun e => .ok (mkD tk ps y.1 z.1 z.2.1 q7 e.1, e.2)) := E1
      clear E1
      have fr2 := fr1.f11 f2
      have pb2 := P2.2.1
      refine c_ringP 16 20 (by decide) (p + 1 + 1) 0 k m2 _ (by decide) P2 (by omega) (fun ty q hq m3 k3 P3 F3 T3 n3 => ?_) (fun e z m3 q k3 P3 F3 hq k3a k3b => ?_)
      · rw [hq] at E2
        have E3 : G = (pFor tk q >>= fun z => ndS tk 129 z.2.2 >>= fun q7 => pEx tk q7 >>= fun e => .ok (mkD tk ps ty z.1 z.2.1 q7 e.1, e.2)) := E2
        clear E2
        have lt := pT_lt hq
        have pq := P3.2.1
        have tr := T3.rng
        intro m4 h4
        have P4 : PM m4 tk N q 0 k3 := by rw [h4]; exact P3.up2 (by omega)
        have fr4 : FdM n k0 m0 m4 := by rw [h4]; exact (fr2.fw F3 hk).up (by omega)
        have ag : ∀ c i, ¬ (c = 582 ∧ (9 ≤ i ∧ i ≤ 12 ∨ i = 15 ∨ i = 112)) → ¬ (590 ≤ c ∧ c ≤ 605 ∧ k ≤ i) → m4 c i = m c i := fun c i z z1 => by rw [h4, up_ne (by omega), F3 c i (by omega) z1, f2 c i (by omega), f1 c i (by omega)]
        have I4 : PrM m4 n k0 k3 ps := hI.fr (ag _ _ (by omega) (by omega)) (fun i => ag _ _ (by omega) (by omega)) (fun c i z => ag _ _ (by omega) (by omega)) (fun c i z z1 z2 => ag c i (by omega) (by omega)) (by omega)
        have T4 : ∃ lo hi, k0 ≤ lo ∧ hi ≤ k3 ∧ TB m4 (chT [ty]) lo hi [m4 582 112] := by
          refine ⟨k, k3, hk, Int.le_refl _, ?_⟩
          rw [h4, up_at, ← h4]
          exact (T3.fr (fun c i z z1 z2 => by rw [h4]; exact up_ne (by omega)) tr.1 (Int.le_refl _) (Int.le_refl _) tr.2.2.2).one
        have e32 : m4 582 32 = n := by rw [ag _ _ (by omega) (by omega)]; exact hR.1
        have e606 : m4 606 n = nmS' tk 0 := by rw [ag _ _ (by omega) (by omega)]; exact hR.2.1
        have e611 : m4 611 n = 0 := by rw [ag _ _ (by omega) (by omega)]; exact hR.2.2.1
        have e113 : m4 582 113 = -1 := by rw [ag _ _ (by omega) (by omega)]; exact hR.2.2.2
        unfold pFor at E3
        refine c_isKeyM (c := 8) rfl (by decide) P4 (fun y => ⟨by decide, ?_⟩) (fun y => ⟨by decide, ?_⟩)
        · rw [if_neg (by decide)]
          rw [if_pos y] at E3
          have P4at : m4 582 9 = q := P4.2.1.1
          rw [P4at]
          intro m6 h6
          have P6 : PM m6 tk N q 0 k3 := by rw [h6]; exact P4.up2 (by omega)
          have fr6 : FdM n k0 m0 m6 := by rw [h6]; exact fr4.up (by omega)
          refine c_acceptM P6 (ky_kd y) (fun m7 a7 P7 f7 => ?_) (fun e m7 a7 P7 f7 => ?_)
          · rw [a7] at E3
            have fr7 : FdM n k0 m0 m7 := fr6.f11 (fun c i z => f7 c i (by omega))
            have t8 : m6 588 q = plS tk q := P6.tok.2.1
            have a7' : ∀ c i, ¬ (c = 582 ∧ (i = 9 ∨ i = 113)) → m7 c i = m4 c i := fun c i z => by rw [f7 c i (by omega), h6, up_ne (by omega)]
            have b113 : m7 582 113 = q := by rw [f7 _ _ (by omega), h6, up_at]
            -- the sort of R is told: the rest
            have rest : ∀ (ru : Int) (m8 : MM), (1 ≤ ru ∧ ru ≤ 3) → vlS tk (q + 1) = ru + 8 → (isKy tk 9 (q + 1) ∨ isKy tk 10 (q + 1) ∨ isKy tk 11 (q + 1)) → goS tk (q + 1) = .ok (q + 1 + 1) → PM m8 tk N (q + 1 + 1) 0 k3 → F911 (up m7 611 n ru) m8 → P_X10_readDefinition_265 Q m8 := by
              intro ru m8 hru hv z g8 P8 f8
              have E4 : G = (ndS tk 129 (q + 1 + 1) >>= fun q7 => pEx tk q7 >>= fun e => .ok (mkD tk ps ty ru (plS tk q) q7 e.1, e.2)) := by
                rw [E3]
                show ((if isKy tk 9 (q + 1) ∨ isKy tk 10 (q + 1) ∨ isKy tk 11 (q + 1) then _ else _) >>= _) = _
                rw [if_pos z, g8, show ru = 1 + vlS tk (q + 1) - 9 by omega]
                rfl
              have ag8 : ∀ c i, ¬ (c = 582 ∧ (9 ≤ i ∧ i ≤ 11 ∨ i = 113)) → ¬ (c = 611 ∧ i = n) → m8 c i = m4 c i := fun c i z z1 => by rw [f8 c i (by omega), up_ne z1, a7' c i (by omega)]
              have pq8 := P8.2.1
              refine c_265 (ps := ps) (ty := ty) (ru := ru) (fp := plS tk q) P8 (by omega) hB (by omega) ((fr7.up (by omega)).f11 f8) ⟨⟨?_, ?_, ?_, fun z => ?_, fun _ => ?_⟩, ?_, ?_⟩ (fun x q' a' hx r m' k' P' F' D' T' l' b' => h1 _ q' (by rw [E4, a']; show (pEx tk (q + 1 + 1 + 1) >>= _) = _; rw [hx]; rfl) r m' k3 k' P' F' D' T' l' b') (fun e z => h0 e (by rw [E4, z]; rfl)) (fun e a' z => h0 e (by rw [E4, a']; show (pEx tk (q + 1 + 1 + 1) >>= _) = _; rw [z]; rfl))
              · rw [ag8 _ _ (by omega) (by omega)]; exact e32
              · rw [ag8 _ _ (by omega) (by omega)]; exact e606
              · rw [f8 _ _ (by omega), up_at]
              · omega
              · have e8 : m8 582 113 = q := by rw [f8 _ _ (by omega), up_ne (by omega)]; exact b113
                rw [e8]
                refine ⟨by omega, ?_⟩
                rw [ag8 _ _ (by omega) (by omega)]; exact P4.tok.2.1
              · exact I4.fr (ag8 _ _ (by omega) (by omega)) (fun i => ag8 _ _ (by omega) (by omega)) (fun c i z => ag8 _ _ (by omega) (by omega)) (fun c i z z1 z2 => ag8 c i (by omega) (by omega)) (Int.le_refl _)
              · obtain ⟨lo, hi, q1, q2, q3⟩ := T4
                refine ⟨lo, hi, q1, q2, ?_⟩
                rw [ag8 _ _ (by omega) (by omega)]
                exact q3.fr (fun c i z z1 z2 => ag8 c i (by omega) (by omega))
            have er : ∀ e, (isKy tk 9 (q + 1) ∨ isKy tk 10 (q + 1) ∨ isKy tk 11 (q + 1)) → goS tk (q + 1) = .error e → DfEr n k0 Q m0 e := by
              intro e z g8
              refine h0 e ?_
              rw [E3]
              show ((if isKy tk 9 (q + 1) ∨ isKy tk 10 (q + 1) ∨ isKy tk 11 (q + 1) then _ else _) >>= _) = _
              rw [if_pos z, g8]; rfl
            -- 1 or 2: the key was passed first
            have two : ∀ (ru : Int) (m8 : MM), (ru = 1 ∨ ru = 2) → vlS tk (q + 1) = ru + 8 → (isKy tk 9 (q + 1) ∨ isKy tk 10 (q + 1) ∨ isKy tk 11 (q + 1)) → goS tk (q + 1) = .ok (q + 1 + 1) → PM m8 tk N (q + 1 + 1) 0 k3 → F911 m7 m8 → P_X10_readDefinition_247 Q n n ru m8 := by
              intro ru m8 hru hv z g8 P8 f8
              refine ⟨by omega, ?_⟩
              rintro m9 rfl
              rw [up_at]
              refine ⟨by omega, by constructor <;> omega, ?_⟩
              rw [if_neg (by omega)]
              refine rest ru _ (by omega) hv z g8 (P8.up2 (by omega)) (fun c i w => ?_)
              by_cases y : c = 611 ∧ i = n
              · rw [y.1, y.2, up_at, up_at]
              · rw [up_ne y, up_ne y, f8 c i w]
            refine c_takesKeyM (c := 9) rfl (by decide) P7 (fun m8 z g8 P8 f8 => ⟨by decide, ?_⟩) (fun z9 => ⟨by decide, ?_⟩) (fun e m8 z g8 P8 f8 => ⟨by decide, ?_⟩)
            · rw [if_neg (by decide)]; exact two 1 m8 (.inl rfl) (by have z' : vlS tk (q + 1) = 9 := z.2; omega) (.inl z) g8 P8 f8
            · rw [if_pos rfl]
              refine c_takesKeyM (c := 10) rfl (by decide) P7 (fun m8 z g8 P8 f8 => ⟨by decide, ?_⟩) (fun z10 => ⟨by decide, ?_⟩) (fun e m8 z g8 P8 f8 => ⟨by decide, ?_⟩)
              · rw [if_neg (by decide)]; exact two 2 m8 (.inr rfl) (by have z' : vlS tk (q + 1) = 10 := z.2; omega) (.inr (.inl z)) g8 P8 f8
              · rw [if_pos rfl]
                refine ⟨by omega, ?_⟩
                rintro m8 rfl
                rw [up_at]
                refine ⟨by omega, by decide, ?_⟩
                rw [if_pos rfl]
                have P8 : PM (up m7 611 n 3) tk N (q + 1) 0 k3 := P7.up2 (by omega)
                refine c_keyM (c := 11) rfl (by decide) P8 (fun m9 g9 P9 f9 => ?_) (fun e m9 g9 P9 f9 => ?_)
                · obtain ⟨y11, -, -⟩ := nk_ok g9
                  have g9' : goS tk (q + 1) = .ok (q + 1 + 1) := by unfold nkS at g9; rw [if_pos y11] at g9; exact g9
                  exact rest 3 m9 (by decide) (by have z' : vlS tk (q + 1) = 11 := y11.2; omega) (.inr (.inr y11)) g9' P9 f9
                · refine f_265 P9 ((fr7.up (by omega)).f11 f9) ?_
                  by_cases y11 : isKy tk 11 (q + 1)
                  · unfold nkS at g9
                    rw [if_pos y11] at g9
                    exact er e (.inr (.inr y11)) g9
                  · unfold nkS at g9
                    rw [if_neg y11] at g9
                    refine h0 e ?_
                    rw [E3]
                    show ((if isKy tk 9 (q + 1) ∨ isKy tk 10 (q + 1) ∨ isKy tk 11 (q + 1) then _ else _) >>= _) = _
                    rw [if_neg (by rintro (h | h | h); exact z9 h; exact z10 h; exact y11 h)]
                    injection g9 with g9
                    rw [← g9]; rfl
              · rw [if_neg (by decide)]; exact f_247 hn P8 (by decide) (fr7.f11 f8) (er e (.inr (.inl z)) g8)
            · rw [if_neg (by decide)]; exact f_247 hn P8 (by decide) (fr7.f11 f8) (er e (.inl z) g8)
          · have fr7 : FdM n k0 m0 m7 := fr6.f11 (fun c i z => f7 c i (by omega))
            have hE := h0 e (by rw [E3, a7]; rfl)
            refine f_takesKey P7 ⟨by decide, ?_⟩
            rw [if_pos rfl]
            refine f_takesKey P7 ⟨by decide, ?_⟩
            rw [if_pos rfl]
            exact f_247 hn P7 (by decide) fr7 hE
        · rw [if_pos rfl]
          rw [if_neg y] at E3
          have E4 : G = (ndS tk 129 q >>= fun q7 => pEx tk q7 >>= fun e => .ok (mkD tk ps ty 0 (-1) q7 e.1, e.2)) := E3
          refine c_265 (ps := ps) (ty := ty) (ru := 0) (fp := -1) P4 (by omega) hB (by omega) fr4 ⟨⟨e32, e606, e611, fun _ => e113, fun z => absurd rfl z⟩, I4, T4⟩ (fun x q' a' hx r m' k' P' F' D' T' l' b' => h1 _ q' (by rw [E4, a']; show (pEx tk (q + 1) >>= _) = _; rw [hx]; rfl) r m' k3 k' P' F' D' T' l' b') (fun e z => h0 e (by rw [E4, z]; rfl)) (fun e a' z => h0 e (by rw [E4, a']; show (pEx tk (q + 1) >>= _) = _; rw [z]; rfl))
      · rintro m4 rfl
        have P4 : PF (up m3 582 112 k) e q 0 k3 := P3.up2 (by omega)
        refine f_isKey P4 ⟨by decide, ?_⟩
        rw [if_pos rfl]
        exact f_265 P4 ((fr2.fw F3 hk).up (by omega)) (h0 e (by rw [E2, z]; rfl))
    · exact tail (by rw [E1, a2]; rfl) P2 (by omega) hk (fr1.f11 f2)
  · exact f_sign P1 (tail (by rw [E, a1]; rfl) P1 (by omega) hk (fr.f12 f1))
/-- a function that is told -/
theorem c_readDefM (hn : 0 ≤ n ∧ n ≤ 20) (hP : PM m tk N 0 0 k0) (hk : kdS tk 0 = 2) (hs1 : isSg tk 40 1) (h32 : m 582 32 = n) (hb : k0 ≤ 11600) (h1 : ∀ D q, pTold tk = .ok (D, q) → ∀ r m' lo k', PM m' tk N q 0 k' → FdM n k0 m m' → DFm m' n k0 D → TNB m' (dRd D, dRc D) lo k' r → k0 ≤ lo → k' ≤ k0 + 300 → Q r m') (h0 : ∀ e, pTold tk = .error e → DfEr n k0 Q m e) : P_X10_readDefinition m Q := by
  have pb := hP.2.1
  have kb := hP.2.2.2.2
  have E := td_eq (tk := tk)
  have kg : kgS tk 2 0 = goS tk 0 := by unfold kgS kdE; rw [if_pos hk]; rfl
  obtain ⟨⟨u1, u2, u3, u4⟩, u5, uw⟩ := hP.tok
  have n9 : m 589 0 = nmS' tk 0 := u3 (by have z : (tk 0).1 = 2 := hk; omega)
  unfold P_X10_readDefinition
  rw [h32]
  refine c_needM (kd := 2) rfl (.inr rfl) hP (fun m1 g1 P1 f1 => ⟨by decide, by omega, ?_⟩) (fun e m1 g1 P1 f1 => ⟨by decide, by omega, ?_⟩)
  · rw [kg] at g1
    rw [g1] at E
    have E1 : pTold tk = (opS tk (0 + 1) 0 >>= fun q1 => pPar tk 5 q1 0 >>= fun x => ndS tk 41 x.2 >>= fun q3 => ndS tk 58 q3 >>= fun q4 => pT tk 16 q4 0 >>= fun y => pFor tk y.2 >>= fun z => ndS tk 129 z.2.2 >>= fun q7 => pEx tk q7 >>= fun e => .ok (mkD tk x.1 y.1 z.1 z.2.1 q7 e.1, e.2)) := E
    clear E
    have e9 : m1 589 0 = nmS' tk 0 := by rw [f1 _ _ (by omega)]; exact n9
    rw [e9]
    intro m2 h2 m3 h3 m4 h4 m5 h5
    have P5 : PM m5 tk N (0 + 1) 0 k0 := by rw [h5, h4, h3, h2]; exact (((P1.up2 (by omega)).up2 (by omega)).up2 (by omega)).up2 (by omega)
    have fr5 : FdM n k0 m m5 := by rw [h5, h4, h3, h2]; exact ((((FdM.refl.f11 f1).up (by omega)).up (by omega)).up (by omega)).up (by omega)
    have b606 : m5 606 n = nmS' tk 0 := by rw [h5, up_ne (by omega), h4, up_ne (by omega), h3, up_ne (by omega), h2, up_at]
    have b609 : m5 609 n = 0 := by rw [h5, up_ne (by omega), h4, up_ne (by omega), h3, up_at]
    have b611 : m5 611 n = 0 := by rw [h5, up_ne (by omega), h4, up_at]
    have b113 : m5 582 113 = -1 := by rw [h5, up_at]
    have b32 : m5 582 32 = n := by rw [h5, up_ne (by omega), h4, up_ne (by omega), h3, up_ne (by omega), h2, up_ne (by omega), f1 _ _ (by omega)]; exact h32
    have no : noS tk 40 (0 + 1) 0 = opS tk (0 + 1) 0 := by unfold noS; exact if_pos hs1
    refine c_openWithM (c := 40) rfl (by decide) (by decide) P5 (fun m6 a6 P6 f6 => ⟨5, ?_⟩) (fun e m6 q a6 P6 hq f6 => ⟨5, ?_⟩)
    · rw [no] at a6
      rw [a6] at E1
      have E2 : pTold tk = (pPar tk 5 (0 + 1 + 1) 0 >>= fun x => ndS tk 41 x.2 >>= fun q3 => ndS tk 58 q3 >>= fun q4 => pT tk 16 q4 0 >>= fun y => pFor tk y.2 >>= fun z => ndS tk 129 z.2.2 >>= fun q7 => pEx tk q7 >>= fun e => .ok (mkD tk x.1 y.1 z.1 z.2.1 q7 e.1, e.2)) := E1
      clear E1
      refine c_parM hn kb.2 hb 5 5 [] (0 + 1 + 1) k0 m6 rfl (Nat.le_refl _) P6 ⟨⟨by rw [f6 _ _ (by omega)]; exact b609, by decide⟩, fun j j1 j2 => ?_⟩ (Int.le_refl _) (by omega) (fr5.f12 f6) (fun r q hq m7 k7 P7 I7 kk7 b7 f7 c1 c2 c3 => ?_) (fun e z => h0 e ?_)
      · have j2 : j ≤ ((0 : Nat) : Int) := j2
        omega
      · have hq : pPar tk 5 (0 + 1 + 1) 0 = .ok (r, q) := hq
        rw [hq] at E2
        refine c_171 (ps := r) hn kb.2 hb P7 kk7 b7 f7 I7 ⟨?_, ?_, ?_, ?_⟩ E2 h1 h0
        · rw [f7 582 32 (by omega) (by omega) (by omega) (by omega) (by omega)]; exact h32
        · rw [c1, f6 _ _ (by omega)]; exact b606
        · rw [c2, f6 _ _ (by omega)]; exact b611
        · rw [c3, f6 _ _ (by omega)]; exact b113
      · have z : pPar tk 5 (0 + 1 + 1) 0 = .error e := z
        rw [E2, z]; rfl
    · rw [no] at a6
      exact f_48 P6 (by omega) (fr5.f12 f6) (Int.le_refl _) (h0 e (by rw [E1, a6]; rfl))
  · rw [kg] at g1
    have hE := h0 e (by rw [E, g1]; rfl)
    rintro m2 rfl m3 rfl m4 rfl m5 rfl
    have P5 := (((P1.up2 (c := 606) (i := n) (v := m1 589 0) (by omega)).up2 (c := 609) (i := n) (v := 0) (by omega)).up2 (c := 611) (i := n) (v := 0) (by omega)).up2 (c := 582) (i := 113) (v := -1) (by omega)
    have fr5 := ((((FdM.refl (n := n) (k := k0) (m := m)).f11 f1).up (c := 606) (i := n) (v := m1 589 0) (by omega)).up (c := 609) (i := n) (v := 0) (by omega)).up (c := 611) (i := n) (v := 0) (by omega)
    have fr6 := fr5.up (c := 582) (i := 113) (v := -1) (by omega)
    exact f_openWith P5 (by decide) (fun m6 P6 f6 => ⟨1, f_48 P6 (by omega) (fr6.f12 f6) (Int.le_refl _) hE⟩)
/-- a line that is worked -/
theorem c_readLineM {x1 : Int} (hP : PM m tk N 0 0 k0) (hb : k0 ≤ 11600) (hx : x1 = 1 ∧ kdS tk 0 = 2 ∧ isSg tk 128 1 ∨ x1 = 0) {G : Except (Int × Int) (PT × Int)} (E : G = (if x1 = 1 then (goS tk 0 >>= fun q => goS tk q >>= fun q1 => pEx tk q1) else pEx tk 0)) (h1 : ∀ x q, G = .ok (x, q) → ∀ r m' k', PM m' tk N q 0 k' → FwM k0 m m' → TNB m' x k0 k' r → k' ≤ k0 + 300 → Q r m') (h0 : ∀ e, G = .error e → ∀ r m' q o k', PF m' e q o k' → FwM k0 m m' → Q r m') : P_X10_readLine x1 m Q := by
  have kb := hP.2.2.2.2
  refine ⟨by constructor <;> omega, ?_⟩
  by_cases y : x1 = 0
  · rw [if_pos y]
    rw [if_neg (by omega)] at E
    refine c_pexM hP (by omega) (fun x q hq r m' k' P' F' T' n' => ?_) (fun e z r m' q k' P' F' => ?_)
    · exact h1 x q (by rw [E]; exact hq) r m' k' P' F' T' (by have := P'.2.1; omega)
    · exact h0 e (by rw [E]; exact z) r m' q 0 k' P' F'
  · rw [if_neg y]
    rw [if_pos (by omega)] at E
    have hx1 : kdS tk 0 = 2 ∧ isSg tk 128 1 := by
      rcases hx with ⟨-, h2, h3⟩ | h
      · exact ⟨h2, h3⟩
      · exact absurd h y
    refine c_acceptM hP (by have z : (tk 0).1 = 2 := hx1.1; omega) (fun m1 a1 P1 f1 => ?_) (fun e m1 a1 P1 f1 => ?_)
    · rw [a1] at E
      have E1 : G = (goS tk (0 + 1) >>= fun q1 => pEx tk q1) := E
      have F1 : FwM k0 m m1 := FwM.refl.f582 (fun c i z => f1 c i (by omega))
      refine c_acceptM P1 (sg_kd hx1.2) (fun m2 a2 P2 f2 => ?_) (fun e m2 a2 P2 f2 => ?_)
      · rw [a2] at E1
        have E2 : G = pEx tk (0 + 1 + 1) := E1
        have F2 : FwM k0 m m2 := F1.f582 (fun c i z => f2 c i (by omega))
        refine c_pexM P2 (by omega) (fun x q hq r m' k' P' F' T' n' => ?_) (fun e z r m' q k' P' F' => ?_)
        · exact h1 x q (E2.trans hq) r m' k' P' (F2.trans F' (Int.le_refl _)) T' (by have := P'.2.1; omega)
        · exact h0 e (E2.trans z) r m' q 0 k' P' (F2.trans F' (Int.le_refl _))
      · exact fe_E 300 e _ _ _ m2 _ (by decide) P2 (h0 e (by rw [E1, a2]; rfl) 0 m2 _ _ _ P2 (F1.f582 (fun c i z => f2 c i (by omega))))
    · have F1 : FwM k0 m m1 := FwM.refl.f582 (fun c i z => f1 c i (by omega))
      refine f_accept P1 ?_
      exact fe_E 300 e _ _ _ m1 _ (by decide) P1 (h0 e (by rw [E, a1]; rfl) 0 m1 _ _ _ P1 F1)
end DEFM4
