set_option maxRecDepth 100000
/-! what the parser reads is in order: lines -/
def GTx (a : PT) (hi : Int) : Prop := (30 ≤ a.1.1 ∧ a.1.1 ≤ 35) ∧ (okN a.1 a.2 ∧ wfT a.2) ∧ htT a.2 + 1 ≤ 16 ∧ pup (chT [a]) hi
/-- an expression of a line -/
def GE (a : PT) : Prop := (0 ≤ a.1.1 ∧ a.1.1 ≤ 25) ∧ wfT (nd a.1 a.2 lf) ∧ max (dq (nd a.1 a.2 lf)).1 (dq (nd a.1 a.2 lf)).2 ≤ 300 ∧ szT a.2 ≤ 150
section PARF4
variable {tk : Int → TK} {p q o : Int} {a : PT}
theorem GT.x {hi : Int} (h : GT tk 16 a p q) (hl : plS tk q ≤ hi) : GTx a hi := ⟨h.1, h.2.1, h.2.2.2.2.1.2.1, h.2.2.2.1.mono hl⟩
theorem GTx.ty {hi : Int} (h : GTx a hi) : wfT (chT [a]) ∧ isTy (chT [a]) ∧ htT (chT [a]) ≤ 16 ∧ pup (chT [a]) hi := by
  refine ⟨⟨h.2.1.1, h.2.1.2, trivial⟩, ⟨h.1, rfl⟩, ?_, h.2.2.2⟩
  show max (htT a.2 + 1) 0 ≤ 16
  have := h.2.2.1
  omega
theorem pPar_ok (hT : TkO tk) : ∀ {f : Nat} {p c : Int} {r : List (Int × Int × PT)} {q : Int}, 0 ≤ p → 0 ≤ c ∧ c ≤ 3 → pPar tk f p c = .ok (r, q) → (p < q ∧ plS tk p < plS tk q) ∧ (1 ≤ r.length ∧ (r.length : Int) + c ≤ 3) ∧ ∀ x, x ∈ r → RL x.1 ∧ (0 ≤ x.2.1 ∧ x.2.1 ≤ 400) ∧ GTx x.2.2 (plS tk q) := by
  intro f
  induction f with
  | zero => intro p c r q _ _ h; cases h
  | succ f ih =>
    intro p c r q p0 c0 h
    rw [pp_eq] at h
    obtain ⟨_, hk, h⟩ := exb h
    have k2 : (tk p).1 = 2 := kd_ok hk
    by_cases y : c = 3
    · rw [if_pos y] at h; cases h
    rw [if_neg y] at h
    obtain ⟨q0, h0, h⟩ := exb h
    obtain ⟨g0, rfl⟩ := go_ok h0
    obtain ⟨q1, h1, h⟩ := exb h
    obtain ⟨y1, g1, rfl⟩ := nd_ok h1
    obtain ⟨⟨a, q2⟩, h2, h⟩ := exb h
    have G := pT_ok hT (by omega) h2
    have lt := pT_lt h2
    have lG := G.2.2.2.2.2
    have tp := hT p p0 (by omega) (by omega)
    have w1 := hT.sg (by omega) y1
    have hx : RL (nmS' tk p) ∧ (0 ≤ plS tk p ∧ plS tk p ≤ 400) := ⟨tp.1.2.2.2.2.2.1 k2, tp.1.2.2.2.2.2.2⟩
    have h' : (if isSg tk 44 q2 then (goS tk q2 >>= fun q3 => pPar tk f q3 (c + 1) >>= fun y => .ok ((nmS' tk p, plS tk p, a) :: y.1, y.2)) else .ok ([(nmS' tk p, plS tk p, a)], q2)) = .ok (r, q) := h
    by_cases y2 : isSg tk 44 q2
    · rw [if_pos y2] at h'
      obtain ⟨q3, h3, h'⟩ := exb h'
      obtain ⟨g3, rfl⟩ := go_ok h3
      obtain ⟨⟨r', q4⟩, h4, h'⟩ := exb h'
      injection h' with e
      injection e with e1 e2
      have e1 : (nmS' tk p, plS tk p, a) :: r' = r := e1
      have e2 : q4 = q := e2
      subst e1 e2
      have I := ih (by omega) (by omega) h4
      have w2 := hT.sg (by omega) y2
      refine ⟨⟨by omega, by omega⟩, ⟨by rw [List.length_cons]; omega, by rw [List.length_cons]; omega⟩, fun x hx' => ?_⟩
      rcases List.mem_cons.1 hx' with rfl | hx'
      · exact ⟨hx.1, hx.2, G.x (by omega)⟩
      · exact I.2.2 x hx'
    · rw [if_neg y2] at h'
      injection h' with e
      injection e with e1 e2
      subst e1 e2
      refine ⟨⟨by omega, by omega⟩, ⟨Nat.le_refl 1, by show ((1 : Nat) : Int) + c ≤ 3; omega⟩, fun x hx' => ?_⟩
      rw [List.mem_singleton] at hx'
      rw [hx']
      exact ⟨hx.1, hx.2, G.x (Int.le_refl _)⟩
theorem parD_mem {ps : List (Int × Int × PT)} {k : Int} (h1 : 1 ≤ k) (h2 : k ≤ (ps.length : Int)) : parD ps k ∈ ps := by
  have h : (k - 1).toNat < ps.length := by omega
  unfold parD List.getD
  rw [List.getElem?_eq_getElem h]
  exact List.getElem_mem h
theorem pT_le : ∀ {f : Nat} {p o : Int} {a : PT} {q : Int}, pT tk f p o = .ok (a, q) → q ≤ 150 := by
  intro f p o a q h
  cases f with
  | zero => unfold pT at h; cases h
  | succ f =>
    unfold pT at h
    by_cases y : kdS tk p ≠ 3
    · rw [if_pos y] at h; cases h
    rw [if_neg y] at h
    by_cases y : vlS tk p = 14 ∨ vlS tk p = 15 ∨ vlS tk p = 16 ∨ vlS tk p = 20
    · rw [if_pos y] at h
      obtain ⟨q0, h0, h⟩ := exb h
      have := go_ok h0
      injection h with e; injection e with e1 e2; omega
    rw [if_neg y] at h
    by_cases y : ¬ (vlS tk p = 17 ∨ vlS tk p = 18 ∨ vlS tk p = 19)
    · rw [if_pos y] at h; cases h
    rw [if_neg y] at h
    obtain ⟨q0, h0, h⟩ := exb h
    obtain ⟨q1, h1, h⟩ := exb h
    by_cases y : vlS tk p = 17
    · rw [if_pos y] at h
      obtain ⟨_, _, h⟩ := exb h
      obtain ⟨q2, h2, h⟩ := exb h
      obtain ⟨q3, h3, h⟩ := exb h
      have g3 := nd_ok h3
      injection h with e; injection e with e1 e2; omega
    rw [if_neg y] at h
    by_cases y : vlS tk p = 18
    · rw [if_pos y] at h
      obtain ⟨⟨a1, q2⟩, h2, h⟩ := exb h
      obtain ⟨q3, h3, h⟩ := exb h
      have g3 := nd_ok h3
      injection h with e; injection e with e1 e2; omega
    rw [if_neg y] at h
    obtain ⟨_, _, h⟩ := exb h
    obtain ⟨q2, h2, h⟩ := exb h
    obtain ⟨q3, h3, h⟩ := exb h
    obtain ⟨⟨a1, q4⟩, h4, h⟩ := exb h
    obtain ⟨q5, h5, h⟩ := exb h
    have g5 := nd_ok h5
    injection h with e; injection e with e1 e2; omega
theorem pS_le {f md : Nat} {a : PT} {p o : Int} {rs : List (List PT)} {q : Int} (h : pS tk f md a p o = .ok (rs, q)) : p ≤ 150 → q ≤ 150 := by
  refine pS_ind (tk := tk) (Φ := fun _ _ p _ _ q => p ≤ 150 → q ≤ 150) ?_ ?_ ?_ ?_ ?_ ?_ ?_ ?_ ?_ ?_ ?_ ?_ ?_ ?_ ?_ ?_ f md a p o rs q h
  · intro a p o rs q _ h; exact h
  · intro a p o ra q1 rb q3 rc q5 _ _ _ h1 _ _ h2 _ _ h3 _; exact h3 (by omega)
  · intro md lo lp a p o ra q1 rs q hl h1 h2 z; exact h2 (h1 z)
  · intro lp a p o hl z; exact z
  · intro lp lo k a p o rb q1 rs q hl _ h1 h2 _; exact h2 (h1 (by omega))
  · intro md lo a p o rs q hm h; exact h
  · intro md lo k a p o ra q hm _ _ h _; exact h (by omega)
  · intro a p o ra q h; exact h
  · intro a p o ra q k rb q2 h1 _ _ h2 _; exact h2 (by omega)
  · intro a p o rs q _ _ _ _ h _; exact h (by omega)
  · intro a p o b q1 k rs q _ _ h1 h2 _; exact h2 (pT_le h1)
  · intro a p o x q h z
    rcases h with h | ⟨a1, a2, a3, a4, a5, r, q2, a6, a7⟩ | h | ⟨a1, a2, a3, a4, a5, r, q2, a6, a7⟩ | h | ⟨a1, a2, a3, r, q1, a4, a5⟩ | ⟨a1, a2, a3, r, q1, a4, a5⟩ | h <;> omega
  · intro a p o r q h; exact h
  · intro a p o r q r2 q2 h1 _ _ h2 _; exact h2 (by omega)
  · intro a p o r q _ _ _ h _ _ _; omega
  · intro a p o r q rs q4 _ _ _ h1 _ _ _ _ h2 _; exact h2 (by omega)
theorem pEx_ok (hT : TkO tk) (p0 : 0 ≤ p) (p1 : p ≤ 150) {x : PT} (h : pEx tk p = .ok (x, q)) : GE x ∧ (plS tk p ≤ 400 ∧ p < q ∧ plS tk p < plS tk q) := by
  rw [pe_eq] at h
  obtain ⟨⟨rs, q'⟩, h1, h⟩ := exb h
  injection h with e
  injection e with e1 e2
  have e1 : fstP rs = x := e1
  have e2 : q' = q := e2
  subst e1 e2
  have G := (pS_ok hT h1 p0 (by decide)).2.1 (by decide)
  have lt := (pS_lt h1).2 (by decide)
  obtain ⟨a1, a2, a3, a4, a5, a6⟩ := G
  have e0 : lvD 0 = 5 := by decide
  have b5 : ((dq (chT [fstP rs])).1 : Int) ≤ 216 := by
    have e216 : bD (lvD 0) 0 = 216 := by rw [e0]; decide
    omega
  have e2' : (dq (nd (fstP rs).1 (fstP rs).2 lf)).2 = 0 := rfl
  have b6 : (dq (nd (fstP rs).1 (fstP rs).2 lf)).1 = (dq (chT [fstP rs])).1 := rfl
  have pw := a2.1.1
  have pw1 : plS tk p ≤ (fstP rs).1.2.1 := a3.1
  have le := pS_le h1 p1
  exact ⟨⟨a1, ⟨a2.1, a2.2, trivial⟩, by omega, by omega⟩, by omega, lt, a6⟩
theorem pTold_ok (hT : TkO tk) (k2 : kdS tk 0 = 2) {D : DFN} (h : pTold tk = .ok (D, q)) : okD D ∧ GE (dRd D, dRc D) := by
  rw [td_eq] at h
  obtain ⟨q0, h0, h⟩ := exb h
  obtain ⟨g0, rfl⟩ := go_ok h0
  obtain ⟨q1, h1, h⟩ := exb h
  obtain ⟨g1, g1', rfl⟩ := op_ok' h1
  obtain ⟨⟨ps, q2⟩, h2, h⟩ := exb h
  obtain ⟨⟨p1, p2⟩, ⟨p3, p4⟩, p5⟩ := pPar_ok hT (by decide) (by decide) h2
  obtain ⟨q3, h3, h⟩ := exb h
  obtain ⟨y3, g3, rfl⟩ := nd_ok h3
  obtain ⟨q4, h4, h⟩ := exb h
  obtain ⟨y4, g4, rfl⟩ := nd_ok h4
  obtain ⟨⟨ty, q5⟩, h5, h⟩ := exb h
  have p3' : ps.length ≤ 3 := by omega
  have p1' : 0 + 1 + 1 < q2 := p1
  have y3 : isSg tk 41 q2 := y3
  have y4 : isSg tk 58 (q2 + 1) := y4
  have h5 : pT tk 16 (q2 + 1 + 1) 0 = .ok (ty, q5) := h5
  have w3 := hT.sg (by omega) y3
  have w4 := hT.sg (by omega) y4
  have G5 := pT_ok hT (by omega) h5
  have l5 := pT_lt h5
  have e5 := pT_le h5
  have m5 := G5.2.2.2.2.2
  obtain ⟨⟨ru, fp, q6⟩, h6, h⟩ := exb h
  obtain ⟨q7, h7, h⟩ := exb h
  obtain ⟨y7, g7, rfl⟩ := nd_ok h7
  obtain ⟨⟨e, q8⟩, h8, h⟩ := exb h
  injection h with e'
  injection e' with e1 e2
  subst e1 e2
  have h6 : pFor tk q5 = .ok (ru, fp, q6) := h6
  have y7 : isSg tk 129 q6 := y7
  have g7 : q6 < 150 := g7
  have h8 : pEx tk (q6 + 1) = .ok (e, q8) := h8
  have F6 : (0 ≤ ru ∧ ru ≤ 3) ∧ (ru ≠ 0 → (0 ≤ fp ∧ fp ≤ 400) ∧ plS tk q5 ≤ fp) ∧ q5 ≤ q6 ∧ plS tk q5 ≤ plS tk q6 := by
    unfold pFor at h6
    by_cases y : isKy tk 8 q5
    · rw [if_pos y] at h6
      obtain ⟨q', hq', h6⟩ := exb h6
      obtain ⟨-, rfl⟩ := go_ok hq'
      by_cases z : isKy tk 9 (q5 + 1) ∨ isKy tk 10 (q5 + 1) ∨ isKy tk 11 (q5 + 1)
      · rw [if_pos z] at h6
        obtain ⟨q'', hq'', h6⟩ := exb h6
        obtain ⟨-, rfl⟩ := go_ok hq''
        injection h6 with e
        injection e with e1 e2
        injection e2 with e2 e3
        have w5 := hT.ky (by omega) y
        have t5 := (hT q5 (by omega) (ky_kd y).1 (ky_kd y).2).1.2.2.2.2.2.2
        have t5' : 0 ≤ plS tk q5 ∧ plS tk q5 ≤ 400 := t5
        have w6 : plS tk (q5 + 1) < plS tk (q5 + 1 + 1) := by rcases z with z | z | z <;> exact hT.ky (by omega) z
        have v6 : 9 ≤ vlS tk (q5 + 1) ∧ vlS tk (q5 + 1) ≤ 11 := by
          rcases z with z | z | z
          · have z' : vlS tk (q5 + 1) = 9 := z.2; omega
          · have z' : vlS tk (q5 + 1) = 10 := z.2; omega
          · have z' : vlS tk (q5 + 1) = 11 := z.2; omega
        subst e3
        exact ⟨by omega, fun _ => by omega, by omega, by omega⟩
      · rw [if_neg z] at h6; cases h6
    · rw [if_neg y] at h6
      injection h6 with e
      injection e with e1 e2
      injection e2 with e2 e3
      subst e3
      exact ⟨by omega, fun z => by omega, Int.le_refl _, Int.le_refl _⟩
  have w7 := hT.sg (by omega) y7
  have E8 := pEx_ok hT (by omega) (by omega) h8
  have t0 := hT 0 (Int.le_refl _) (by have z : (tk 0).1 = 2 := k2; omega) (by have z : (tk 0).1 = 2 := k2; omega)
  have t0p : 0 ≤ plS tk 0 ∧ plS tk 0 ≤ 400 := t0.1.2.2.2.2.2.2
  have tn : 0 ≤ plS tk q6 := by
    have : 0 ≤ plS tk q6 ∧ plS tk q6 ≤ 400 := (hT q6 (by omega) (sg_kd y7).1 (sg_kd y7).2).1.2.2.2.2.2.2
    omega
  have par : ∀ k, 1 ≤ k → k ≤ (ps.length : Int) → RL (parD ps k).1 ∧ (0 ≤ (parD ps k).2.1 ∧ (parD ps k).2.1 ≤ 400) ∧ GTx (parD ps k).2.2 (plS tk q2) := fun k k1 k2 => p5 _ (parD_mem k1 k2)
  refine ⟨⟨?_, F6.1, t0.1.2.2.2.2.2.1 k2, t0p, fun z => (F6.2.1 z).1, ?_, fun k k1 k2 => ?_, fun k k1 k2 => ?_, fun z k k1 k2 => ?_, ?_, E8.1.2.1⟩, E8.1⟩
  · show 1 ≤ (ps.length : Int) ∧ (ps.length : Int) ≤ 3; omega
  · show 0 ≤ plS tk (q6 + 1) ∧ plS tk (q6 + 1) ≤ 400
    have := E8.2.1
    omega
  · have := par k k1 k2
    exact ⟨this.1, this.2.1⟩
  · show wfT (if k = 0 then chT [ty] else chT [(parD ps k).2.2]) ∧ isTy (if k = 0 then chT [ty] else chT [(parD ps k).2.2]) ∧ htT (if k = 0 then chT [ty] else chT [(parD ps k).2.2]) ≤ 16
    by_cases z : k = 0
    · rw [if_pos z]
      have := (G5.x (Int.le_refl _)).ty
      exact ⟨this.1, this.2.1, this.2.2.1⟩
    · rw [if_neg z]
      have := (par k (by omega) k2).2.2.ty
      exact ⟨this.1, this.2.1, this.2.2.1⟩
  · show pup (if k = 0 then chT [ty] else chT [(parD ps k).2.2]) fp
    rw [if_neg (by omega)]
    have w := (F6.2.1 z).2
    exact (par k k1 k2).2.2.ty.2.2.2.mono (by omega)
  · show e.1.1 < 30
    have := E8.1.1
    omega
/-- what a line gives is in order -/
def GLn (r : LnR) : Prop := match r with
  | .inl (so, nm, x) => ((so = 0 ∨ so = 1) ∧ RL nm) ∧ GE x
  | .inr D => okD D ∧ GE (dRd D, dRc D)
theorem pLine_ok (hT : TkO tk) {r : LnR} (h : pLine tk = .ok r) : GLn r := by
  rw [ln_eq] at h
  have en : ∀ {x r : LnR} {q : Int}, pEnd tk x q = .ok r → r = x := by
    intro x r q h
    unfold pEnd at h
    by_cases y : kdS tk q = 0
    · rw [if_pos y] at h; injection h with h; exact h.symm
    · rw [if_neg y] at h; cases h
  by_cases y : kdS tk 0 = 2 ∧ isSg tk 40 1 ∧ kdS tk 2 = 2 ∧ isSg tk 58 3
  · rw [if_pos y] at h
    obtain ⟨⟨D, q⟩, h1, h⟩ := exb h
    rw [en h]
    exact pTold_ok hT y.1 h1
  rw [if_neg y] at h
  by_cases y : kdS tk 0 = 2 ∧ isSg tk 128 1
  · rw [if_pos y] at h
    obtain ⟨q0, h0, h⟩ := exb h
    obtain ⟨g0, rfl⟩ := go_ok h0
    obtain ⟨q1, h1, h⟩ := exb h
    obtain ⟨g1, rfl⟩ := go_ok h1
    obtain ⟨⟨x, q⟩, h2, h⟩ := exb h
    rw [en h]
    have k2 : (tk 0).1 = 2 := y.1
    exact ⟨⟨.inr rfl, (hT 0 (Int.le_refl _) (by omega) (by omega)).1.2.2.2.2.2.1 k2⟩, (pEx_ok hT (by decide) (by decide) h2).1⟩
  · rw [if_neg y] at h
    obtain ⟨⟨x, q⟩, h2, h⟩ := exb h
    rw [en h]
    exact ⟨⟨.inl rfl, (by show RL 0; decide)⟩, (pEx_ok hT (by decide) (by decide) h2).1⟩
end PARF4
