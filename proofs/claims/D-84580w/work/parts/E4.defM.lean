set_option maxRecDepth 100000
/-! the model: expressions of functions that are told -/
section DEFM
variable {Q : Int → MM → Prop} {D : DFN} {n : Int} {F : Int → FnR} {lo hi k : Int}
/-- what looking at an expression may change -/
def FBm (n lo hi : Int) (m m' : MM) : Prop := ∀ c i, ¬ ((596 ≤ c ∧ c ≤ 603) ∧ lo ≤ i ∧ i < hi) → ¬ (c = 582 ∧ (scr i ∨ (62 ≤ i ∧ i ≤ 64))) → ¬ (631 ≤ c ∧ c ≤ 634) → ¬ ((618 ≤ c ∧ c ≤ 620) ∧ i = n) → m' c i = m c i
theorem FBm.refl (m : MM) : FBm n lo hi m m := fun _ _ _ _ _ _ => rfl
theorem FBm.trans {m m1 m2 : MM} (h : FBm n lo hi m m1) (k : FBm n lo hi m1 m2) : FBm n lo hi m m2 := fun c i a1 a2 a3 a4 => (k c i a1 a2 a3 a4).trans (h c i a1 a2 a3 a4)
theorem FJm.bm {m m' : MM} {sp : Int} (h : FJm lo hi sp m m') : FBm n lo hi m m' := fun c i a1 a2 a3 _ => h c i a1 (fun z => a2 ⟨z.1, Or.inl z.2⟩) (by omega) (by omega)
theorem FMt.bm {m m' : MM} (h : FMt m m') : FBm n lo hi m m' := (h.jm (lo := lo) (hi := hi) (sp := 0)).bm
theorem BKm.bm {m m' : MM} {g : Int} (f : FBm n lo hi m m') (h : BKm m F g) : BKm m' F g := h.fr (fun c i z => f c i (by omega) (by omega) (by omega) (by omega))
theorem FBm.tn {m m' : MM} {d : ND} {c : TT} (f : FBm n lo hi m m') (h30 : d.1 < 30) (h : TNM m Tt d c lo hi k) (g : ∀ i, lo ≤ i → i < hi → m' 597 i = m 597 i) : TNM m' Tt d c lo hi k := by
  have st : FSt m m' := fun c i z => f c i (by omega) (by omega) (by omega) (by omega)
  obtain ⟨cl, ch, cs, hb, hN, hL, -, hT⟩ := h
  exact ⟨cl, ch, cs, hb, hN.fr st (fun q => by omega), hL.fr st, trivial, hT.fr st (fun d' c' n' y1 y2 _ => ⟨fun _ => g n' (by omega) (by omega), fun _ => trivial⟩)⟩
theorem TNM.tt {m : MM} {P : ND → TT → Int → Prop} {d : ND} {c : TT} (h : TNM m P d c lo hi k) : TNM m Tt d c lo hi k := by
  obtain ⟨cl, ch, cs, hb, hN, hL, -, hT⟩ := h
  exact ⟨cl, ch, cs, hb, hN, hL, trivial, hT.tt⟩
/-- with an R -/
def Rec3 (m : MM) (n : Int) (R : Option R3) : Prop := match R with
  | none => True
  | some r => m 618 n = bM r.1 ∧ m 619 n = r.2.1 ∧ m 620 n = r.2.2
theorem c_judgeBodyM {m : MM} {R : Option R3} (hD : okD D) (hn : 0 ≤ n ∧ n ≤ 20) (hB : BKm m F (n + 1)) (hBF : BFM m) (h32 : m 582 32 = n) (h61 : m 582 61 = n) (h110 : m 582 110 = dFi D) (h68 : m 582 68 = 0) (hRM : RM m R) (hR : ∀ x, R = some x → ok3 x ∧ x.1 ≠ -2) (h0 : R = none → (F n).2.2.1 = 0) (hi' : ∀ k, 0 ≤ k → k ≤ (F n).2.1 → instS (F n) k R ≠ none) (hT : TNM m Tt (dRd D) (dRc D) lo hi k) (hdq : max (dq (nd (dRd D) (dRc D) lf)).1 (dq (nd (dRd D) (dRc D) lf)).2 ≤ 300) (hsz : szT (dRc D) ≤ 4000) (hnt : NN' m none) (h : ∀ m', FBm n lo hi m m' → (∀ i, i = 62 ∨ i = 63 ∨ i = 64 → m' 582 i = m 582 i) → NN' m' (goalN F n D R) → TNM m' (AnP m' (JEf F n R) 0) (dRd D) (dRc D) lo hi k → Rec3 m' n R → Q 0 m') : P_X10_judgeBody k m Q := by
  obtain ⟨hk30, w⟩ := hD.2.2.2.2.2.2.2.2.2
  have kk := hT.lk
  have ok := (hB.2 n hn.1 (by omega)).1
  have fx := (hB.2 n hn.1 (by omega)).2
  unfold P_X10_judgeBody
  rw [h32]
  refine ⟨by omega, ?_⟩
  rintro m1 rfl m2 rfl m3 rfl
  rw [show up m 618 n (m 582 62) 582 63 = m 582 63 from up_ne (by omega)]
  rw [show up (up m 618 n (m 582 62)) 619 n (m 582 63) 582 64 = m 582 64 by rw [up_ne (by omega), up_ne (by omega)]]
  obtain ⟨m3, hm3⟩ : ∃ m3, m3 = up (up (up m 618 n (m 582 62)) 619 n (m 582 63)) 620 n (m 582 64) := ⟨_, rfl⟩
  rw [← hm3]
  have g3 : ∀ c i, ¬ ((618 ≤ c ∧ c ≤ 620) ∧ i = n) → m3 c i = m c i := fun c i z => by rw [hm3, up_ne (fun q => z ⟨by omega, q.2⟩), up_ne (fun q => z ⟨by omega, q.2⟩), up_ne (fun q => z ⟨by omega, q.2⟩)]
  have f3 : FBm n lo hi m m3 := fun c i _ _ _ a4 => g3 c i a4
  have E3 : EMj m3 (JEf F n R) 0 := by
    refine ⟨?_, hR, fun k k0 k1 => by rw [g3 _ _ (by omega)]; exact hBF k k0 k1, Or.inl ⟨F, n, R, rfl, hB.bm f3, hn, by rw [g3 _ _ (by omega)]; exact h61, rfl, h0, hi'⟩⟩
    show RM m3 R
    rcases R with - | x
    · exact (g3 _ _ (by omega)).trans hRM
    · exact ⟨(g3 _ _ (by omega)).trans hRM.1, (g3 _ _ (by omega)).trans hRM.2.1, (g3 _ _ (by omega)).trans hRM.2.2⟩
  have T3 : TNM m3 Tt (dRd D) (dRc D) lo hi k := f3.tn hk30 hT (fun i _ _ => g3 _ _ (by omega))
  have jc := ((judgeAll (e := JEf F n R) (ro := 0) (T := fun _ => False) (nd (dRd D) (dRc D) lf) w).2.1 300 hdq).1 hk30
  refine jc m3 none lo hi k 0 _ E3 T3 (hnt.congr (g3 _ _ (by omega)) (g3 _ _ (by omega))) (by rw [g3 _ _ (by omega)]; exact h68) (by omega) (fun m4 f4 n4 T4 => ?_)
  have f4' : FBm n lo hi m m4 := f3.trans f4.bm
  have e62 : ∀ i, i = 62 ∨ i = 63 ∨ i = 64 → m4 582 i = m 582 i := fun i q => by rw [f4 582 i (by omega) (by omega) (by omega) (by omega)]; exact g3 _ _ (by omega)
  have rc4 : Rec3 m4 n R := by
    have q : ∀ c, 618 ≤ c → c ≤ 620 → m4 c n = m3 c n := fun c _ _ => f4 c n (by omega) (by omega) (by omega) (by omega)
    rcases R with - | r
    · trivial
    · refine ⟨?_, ?_, ?_⟩
      · rw [q _ (by decide) (by decide), hm3, up_ne (by omega), up_ne (by omega), up_at]; exact hRM.1
      · rw [q _ (by decide) (by decide), hm3, up_ne (by omega), up_at]; exact hRM.2.1
      · rw [q _ (by decide) (by decide), hm3, up_at]; exact hRM.2.2
  have okx := fun x hx => rgS_ok E3.ok w.1 w.2.1 (x := x) hx
  have rg4 := T4.rg
  have ri4 := rg4.ri okx
  refine ⟨⟨kk.1, kk.2.1⟩, ri4.1, ?_⟩
  unfold goalN at h
  rcases hx : rgS (JEf F n R) (dRd D) (dRc D) with - | x
  · rw [if_pos (ri4.2.2 hx)]
    rw [hx] at h
    exact h m4 f4' e62 n4 T4 rc4
  · rw [if_neg (fun q => by have := ri4.2.1 q; rw [hx] at this; cases this)]
    rw [hx] at h rg4
    obtain ⟨v1, v2, v3⟩ := rg4
    have ox := okx x hx
    rcases hz : instS (F n) 0 R with - | z
    · exact absurd hz (hi' 0 (by decide) (by have := ok.1; omega))
    have oz := instS_ok ok ⟨by decide, by have := ok.1; omega⟩ hR hz
    rw [hz] at h
    simp only at h
    refine c_instanceM (R := R) (by omega) ok (fx.fr (fun c i z => f4' c i (by omega) (by omega) (by omega) (by omega))) ⟨by decide, by have := ok.1; omega⟩ hR h0 (fun r hr => ?_) (fun m5 g5 gg5 v5 => ?_)
    · subst hr
      rw [e62 62 (by omega), e62 63 (by omega), e62 64 (by omega)]
      exact hRM
    rw [show (-1 : Int) + 1 = 0 by decide] at v5 ⊢
    obtain ⟨w1, w2, w3⟩ := v5 z hz
    rw [hz, show isSm (some z) = 1 from rfl]
    refine ⟨by decide, ?_⟩
    rw [if_neg (by decide), gg5 598 k (by omega), gg5 599 k (by omega), gg5 600 k (by omega), v1, v2, v3, w1, w2, w3]
    refine c_goesM ox oz ?_
    -- what stays
    have G : ∀ m6, (∀ c i, ¬ (c = 582 ∧ (i = 13 ∨ i = 14 ∨ (65 ≤ i ∧ i ≤ 67) ∨ (70 ≤ i ∧ i ≤ 72))) → m6 c i = m4 c i) → FBm n lo hi m m6 ∧ (∀ i, i = 62 ∨ i = 63 ∨ i = 64 → m6 582 i = m 582 i) ∧ TNM m6 (AnP m6 (JEf F n R) 0) (dRd D) (dRc D) lo hi k ∧ Rec3 m6 n R := by
      intro m6 g6
      have f46 : FJm lo lo 0 m4 m6 := fun c i _ a2 _ _ => g6 c i (fun z => a2 ⟨z.1, by omega⟩)
      refine ⟨f4'.trans (f46.mono (Int.le_refl _) (by omega) (Int.le_refl _)).bm, fun i q => by rw [g6 _ _ (by omega)]; exact e62 i q, ?_, ?_⟩
      · obtain ⟨cl', ch', cs', a1, a2, a3, a4, a5⟩ := T4
        exact ⟨cl', ch', cs', a1, a2.fr f46.st (fun q => by omega), a3.fr f46.st, a4.fr (fun c' _ _ => g6 _ _ (by omega)), a5.jm f46 (by omega)⟩
      · rcases R with - | r
        · trivial
        · exact ⟨by rw [g6 _ _ (by omega)]; exact rc4.1, by rw [g6 _ _ (by omega)]; exact rc4.2.1, by rw [g6 _ _ (by omega)]; exact rc4.2.2⟩
    have gj : ∀ c i, ¬ (c = 582 ∧ (i = 13 ∨ i = 14 ∨ (65 ≤ i ∧ i ≤ 67) ∨ (70 ≤ i ∧ i ≤ 72))) → jm m5 (bM x.1) x.2.1 x.2.2 (bM z.1) z.2.1 z.2.2 c i = m4 c i := fun c i q => by rw [jm_o (fun z => q ⟨z.1, by omega⟩)]; exact gg5 c i (fun z => q ⟨z.1, by omega⟩)
    have nj : NN' (jm m5 (bM x.1) x.2.1 x.2.2 (bM z.1) z.2.1 z.2.2) (mn none (ntS (JEf F n R) (dRd D) (dRc D))) := n4.congr (by rw [jm_o (by omega)]; exact gg5 _ _ (by omega)) (by rw [jm_o (by omega)]; exact gg5 _ _ (by omega))
    by_cases gg : jn x z = some z
    · rw [if_pos gg] at h ⊢
      refine ⟨by decide, ?_⟩
      rw [if_neg (by decide)]
      obtain ⟨q1, q2, q3, q4⟩ := G _ gj
      exact h _ q1 q2 nj q3 q4
    · rw [if_neg gg] at h ⊢
      refine ⟨by decide, ?_⟩
      rw [if_pos rfl, gj 582 110 (by omega), f4' 582 110 (by omega) (by omega) (by omega) (by omega), h110]
      refine c_noteM nj (by decide) hD.2.2.2.2.2.1 (fun m7 f7 n7 => ?_)
      obtain ⟨q1, q2, q3, q4⟩ := G m7 (fun c i q => by rw [f7 c i (fun z => q ⟨z.1, by omega⟩)]; exact gj c i q)
      exact h m7 q1 q2 n7 q3 q4
/-- what is wrong with a function, but for too many -/
noncomputable def defB (F : Int → FnR) (n : Int) (D : DFN) : Nte := match hdN F n D with
  | some q => some q
  | none => bodN (setF F n (hdF D)) n D
/-- its expression's rings are those by some R -/
def AnB (m : MM) (F : Int → FnR) (n : Int) (d : ND) (c : TT) (lo hi k : Int) : Prop := ∃ R, Rec3 m n R ∧ (∀ x, R = some x → ok3 x ∧ x.1 ≠ -2 ∧ canS (F n) x) ∧ (R = none ↔ (F n).2.2.1 = 0) ∧ TNM m (AnP m (JEf F n R) 0) d c lo hi k
theorem AnB.fr {m m' : MM} {d : ND} {c : TT} (h30 : d.1 < 30) (h : AnB m F n d c lo hi k) (g : ∀ c i, c ≠ 582 → m' c i = m c i) : AnB m' F n d c lo hi k := by
  obtain ⟨R, h1, h2, h3, h4⟩ := h
  have st : FSt m m' := fun c i z => g c i (by omega)
  refine ⟨R, ?_, h2, h3, ?_⟩
  · rcases R with - | r
    · trivial
    · exact ⟨by rw [g _ _ (by omega)]; exact h1.1, by rw [g _ _ (by omega)]; exact h1.2.1, by rw [g _ _ (by omega)]; exact h1.2.2⟩
  · obtain ⟨cl', ch', cs', a1, a2, a3, a4, a5⟩ := h4
    exact ⟨cl', ch', cs', a1, a2.fr st (fun q => by omega), a3.fr st, a4.fr (fun c' _ _ => g _ _ (by omega)), a5.fr st (fun d' c' n' _ _ _ => ⟨fun _ => g _ _ (by omega), fun q => q.fr (fun c'' _ _ => g _ _ (by omega))⟩)⟩
theorem can_Q {f : FnR} (hf : okF f) : canS f (1, 0, 0) := by
  refine ⟨by decide, fun q => q.2 rfl, fun q => by rcases q.2 with z | z | z; exact z rfl; exact z rfl; exact z (Or.inl rfl), fun k k0 k1 => ?_⟩
  have o := (ok3_bd (hf.2.2.2.1 k k0 k1).1).2.2.1
  unfold instS
  split
  · intro q; cases q
  · simp only
    rw [if_neg (fun z => by rcases z with z | z; exact z.2 rfl; omega)]
    intro q; cases q
theorem c_body313 {m : MM} {G : Int → FnR} (hD : okD D) (hF : F = setF G n (hdF D)) (hn : 0 ≤ n ∧ n ≤ 20) (hBn : hdN G n D = none → BKm m F (n + 1)) (hBF : BFM m) (h32 : m 582 32 = n) (h61 : m 582 61 = n) (h110 : m 582 110 = dFi D) (h113 : (dRu D = 0 → m 582 113 = -1) ∧ (dRu D ≠ 0 → 0 ≤ m 582 113 ∧ m 582 113 < 420)) (h68 : m 582 68 = 0) (hT : TNM m Tt (dRd D) (dRc D) lo hi k) (hdq : max (dq (nd (dRd D) (dRc D) lf)).1 (dq (nd (dRd D) (dRc D) lf)).2 ≤ 300) (hsz : szT (dRc D) ≤ 4000) (hnt : NN' m (hdN G n D)) (h : ∀ m', FBm n lo hi m m' → NN' m' (defB G n D) → (hdN G n D = none → AnB m' F n (dRd D) (dRc D) lo hi k) → Q 0 m') : P_X10_judgeDefinition_313 Q k n m := by
  obtain ⟨hk30, w⟩ := hD.2.2.2.2.2.2.2.2.2
  have hru := hD.2.1
  rcases hh : hdN G n D with - | ⟨p, kd⟩
  · rw [hh] at hnt
    have hB := hBn hh
    have fn : F n = hdF D := by rw [hF]; exact if_pos rfl
    have ok := (hB.2 n hn.1 (by omega)).1
    have ru : (F n).2.2.1 = dRu D := by rw [fn]; rfl
    have db : defB G n D = bodN F n D := by unfold defB; rw [hh, hF]
    rw [db] at h
    unfold P_X10_judgeDefinition_313
    rw [hnt.2]
    refine ⟨by decide, ?_⟩
    rw [if_pos (by decide)]
    unfold bodN at h
    by_cases r0 : dRu D = 0
    · rw [h113.1 r0]
      refine ⟨by decide, ?_⟩
      rw [if_neg (by decide)]
      rw [if_pos r0] at h
      rintro m1 rfl
      have g1 : ∀ c i, ¬ (c = 582 ∧ i = 62) → up m 582 62 (-9) c i = m c i := fun c i q => up_ne q
      have f1 : FBm n lo hi m (up m 582 62 (-9)) := fun c i _ a2 _ _ => g1 c i (fun z => a2 ⟨z.1, Or.inr (by omega)⟩)
      refine c_judgeBodyM (R := none) hD hn (hB.bm f1) (fun k k0 k1 => by rw [g1 _ _ (by omega)]; exact hBF k k0 k1) (by rw [g1 _ _ (by omega)]; exact h32) (by rw [g1 _ _ (by omega)]; exact h61) (by rw [g1 _ _ (by omega)]; exact h110) (by rw [g1 _ _ (by omega)]; exact h68) (up_at ..) (fun x hx => by cases hx) (fun _ => ru.trans r0) (fun j j0 j1 => ?_) (f1.tn hk30 hT (fun i _ _ => g1 _ _ (by omega))) hdq hsz (hnt.congr (g1 _ _ (by omega)) (g1 _ _ (by omega))) (fun m2 f2 _ n2 T2 rc2 => h m2 (f1.trans f2) n2 (fun _ => ⟨none, trivial, fun x hx => (by cases hx), ⟨fun _ => ru.trans r0, fun _ => rfl⟩, T2⟩))
      unfold instS
      rw [if_pos ((ok.2.2.2.1 j j0 j1).2.2.2 (ru.trans r0))]
      intro q
      cases q
    · have h113' := h113.2 r0
      refine ⟨by constructor <;> omega, ?_⟩
      rw [if_pos h113'.1]
      rw [if_neg r0] at h
      -- nothing more is looked at
      have d352 : ∀ (K343 : Int → Int → Int → MM → Prop) (m2 : MM) (p kd x4 : Int), NN' m2 (some (p, kd)) → K343 k n (x4 + 1) m2 → RI x4 → ∀ (s : Nat) (x5 : Int), 0 ≤ x5 → x5 + s = 3 → P_X10_judgeDefinition_352 Q K343 (s + 1) k n x4 x5 m2 := by
        intro K343 m2 p kd x4 n2 hK r4 s
        obtain ⟨z1, z2, z3, z4⟩ := n2
        induction s with
        | zero =>
          intro x5 h0 h5
          refine ⟨by constructor <;> omega, ?_⟩
          rw [if_pos (by omega)]
          exact hK
        | succ s ih =>
          intro x5 h0 h5
          refine ⟨by constructor <;> omega, ?_⟩
          rw [if_neg (by omega)]
          refine ⟨0 + 1, by decide, ?_⟩
          rw [if_neg (by decide), z1]
          refine ⟨by constructor <;> omega, ?_⟩
          rw [if_neg (by omega)]
          exact ih (x5 + 1) (by omega) (by omega)
      have d343 : ∀ (m2 : MM) (p kd : Int), NN' m2 (some (p, kd)) → Q 0 m2 → ∀ (s : Nat) (x4 : Int), 0 ≤ x4 → x4 + s = 4 → P_X10_judgeDefinition_343 Q (s + 1) k n x4 m2 := by
        intro m2 p kd n2 hQ s
        induction s with
        | zero =>
          intro x4 h0 h4
          refine ⟨by constructor <;> omega, ?_⟩
          rw [if_pos (by omega)]
          exact hQ
        | succ s ih =>
          intro x4 h0 h4
          refine ⟨by constructor <;> omega, ?_⟩
          rw [if_neg (by omega)]
          exact ⟨3 + 1, d352 _ m2 p kd x4 n2 (ih (x4 + 1) (by omega) (by omega)) (by constructor <;> omega) 3 0 (by decide) (by decide)⟩
      -- the state between
      obtain ⟨B48, hB48⟩ : ∃ B48, B48 = bodG F n D 48 0 := ⟨_, rfl⟩
      rw [← hB48] at h
      let St := fun (ix : Int) (m2 : MM) => FBm n lo hi m m2 ∧ TNM m2 Tt (dRd D) (dRc D) lo hi k ∧ NN' m2 none ∧ B48 = bodG F n D (48 - ix).toNat ix ∧ (ix ≤ 12 ∨ AnB m2 F n (dRd D) (dRc D) lo hi k)
      have fin : ∀ m2 p kd, FBm n lo hi m m2 → NN' m2 (some (p, kd)) → B48 = some (p, kd) → AnB m2 F n (dRd D) (dRc D) lo hi k → Q 0 m2 := fun m2 p kd f2 n2 e2 a2 => h m2 f2 (by rw [e2]; exact n2) (fun _ => a2)
      have L361 : ∀ (K343 : Int → Int → Int → MM → Prop) (K352 : Int → Int → Int → Int → MM → Prop) (x4 x5 : Int), (0 ≤ x4 ∧ x4 < 4) → (0 ≤ x5 ∧ x5 < 3) → (∀ m2, St (12 * x4 + 4 * x5 + 4) m2 → K352 k n x4 (x5 + 1) m2) → (∀ m2 p kd, NN' m2 (some (p, kd)) → Q 0 m2 → K352 k n x4 (x5 + 1) m2) → ∀ (s : Nat) (x6 : Int) (m2 : MM), 0 ≤ x6 → x6 + s = 4 → St (12 * x4 + 4 * x5 + x6) m2 → P_X10_judgeDefinition_361 Q K343 K352 (s + 1) k n x4 x5 x6 m2 := by
        intro K343 K352 x4 x5 h4 h5 k0 k1 s
        have d361 : ∀ (s : Nat) (x6 : Int) (m2 : MM) (p kd : Int), 0 ≤ x6 → x6 ≤ 4 → NN' m2 (some (p, kd)) → Q 0 m2 → P_X10_judgeDefinition_361 Q K343 K352 (s + 1) k n x4 x5 x6 m2 := by
          intro s x6 m2 p kd h0 h6 n2 hQ
          have kk := k1 m2 p kd n2 hQ
          obtain ⟨z1, z2, z3, z4⟩ := n2
          refine ⟨by constructor <;> omega, ?_⟩
          by_cases c : 4 ≤ x6
          · rw [if_pos c]; exact kk
          · rw [if_neg c, z1]
            refine ⟨by constructor <;> omega, ?_⟩
            rw [if_neg (by omega)]
            exact kk
        induction s with
        | zero =>
          intro x6 m2 h0 h6 st
          refine ⟨by constructor <;> omega, ?_⟩
          rw [if_pos (by omega)]
          have e6 : x6 = 4 := by omega
          rw [e6] at st
          exact k0 m2 st
        | succ s ih =>
          intro x6 m2 h0 h6 st
          obtain ⟨f2, T2, n2, b2, a2⟩ := st
          obtain ⟨ix, hix⟩ : ∃ ix, ix = 12 * x4 + 4 * x5 + x6 := ⟨_, rfl⟩
          have ixb : 0 ≤ ix ∧ ix < 48 := by omega
          rw [← hix] at b2 a2
          have rr : r48 ix = (bs4 x4, x5, x6) := by
            unfold r48
            rw [show ix / 12 = x4 by omega, show ix / 4 % 3 = x5 by omega, show ix % 4 = x6 by omega]
          have rok := r48_ok ixb
          have eb : (if x4 = 0 then (0 : Int) else if x4 = 1 then 1 else if x4 = 2 then 10007 else 10000) = bM (r48 ix).1 := by
            rw [rr]
            show _ = bM (bs4 x4)
            unfold bs4
            by_cases c0 : x4 = 0
            · rw [if_pos c0, if_pos c0]; rfl
            · rw [if_neg c0, if_neg c0]
              by_cases c1 : x4 = 1
              · rw [if_pos c1, if_pos c1]; rfl
              · rw [if_neg c1, if_neg c1]
                by_cases c2 : x4 = 2
                · rw [if_pos c2, if_pos c2]; rfl
                · rw [if_neg c2, if_neg c2]; rfl
          have e5 : (r48 ix).2.1 = x5 := by rw [rr]
          have e6 : (r48 ix).2.2 = x6 := by rw [rr]
          rw [show (48 - ix).toNat = (48 - (ix + 1)).toNat + 1 by omega] at b2
          have b2' : B48 = @ite _ (canS (F n) (r48 ix)) (Classical.propDecidable _) (match goalN F n D (some (r48 ix)) with
            | none => bodG F n D (48 - (ix + 1)).toNat (ix + 1)
            | some q => some q) (bodG F n D (48 - (ix + 1)).toNat (ix + 1)) := b2
          have ixn : 12 * x4 + 4 * x5 + (x6 + 1) = ix + 1 := by omega
          show P_X10_judgeDefinition_361 Q K343 K352 (s + 1 + 1) k n x4 x5 x6 m2
          refine ⟨by constructor <;> omega, ?_⟩
          rw [if_neg (by omega), n2.2]
          refine ⟨by decide, ?_⟩
          rw [if_pos rfl]
          refine ⟨by constructor <;> omega, ?_⟩
          rintro m3 rfl m4 rfl m5 rfl
          rw [eb]
          obtain ⟨m5, hm5⟩ : ∃ m5, m5 = up (up (up m2 582 62 (bM (r48 ix).1)) 582 63 x5) 582 64 x6 := ⟨_, rfl⟩
          rw [← hm5]
          have g5 : ∀ c i, ¬ (c = 582 ∧ 62 ≤ i ∧ i ≤ 64) → m5 c i = m2 c i := fun c i z => by rw [hm5, up_ne (fun q => z ⟨q.1, by omega, by omega⟩), up_ne (fun q => z ⟨q.1, by omega, by omega⟩), up_ne (fun q => z ⟨q.1, by omega, by omega⟩)]
          have f5 : FBm n lo hi m m5 := f2.trans (fun c i _ q2 _ _ => g5 c i (fun z => q2 ⟨z.1, Or.inr z.2⟩))
          have v62 : m5 582 62 = bM (r48 ix).1 := by rw [hm5, up_neI (by decide), up_neI (by decide), up_at]
          have v63 : m5 582 63 = (r48 ix).2.1 := by rw [hm5, up_neI (by decide), up_at, e5]
          have v64 : m5 582 64 = (r48 ix).2.2 := by rw [hm5, up_at, e6]
          have hB5 := hB.bm f5
          rw [v62, ← e5, ← e6]
          refine c_canBeM (by omega) ok (hB5.2 n hn.1 (by omega)).2 rok.1 (fun m6 g6 gg6 => ?_)
          have f6 : FBm n lo hi m m6 := f5.trans g6.bm
          have g56 : ∀ c i, ¬ (c = 582 ∧ (62 ≤ i ∧ i ≤ 64 ∨ 70 ≤ i ∧ i ≤ 72)) → m6 c i = m2 c i := fun c i q => by rw [gg6 c i (fun z => q ⟨z.1, Or.inr z.2⟩)]; exact g5 c i (fun z => q ⟨z.1, Or.inl z.2⟩)
          have T6 : TNM m6 Tt (dRd D) (dRc D) lo hi k := by
            have st : FSt m2 m6 := fun c i z => g56 c i (by omega)
            obtain ⟨cl', ch', cs', a1, a2, a3, a4, a5⟩ := T2
            exact ⟨cl', ch', cs', a1, a2.fr st (fun q => by omega), a3.fr st, trivial, a5.fr st (fun d' c' n' _ _ _ => ⟨fun _ => g56 _ _ (by omega), fun _ => trivial⟩)⟩
          have n6 : NN' m6 none := n2.congr (g56 _ _ (by omega)) (g56 _ _ (by omega))
          rw [e5, e6]
          by_cases cn : canS (F n) (r48 ix)
          · rw [canN_1 cn]
            refine ⟨by decide, ?_⟩
            rw [if_neg (by decide)]
            rw [if_pos cn] at b2'
            refine c_judgeBodyM (R := some (r48 ix)) hD hn (hB.bm f6) (fun j j0 j1 => by rw [f6 _ _ (by omega) (by omega) (by omega) (by omega)]; exact hBF j j0 j1) (by rw [f6 _ _ (by omega) (by omega) (by omega) (by omega)]; exact h32) (by rw [f6 _ _ (by omega) (by omega) (by omega) (by omega)]; exact h61) (by rw [f6 _ _ (by omega) (by omega) (by omega) (by omega)]; exact h110) (by rw [f6 _ _ (by omega) (by omega) (by omega) (by omega)]; exact h68) ⟨by rw [gg6 _ _ (by omega)]; exact v62, by rw [gg6 _ _ (by omega)]; exact v63, by rw [gg6 _ _ (by omega)]; exact v64⟩ (fun x hx => by cases hx; exact rok) (fun q => by cases q) (can_inst cn) T6 hdq hsz n6 (fun m7 f7 _ n7 T7 rc7 => ?_)
            have f7' := f6.trans f7
            have aB : AnB m7 F n (dRd D) (dRc D) lo hi k := ⟨some (r48 ix), rc7, fun x hx => (by cases hx; exact ⟨rok.1, rok.2, cn⟩), ⟨fun q => (by cases q), fun q => absurd (ru.symm.trans q) r0⟩, T7⟩
            rcases hg : goalN F n D (some (r48 ix)) with - | ⟨p, kd⟩
            · rw [hg] at n7 b2'
              refine ih (x6 + 1) m7 (by omega) (by omega) ?_
              rw [ixn]
              exact ⟨f7', T7.tt, n7, b2', Or.inr aB⟩
            · rw [hg] at n7 b2'
              exact d361 s (x6 + 1) m7 p kd (by omega) (by omega) n7 (fin m7 p kd f7' n7 b2' aB)
          · rw [canN_0 cn]
            refine ⟨by decide, ?_⟩
            rw [if_pos rfl]
            rw [if_neg cn] at b2'
            refine ih (x6 + 1) m6 (by omega) (by omega) ?_
            rw [ixn]
            refine ⟨f6, T6, n6, b2', ?_⟩
            rcases a2 with a2 | a2
            · by_cases q12 : ix = 12
              · exfalso
                apply cn
                rw [q12]
                exact can_Q ok
              · exact Or.inl (by omega)
            · exact Or.inr (a2.fr hk30 (fun c i q => g56 c i (fun z => q z.1)))
      have L352 : ∀ (K343 : Int → Int → Int → MM → Prop) (x4 : Int), (0 ≤ x4 ∧ x4 < 4) → (∀ m2, St (12 * x4 + 12) m2 → K343 k n (x4 + 1) m2) → (∀ m2 p kd, NN' m2 (some (p, kd)) → Q 0 m2 → K343 k n (x4 + 1) m2) → ∀ (s : Nat) (x5 : Int) (m2 : MM), 0 ≤ x5 → x5 + s = 3 → St (12 * x4 + 4 * x5) m2 → P_X10_judgeDefinition_352 Q K343 (s + 1) k n x4 x5 m2 := by
        intro K343 x4 h4 k0 k1 s
        induction s with
        | zero =>
          intro x5 m2 h0 h5 st
          refine ⟨by constructor <;> omega, ?_⟩
          rw [if_pos (by omega)]
          have e5 : 12 * x4 + 4 * x5 = 12 * x4 + 12 := by omega
          rw [e5] at st
          exact k0 m2 st
        | succ s ih =>
          intro x5 m2 h0 h5 st
          refine ⟨by constructor <;> omega, ?_⟩
          rw [if_neg (by omega)]
          refine ⟨_, L361 K343 _ x4 x5 h4 (by omega) (fun m3 st3 => ih (x5 + 1) m3 (by omega) (by omega) (by rw [show 12 * x4 + 4 * (x5 + 1) = 12 * x4 + 4 * x5 + 4 by omega]; exact st3)) (fun m3 p kd n3 q3 => d352 K343 m3 p kd x4 n3 (k1 m3 p kd n3 q3) (by constructor <;> omega) s (x5 + 1) (by omega) (by omega)) 4 0 m2 (by decide) (by decide) (by rw [show 12 * x4 + 4 * x5 + 0 = 12 * x4 + 4 * x5 by omega]; exact st)⟩
      have L343 : ∀ (s : Nat) (x4 : Int) (m2 : MM), 0 ≤ x4 → x4 + s = 4 → St (12 * x4) m2 → P_X10_judgeDefinition_343 Q (s + 1) k n x4 m2 := by
        intro s
        induction s with
        | zero =>
          intro x4 m2 h0 h4 st
          refine ⟨by constructor <;> omega, ?_⟩
          rw [if_pos (by omega)]
          obtain ⟨f2, T2, n2, b2, a2⟩ := st
          have e4 : x4 = 4 := by omega
          rw [e4] at b2 a2
          refine h m2 f2 (by rw [b2]; exact n2) (fun _ => ?_)
          rcases a2 with a2 | a2
          · exfalso; omega
          · exact a2
        | succ s ih =>
          intro x4 m2 h0 h4 st
          refine ⟨by constructor <;> omega, ?_⟩
          rw [if_neg (by omega)]
          exact ⟨_, L352 _ x4 (by omega) (fun m3 st3 => ih (x4 + 1) m3 (by omega) (by omega) (by rw [show 12 * (x4 + 1) = 12 * x4 + 12 by omega]; exact st3)) (fun m3 p kd n3 q3 => d343 m3 p kd n3 q3 s (x4 + 1) (by omega) (by omega)) 3 0 m2 (by decide) (by decide) (by rw [show 12 * x4 + 4 * 0 = 12 * x4 by omega]; exact st)⟩
      exact ⟨_, L343 4 0 m (by decide) (by decide) ⟨FBm.refl m, hT, hnt, hB48, Or.inl (by decide)⟩⟩
  · rw [hh] at hnt
    obtain ⟨z1, z2, z3, z4⟩ := id hnt
    unfold P_X10_judgeDefinition_313
    rw [z1]
    refine ⟨by constructor <;> omega, ?_⟩
    rw [if_neg (by omega)]
    refine h m (FBm.refl m) ?_ (fun q => by rw [hh] at q; cases q)
    unfold defB
    rw [hh]
    exact hnt
end DEFM
