set_option maxRecDepth 100000
/-! the component: a line that has been read is looked at -/
theorem tyO_note {R : Option R3} : ∀ (t : TT), wfT t → isTy t → ((tyO R t).1 = none ↔ (tyO R t).2 ≠ none) := by
  intro t
  induction t with
  | leaf => intro _ h; exact h.elim
  | inner z d u c s ihc ihs =>
    intro w h
    have hk := h.1
    obtain ⟨w0, wc, -⟩ := w
    have T : ∀ {q : Int × Int}, ((none : Option R3) = none ↔ (some q : Nte) ≠ none) := ⟨fun _ z => (by cases z), fun _ => rfl⟩
    have S : ∀ {x : R3}, ((some x : Option R3) = none ↔ (none : Nte) ≠ none) := ⟨fun z => (by cases z), fun z => absurd rfl z⟩
    unfold tyO
    split
    · exact S
    split
    · exact S
    split
    · rcases R with - | x
      · exact T
      · exact S
    split
    · split
      · exact T
      · exact S
    · have hc : isTy c := by
        rcases w0.2.2.2.2.2.2.2.2 with q | q | q | q
        · exfalso; have := q.1; unfold arT at this; omega
        · exfalso; omega
        · exfalso; omega
        · exact q.2
      have ih := ihc wc hc
      have M : ∀ {a b : Nte}, (a ≠ none ∨ b ≠ none) → ((none : Option R3) = none ↔ mn a b ≠ none) := fun z => ⟨fun _ y => by have := mn_eq_none.1 y; rcases z with z | z; exact z this.1; exact z this.2, fun _ => rfl⟩
      unfold overO
      simp only
      split
      case h_1 hx =>
        exact M (Or.inr (ih.1 hx))
      case h_2 x hx =>
        have n0 : (tyO R c).2 = none := by
          by_cases q : (tyO R c).2 = none
          · exact q
          · rw [ih.2 q] at hx; cases hx
        split
        · exact M (Or.inr (fun q => by have := (mn_eq_none.1 q).2; cases this))
        · split
          · split
            · exact M (Or.inr (fun q => by cases q))
            · rw [n0]; exact S
          · split
            case isTrue hb =>
              exact M (Or.inl (by intro q; cases q))
            · rw [n0]; exact S
theorem jdS_note {e : JE} : ∀ (t : TT), wfT t → (allS (jdS e t).1 = none ↔ (jdS e t).2 ≠ none) := by
  intro t
  induction t with
  | leaf => intro _; exact ⟨fun z => (by cases z), fun z => absurd rfl z⟩
  | inner z d u c s ihc ihs =>
    intro w
    obtain ⟨w0, wc, ws⟩ := w
    have nd1 : (nodeS e d c (jdS e c)).1 = none ↔ (nodeS e d c (jdS e c)).2 ≠ none := by
      unfold nodeS
      split
      case isTrue k30 =>
        have it : isTy (nd d c lf) := ⟨by
          rcases w0.2.2.2.2.2.2.2.2 with q | q | q | q
          · exfalso; have := q.1; unfold arT at this; omega
          · exfalso; omega
          · omega
          · omega, rfl⟩
        exact tyO_note (nd d c lf) ⟨w0, wc, trivial⟩ it
      · have M : ∀ {a : Nte} {q : Int × Int}, ((none : Option R3) = none ↔ mn a (some q) ≠ none) := ⟨fun _ y => (by have := (mn_eq_none.1 y).2; cases this), fun _ => rfl⟩
        split
        · exact M
        · split
          case h_1 hx => exact ⟨fun _ => (ihc wc).1 hx, fun _ => rfl⟩
          case h_2 rc hx =>
            have n0 : (jdS e c).2 = none := by
              by_cases q : (jdS e c).2 = none
              · exact q
              · rw [(ihc wc).2 q] at hx; cases hx
            split
            · rw [n0]; exact ⟨fun z => (by cases z), fun z => absurd rfl z⟩
            · exact M
    have e1 : allS (jdS e (.inner z d u c s)).1 = none ↔ (nodeS e d c (jdS e c)).1 = none ∨ allS (jdS e s).1 = none := by
      have q := allS_cons (o := (nodeS e d c (jdS e c)).1) (l := (jdS e s).1)
      show allS ((nodeS e d c (jdS e c)).1 :: (jdS e s).1) = none ↔ _
      constructor
      · intro a
        by_cases y1 : (nodeS e d c (jdS e c)).1 = none
        · exact Or.inl y1
        · by_cases y2 : allS (jdS e s).1 = none
          · exact Or.inr y2
          · exact absurd a (q.2 ⟨y1, y2⟩)
      · intro a
        by_cases y : allS ((nodeS e d c (jdS e c)).1 :: (jdS e s).1) = none
        · exact y
        · have := q.1 y
          rcases a with a | a
          · exact absurd a this.1
          · exact absurd a this.2
    have e2 : (jdS e (.inner z d u c s)).2 ≠ none ↔ (nodeS e d c (jdS e c)).2 ≠ none ∨ (jdS e s).2 ≠ none := by
      show mn (nodeS e d c (jdS e c)).2 (jdS e s).2 ≠ none ↔ _
      rw [Ne, mn_eq_none]
      constructor
      · intro a
        by_cases y1 : (nodeS e d c (jdS e c)).2 = none
        · exact Or.inr (fun y2 => a ⟨y1, y2⟩)
        · exact Or.inl y1
      · rintro a ⟨y1, y2⟩
        rcases a with a | a
        · exact a y1
        · exact a y2
    rw [e1, e2, nd1, ihs ws]
theorem rg_note {e : JE} {d : ND} {c : TT} (w : wfT (nd d c lf)) : rgS e d c = none ↔ ntS e d c ≠ none := by
  have q := jdS_note (e := e) (nd d c lf) w
  have e1 : allS (jdS e (nd d c lf)).1 = none ↔ rgS e d c = none := by
    show allS [rgS e d c] = none ↔ _
    rcases rgS e d c with - | x
    · exact ⟨fun _ => rfl, fun _ => rfl⟩
    · exact ⟨fun z => (by cases z), fun z => (by cases z)⟩
  have e2 : (jdS e (nd d c lf)).2 = ntS e d c := mn_none
  rw [← e1, ← e2]
  exact q
/-- what judging a text may change -/
def FJk (b : Int) (m m' : MM) : Prop := ∀ c i, c ≠ 372 → c ≠ 373 → ¬ (c = 3 ∧ i = 7) → ¬ (b + 6 ≤ c ∧ c ≤ b + 8) → m' c i = m c i
theorem FJk.refl {b : Int} (m : MM) : FJk b m m := fun _ _ _ _ _ _ => rfl
theorem FJk.trans {b : Int} {m m1 m2 : MM} (h : FJk b m m1) (k : FJk b m1 m2) : FJk b m m2 := fun c i a1 a2 a3 a4 => (k c i a1 a2 a3 a4).trans (h c i a1 a2 a3 a4)
theorem FJk.lk {b : Int} {m m' : MM} (h : FJk b m m') : FLk b m m' := fun c i a1 a2 a3 a4 _ => h c i a1 a2 a3 a4
theorem FJd.jk {b lo hi : Int} {m m' : MM} (h : FJd b lo hi m m') : FJk b m m' := fun c i a1 a2 a3 a4 => h c i (fun z => a4 (by omega)) (fun z => a1 z.1) a2 a3
theorem Fnt.jk {b : Int} {m m' : MM} (h : Fnt m m') : FJk b m m' := fun c i a1 _ _ _ => h c i (fun z => a1 z.1)
section LOOKS
variable {Q : Int → MM → Prop} {b : Int} {D : DFN}
/-- the ring of a text's expression -/
theorem c_judgeC {m : MM} {e : JE} {n : Nte} {d : ND} {c : TT} {lo hi ix rr : Int} (hk : d.1 < 30) (w : wfT (nd d c lf)) (hb : isTx b) (rix : RI ix) (hT : TN m b d c lo hi (m b 2)) (hn : NC m n) (hE : ∀ m4, (∀ c i, c ≠ 372 → m4 c i = m c i) → m4 372 1 = b → m4 372 3 = rr → m4 372 4 = (if ix = -1 then 0 else 1) → m4 372 2 = (if ix = -1 then m 3 1 else ix + 1) → ECj m4 b e) (h : ∀ m', FJk b m m' → ECj m' b e → NC m' (mn n (ntS e d c)) → (∀ x, rgS e d c = some x → AnN m' b e d c (m' b 2)) → Q (encX (rgS e d c)) m') : P_X5_judge b ix rr m Q := by
  have bx := hb
  unfold isTx at bx
  rintro m1 rfl m2 rfl
  refine ⟨rix, by split <;> omega, ?_⟩
  rintro m3 rfl
  have e4 : up (up (up m 372 1 b) 372 3 rr) 372 4 (if ix = -1 then 0 else 1) 372 4 = (if ix = -1 then 0 else 1) := up_at ..
  have e31 : up (up (up m 372 1 b) 372 3 rr) 372 4 (if ix = -1 then 0 else 1) 3 1 = m 3 1 := by rw [up_ne (by omega), up_ne (by omega), up_ne (by omega)]
  rw [e4, e31]
  refine ⟨by split <;> decide, ?_⟩
  rintro m4 rfl
  have ev : (if (if ix = -1 then (0 : Int) else 1) = 0 then m 3 1 else ix + 1) = (if ix = -1 then m 3 1 else ix + 1) := by
    by_cases q : ix = -1
    · rw [if_pos q, if_pos rfl, if_pos q]
    · rw [if_neg q, if_neg (by decide), if_neg q]
  rw [ev]
  obtain ⟨m4, hm4⟩ : ∃ m4, m4 = up (up (up (up m 372 1 b) 372 3 rr) 372 4 (if ix = -1 then 0 else 1)) 372 2 (if ix = -1 then m 3 1 else ix + 1) := ⟨_, rfl⟩
  rw [← hm4]
  have g : ∀ c i, c ≠ 372 → m4 c i = m c i := fun c i q => by rw [hm4, up_ne (fun z => q z.1), up_ne (fun z => q z.1), up_ne (fun z => q z.1), up_ne (fun z => q z.1)]
  have g5 : ∀ i, i = 5 ∨ i = 6 → m4 372 i = m 372 i := fun i q => by rw [hm4, up_neI (by omega), up_neI (by omega), up_neI (by omega), up_neI (by omega)]
  have E4 : ECj m4 b e := hE m4 g (by rw [hm4, up_neI (by decide), up_neI (by decide), up_neI (by decide), up_at]) (by rw [hm4, up_neI (by decide), up_neI (by decide), up_at]) (by rw [hm4, up_neI (by decide), up_at]) (by rw [hm4, up_at])
  have f4 : FJk b m m4 := fun c i a1 _ _ _ => g c i a1
  rw [E4.1, g b 2 (by omega)]
  refine ⟨hb, c_partC (t := .leaf) hk w E4 (hT.lk hb f4.lk) (hn.congr (g5 5 (Or.inl rfl)) (g5 6 (Or.inr rfl))) (fun m5 f5 n5 a5 => ?_)⟩
  refine h m5 (f4.trans f5.jk) (E4.fj f5) n5 (fun x hx => ?_)
  rw [f5.st hb (by omega), g b 2 (by omega)]
  exact a5 x hx
/-- for an R -/
theorem c_judgeF {m : MM} {F : Int → FnR} {n : Nte} {d : ND} {c : TT} {lo hi f : Int} {R : Option R3} (hk : d.1 < 30) (w : wfT (nd d c lf)) (hb : b = 8 + 17 * f) (hf : 0 ≤ f ∧ f ≤ 20) (hT : TN m b d c lo hi (m b 2)) (hn : NC m n) (hB : BKh m F (f + 1)) (hR : ∀ x, R = some x → ok3 x ∧ x.1 ≠ -2) (h0 : R = none → (F f).2.2.1 = 0) (hi' : ∀ k, 0 ≤ k → k ≤ (F f).2.1 → instS (F f) k R ≠ none) (h : ∀ m', FJk b m m' → m' 372 1 = b → NC m' (mn n (ntS (JEf F f R) d c)) → (∀ x, rgS (JEf F f R) d c = some x → AnN m' b (JEf F f R) d c (m' b 2) ∧ ok3 x) → Q (encX (rgS (JEf F f R) d c)) m') : P_X5_judge b f (encO R) m Q := by
  have tb : isTx b := by rw [hb]; exact isTx_k (by omega)
  refine c_judgeC hk w tb (by constructor <;> omega) hT hn (fun m4 g e1 e3 e4 e2 => ?_) (fun m' f' E' n' a' => h m' f' E'.1 n' (fun x hx => ⟨a' x hx, rgS_ok E'.ok w.1 w.2.1 hx⟩))
  rw [if_neg (by omega)] at e4 e2
  refine ⟨e1, tb, e3, hR, Or.inl ⟨F, f, R, rfl, hB.fr (fun c' i z => by
    obtain ⟨b', tx, z⟩ := z
    unfold isTx at tx
    exact g c' i (by omega)), hf, hb, e4, e2, h0, hi'⟩⟩
/-- a line's -/
theorem c_judgeL {m : MM} {F : Int → FnR} {n : Nte} {d : ND} {c : TT} {lo hi nf nr nv : Int} {rR vR : Int → R3} {vN : Int → Int} (hk : d.1 < 30) (w : wfT (nd d c lf)) (tb : isTx b) (hT : TN m b d c lo hi (m b 2)) (hn : NC m n) (hB : BKh m F nf) (h31 : m 3 1 = nf) (hRS : RSc m nr rR nv vN vR) (h : ∀ m', FJk b m m' → m' 372 1 = b → NC m' (mn n (ntS (JEl F nf nr rR nv vN vR) d c)) → (∀ x, rgS (JEl F nf nr rR nv vN vR) d c = some x → AnN m' b (JEl F nf nr rR nv vN vR) d c (m' b 2) ∧ ok3 x) → Q (encX (rgS (JEl F nf nr rR nv vN vR) d c)) m') : P_X5_judge b (-1) (-1) m Q := by
  refine c_judgeC hk w tb (by decide) hT hn (fun m4 g e1 e3 e4 e2 => ?_) (fun m' f' E' n' a' => h m' f' E'.1 n' (fun x hx => ⟨a' x hx, rgS_ok E'.ok w.1 w.2.1 hx⟩))
  rw [if_pos rfl] at e4 e2
  refine ⟨e1, tb, e3, fun x hx => (by cases hx), Or.inr ⟨F, nf, nr, rR, nv, vN, vR, rfl, hB.fr (fun c' i z => by
    obtain ⟨b', tx, z⟩ := z
    unfold isTx at tx
    exact g c' i (by omega)), e4, e2.trans h31, ⟨?_, hRS.1.2.1, fun k k0 k1 => ?_⟩, ?_, hRS.2.2.1, fun k k0 k1 => ?_⟩⟩
  · rw [g 3 3 (by decide)]; exact hRS.1.1
  · rw [g 7 k (by decide)]; exact hRS.1.2.2 k k0 k1
  · rw [g 3 2 (by decide)]; exact hRS.2.1
  · rw [g 5 k (by decide), g 6 k (by decide)]; exact hRS.2.2.2 k k0 k1
/-- a function's expression, for an R -/
theorem c_goalC {m : MM} {F : Int → FnR} {f : Int} {R : Option R3} (hD : okD D) (hc : DFc m b D) (hb : b = 8 + 17 * f) (hf : 0 ≤ f ∧ f ≤ 20) (h1 : m 372 1 = b) (h31 : m 3 1 = f) (hn : NC m none) (hB : BKh m F (f + 1)) (hR : ∀ x, R = some x → ok3 x ∧ x.1 ≠ -2) (h0 : R = none → (F f).2.2.1 = 0) (hi' : ∀ k, 0 ≤ k → k ≤ (F f).2.1 → instS (F f) k R ≠ none) (h : ∀ m', FJk b m m' → m' 372 1 = b → NC m' (goalN F f D R) → Q 0 m') : P_X5_goal (encO R) m Q := by
  have tb : isTx b := by rw [hb]; exact isTx_k (by omega)
  have bx := tb
  unfold isTx at bx
  obtain ⟨lo, hi, hT⟩ := hc.2.2.2
  obtain ⟨hk, w⟩ := hD.2.2.2.2.2.2.2.2.2
  have ok := (hB.2 f hf.1 (by omega)).1
  unfold P_X5_goal
  rw [h1, h31]
  refine c_judgeF hk w hb hf hT hn hB hR h0 hi' (fun m1 f1 e1 n1 a1 => ?_)
  have rx : RI (encX (rgS (JEf F f R) (dRd D) (dRc D))) := encX_ri (fun x hx => (a1 x hx).2)
  refine ⟨rx, ?_⟩
  unfold goalN at h
  rcases hx : rgS (JEf F f R) (dRd D) (dRc D) with - | x
  · rw [if_pos (show encX none = -3 from rfl)]
    rw [hx] at h
    exact h m1 f1 e1 n1
  · have ox := (a1 x hx).2
    have n3 : encX (some x) ≠ -3 := fun q => by have := (encX_3 (o := some x) (fun y hy => by cases hy; exact ox)).1 q; cases this
    rw [if_neg n3, e1]
    rw [hx] at h
    have hB1 : BKh m1 F (f + 1) := hB.fr (fun c' i z => by
      obtain ⟨b', tx, z⟩ := z
      have q := tx
      unfold isTx at q
      exact f1 c' i (by omega) (by omega) (by omega) (fun y => tx_ne (c := c') tb tx (by omega) (by omega)))
    have tx1 := (hB1.2 f hf.1 (by omega)).2
    rw [← hb] at tx1
    rcases hz : instS (F f) 0 R with - | z
    · exact absurd hz (hi' 0 (by decide) (by have := ok.1; omega))
    have oz := instS_ok ok ⟨by decide, by have := ok.1; omega⟩ hR hz
    rw [hz] at h
    simp only at h
    refine c_ringC tb ok tx1 ⟨by decide, by have := ok.1; omega⟩ hR h0 ?_
    rw [hz]
    refine c_goes ox oz ?_
    by_cases g : jn x z = some z
    · rw [if_pos g] at h ⊢
      refine ⟨by decide, ?_⟩
      rw [if_neg (by decide)]
      exact h m1 f1 e1 n1
    · rw [if_neg g] at h ⊢
      refine ⟨by decide, ?_⟩
      rw [if_pos rfl, e1, (hc.lk tb f1.lk).1.2.2.2.2.2.2]
      refine ⟨tb, c_failC n1 (by decide) hD.2.2.2.2.2.1 (fun m2 f2 n2 => h m2 (f1.trans f2.jk) (by rw [f2 372 1 (by decide)]; exact e1) n2)⟩
theorem can_inst {f : FnR} {r : R3} (h : canS f r) : ∀ k, 0 ≤ k → k ≤ f.2.1 → instS f k (some r) ≠ none := h.2.2.2
theorem c_bodyC {m : MM} {F : Int → FnR} {f : Int} (hD : okD D) (hc : DFc m b D) (hb : b = 8 + 17 * f) (hf : 0 ≤ f ∧ f ≤ 20) (h1 : m 372 1 = b) (h31 : m 3 1 = f) (hn : NC m none) (hB : BKh m F (f + 1)) (hru : (F f).2.2.1 = dRu D) (h : ∀ m', FJk b m m' → m' 372 1 = b → NC m' (bodN F f D) → Q 0 m') : P_X5_body m Q := by
  have tb : isTx b := by rw [hb]; exact isTx_k (by omega)
  have bx := tb
  unfold isTx at bx
  have ru := hD.2.1
  have ok := (hB.2 f hf.1 (by omega)).1
  unfold P_X5_body
  rw [h1, hc.1.2.2.2.2.1]
  refine ⟨tb, by constructor <;> omega, ?_⟩
  unfold bodN at h
  by_cases r0 : dRu D = 0
  · rw [if_pos r0] at h ⊢
    refine c_goalC (R := none) hD hc hb hf h1 h31 hn hB (fun x hx => by cases hx) (fun _ => hru.trans r0) (fun k k0 k1 => ?_) h
    unfold instS
    rw [if_pos ((ok.2.2.2.1 k k0 k1).2.2.2 (hru.trans r0))]
    intro q
    cases q
  · rw [if_neg r0] at h ⊢
    have fin : ∀ (s : Nat) (k : Int) (m2 : MM) (q : Int × Int), FJk b m m2 → m2 372 1 = b → NC m2 (some q) → bodG F f D 48 0 = some q → RI k → P_X5_body_18 Q (s + 1) k m2 := by
      intro s k m2 q f2 e1 n2 hq rk
      obtain ⟨q1, q2⟩ := q
      obtain ⟨n21, n22, n23, n24⟩ := id n2
      have dn : Q 0 m2 := h m2 f2 e1 (by rw [hq]; exact n2)
      refine ⟨rk, ?_⟩
      by_cases c48 : 48 ≤ k
      · rw [if_pos c48]; exact dn
      · rw [if_neg c48, n21]
        refine ⟨by constructor <;> omega, ?_⟩
        rw [if_neg (by omega)]
        exact dn
    have L : ∀ (s : Nat) (k : Int) (m2 : MM), 0 ≤ k → k + s = 48 → FJk b m m2 → m2 372 1 = b → NC m2 none → bodG F f D 48 0 = bodG F f D s k → P_X5_body_18 Q (s + 2) k m2 := by
      intro s
      induction s with
      | zero =>
        intro k m2 k0 k1 f2 e1 n2 hq
        refine ⟨by constructor <;> omega, ?_⟩
        rw [if_pos (by omega)]
        exact h m2 f2 e1 (by rw [hq]; exact n2)
      | succ s ih =>
        intro k m2 k0 k1 f2 e1 n2 hq
        have n5 : m2 372 5 = 0 := n2
        have rk := r48_ok (k := k) (by omega)
        have hB2 : BKh m2 F (f + 1) := hB.fr (fun c' i z => by
          obtain ⟨b', tx, z⟩ := z
          have q := tx
          unfold isTx at q
          exact f2 c' i (by omega) (by omega) (by omega) (fun y => tx_ne (c := c') tb tx (by omega) (by omega)))
        have tx2 := (hB2.2 f hf.1 (by omega)).2
        rw [← hb] at tx2
        show P_X5_body_18 Q (s + 2 + 1) k m2
        unfold P_X5_body_18
        refine ⟨by constructor <;> omega, ?_⟩
        rw [if_neg (by omega), n5]
        refine ⟨by decide, ?_⟩
        rw [if_pos rfl, tdiv_pos k0, tdiv_pos k0, tmod_pos (by omega), tmod_pos k0]
        refine ⟨by omega, by constructor <;> omega, ?_⟩
        have er : (bas (k / 12), k / 4 % 3, k % 4) = r48 k := rfl
        refine of_enc (x := r48 k) rk.1 rk.2 ?_
        rw [e1]
        refine c_canC tb ok tx2 rk.1 ?_
        have hq' : bodG F f D 48 0 = @ite _ (canS (F f) (r48 k)) (Classical.propDecidable _) (match goalN F f D (some (r48 k)) with
          | none => bodG F f D s (k + 1)
          | some q => some q) (bodG F f D s (k + 1)) := hq
        by_cases cn : canS (F f) (r48 k)
        · rw [canN_1 cn]
          refine ⟨by decide, ?_⟩
          rw [if_neg (by decide)]
          rw [if_pos cn] at hq'
          refine c_goalC (R := some (r48 k)) hD (hc.lk tb f2.lk) hb hf e1 (by rw [f2 3 1 (by decide) (by decide) (by decide) (by omega)]; exact h31) n2 hB2 (fun x hx => by cases hx; exact rk) (fun q => by cases q) (can_inst cn) (fun m3 f3 e3 n3 => ?_)
          rcases hg : goalN F f D (some (r48 k)) with - | q
          · rw [hg] at n3 hq'
            exact ih (k + 1) m3 (by omega) (by omega) (f2.trans f3) e3 n3 hq'
          · rw [hg] at n3 hq'
            exact fin _ (k + 1) m3 q (f2.trans f3) e3 n3 hq' (by constructor <;> omega)
        · rw [canN_0 cn]
          refine ⟨by decide, ?_⟩
          rw [if_pos rfl]
          rw [if_neg cn] at hq'
          exact ih (k + 1) m2 (by omega) (by omega) f2 e1 n2 hq'
    exact ⟨_, L 48 0 m (by decide) (by decide) (FJk.refl m) h1 hn rfl⟩
theorem HDs.tx {m : MM} (hD : okD D) (hc : DFc m b D) (h0 : (hdO D 0).1 ≠ none) (ha : allO D) (hd : HDs m b D) : TXh m b (hdF D) := by
  refine ⟨hc.1.2.1, hc.1.2.2.2.1, hc.1.2.2.2.2.1, fun k k0 k1 => ?_, fun k k0 k1 => (hc.2.1 k k0 k1).1⟩
  have k1' : k ≤ dNp D := k1
  obtain ⟨y1, y2, y3⟩ := hd k k0 k1'
  have hn : (hdO D k).1 ≠ none := by
    by_cases q : k = 0
    · rw [q]; exact h0
    · exact ha k (by omega) k1'
  rcases hx : (hdO D k).1 with - | x
  · exact absurd hx hn
  have er : (hdF D).2.2.2.2.2.1 k = x := by show (hdO D k).1.getD (0, 0, 0) = x; rw [hx]; rfl
  have eh : (hdF D).2.2.2.2.1 k = hasRT (dTy D k) := rfl
  rw [er, eh]
  have hcs := hasRT_cs (dTy D k)
  refine ⟨y1, by rw [y2, hx]; rfl, fun q => y3 x hx (by omega)⟩
theorem hdP_none : ∀ (k : Nat), hdP D k = none → ∀ j : Int, 1 ≤ j → j ≤ k → (hdO D j).2 = none ∧ ¬ dupP D j := by
  intro k
  induction k with
  | zero => intro _ j j0 j1; omega
  | succ k ih =>
    intro h j j0 j1
    obtain ⟨a1, a2⟩ := mn_eq_none.1 (show mn (hdP D k) (mn (hdO D ((k : Int) + 1)).2 (dupN D ((k : Int) + 1))) = none from h)
    by_cases q : j = (k : Int) + 1
    · obtain ⟨b1, b2⟩ := mn_eq_none.1 a2
      rw [q]
      refine ⟨b1, fun z => ?_⟩
      unfold dupN at b2
      rw [if_pos z] at b2
      cases b2
    · exact ih a1 j j0 (by omega)
theorem hdN_none {F : Int → FnR} {n : Int} (hD : okD D) (h : hdN F n D = none) : (hdO D 0).1 ≠ none ∧ allO D ∧ (dRu D ≠ 0 → anyR D) ∧ (∀ g, 0 ≤ g → g < n → ¬ twinS (hdF D) (F g)) := by
  obtain ⟨a1, a2⟩ := mn_eq_none.1 h
  obtain ⟨a3, a4⟩ := mn_eq_none.1 a1
  obtain ⟨a5, a6⟩ := mn_eq_none.1 a3
  have np := hD.1
  have d8 := hD.2.2.2.2.2.2.2.1
  have al : allO D := fun k k0 k1 q => by
    have := (hdP_none _ a5 k k0 (by omega)).1
    obtain ⟨w, ty, -⟩ := d8 k (by omega) k1
    exact (tyO_note _ w ty).1 q this
  refine ⟨fun q => ?_, al, fun q => ?_, fun g g0 g1 q => ?_⟩
  · obtain ⟨w, ty, -⟩ := d8 0 (by decide) (by omega)
    exact (tyO_note _ w ty).1 q a6
  · by_cases z : anyR D
    · exact z
    · rw [if_pos ⟨q, al, z⟩] at a4
      cases a4
  · rw [if_pos ⟨al, g, g0, g1, q⟩] at a2
    cases a2
/-- a function is told -/
theorem c_looksF {m : MM} {F : Int → FnR} {n : Int} (hb : b = 8 + 17 * n) (h31 : m 3 1 = n) (hn : 0 ≤ n ∧ n ≤ 20) (hB : BKh m F n) (hD : okD D) (hc : DFc m b D) (h : ∀ m', FLk b m m' → NC m' (defN F n D) → (defN F n D = none → TXh m' b (hdF D) ∧ okF (hdF D)) → Q (if defN F n D = none then 1 else 0) m') : P_X5_looks b m Q := by
  have tb : isTx b := by rw [hb]; exact isTx_k (by omega)
  have bx := tb
  unfold isTx at bx
  rintro m1 rfl m2 rfl
  have f2 : FLk b m (up (up m 372 5 0) 372 1 b) := fun c i a1 _ _ _ _ => by rw [up_ne (fun z => a1 z.1), up_ne (fun z => a1 z.1)]
  have e21 : up (up m 372 5 0) 372 1 b 372 1 = b := up_at ..
  have e25 : up (up m 372 5 0) 372 1 b 372 5 = 0 := by rw [up_neI (by decide), up_at]
  obtain ⟨m2, hm2⟩ : ∃ m2, m2 = up (up m 372 5 0) 372 1 b := ⟨_, rfl⟩
  rw [← hm2] at f2 e21 e25 ⊢
  have hc2 := hc.lk tb f2
  have e231 : m2 3 1 = n := by rw [f2 3 1 (by decide) (by decide) (by decide) (by omega) (by omega)]; exact h31
  have bk : ∀ m3, FLk b m m3 → BKh m3 F n := fun m3 f3 => ⟨hB.1, fun k k0 k1 => by
    have tx := isTx_k (k := k) (by omega)
    have q := tx
    unfold isTx at q
    exact ⟨(hB.2 k k0 k1).1, (hB.2 k k0 k1).2.fr tx (fun c i z => f3 c i (by omega) (by omega) (by omega) (by omega) (by omega))⟩⟩
  rw [hc2.1.1]
  refine ⟨tb, by decide, ?_⟩
  rw [if_pos rfl]
  -- what is answered
  have l43 : ∀ (m3 : MM) (o : Nte), FLk b m m3 → NC m3 o → defN F n D = (match o with
      | some q => some q
      | none => if n = 20 then some (0, 6) else none) → (o = none → TXh m3 b (hdF D) ∧ okF (hdF D)) → P_X5_looks_43 Q b m3 := by
    intro m3 o f3 n3 hd ht
    have hc3 := hc.lk tb f3
    have e31 : m3 3 1 = n := by rw [f3 3 1 (by decide) (by decide) (by decide) (by omega) (by omega)]; exact h31
    have l147 : ∀ m4, FLk b m m4 → NC m4 (defN F n D) → (defN F n D = none → TXh m4 b (hdF D) ∧ okF (hdF D)) → P_X5_looks_147 Q m4 := by
      intro m4 f4 n4 t4
      have := h m4 f4 n4 t4
      rcases hdn : defN F n D with - | ⟨p, k⟩
      · rw [hdn] at n4 this
        have z : m4 372 5 = 0 := n4
        refine ⟨by rw [z]; decide, ?_⟩
        rw [if_pos z]
        rw [if_pos rfl] at this
        exact this
      · rw [hdn] at n4 this
        obtain ⟨z1, z2, z3, z4⟩ := n4
        refine ⟨by rw [z1]; constructor <;> omega, ?_⟩
        rw [if_neg (by omega)]
        rw [if_neg (fun q => by cases q)] at this
        exact this
    have l124 : ∀ s0 : Int, (s0 = 1 ∧ n = 20 ∨ s0 = 0 ∧ n ≠ 20) → P_X5_looks_124 Q s0 m3 := by
      intro s0 hs
      rcases o with - | ⟨p, k⟩
      · have z : m3 372 5 = 0 := n3
        refine ⟨by rw [z]; decide, ?_⟩
        rw [if_pos z]
        refine ⟨by constructor <;> omega, ?_⟩
        rcases hs with ⟨rfl, hs⟩ | ⟨rfl, hs⟩
        · rw [if_neg (by decide)]
          rintro m4 rfl m5 rfl
          simp only at hd
          rw [if_pos hs] at hd
          refine l147 _ (fun c i a1 a2 a3 a4 a5 => by rw [up_ne (fun z => a1 z.1), up_ne (fun z => a1 z.1)]; exact f3 c i a1 a2 a3 a4 a5) ?_ (fun q => by rw [hd] at q; cases q)
          rw [hd]
          exact ⟨by rw [up_neI (by decide), up_at], up_at .., by decide, by decide⟩
        · rw [if_pos rfl]
          simp only at hd
          rw [if_neg hs] at hd
          exact l147 m3 f3 (by rw [hd]; exact n3) (fun _ => ht rfl)
      · obtain ⟨z1, z2, z3, z4⟩ := id n3
        refine ⟨by rw [z1]; constructor <;> omega, ?_⟩
        rw [if_neg (by omega)]
        exact l147 m3 f3 (by rw [hd]; exact n3) (fun q => by rw [hd] at q; cases q)
    unfold P_X5_looks_43
    rw [hc3.1.1, e31]
    refine ⟨tb, by decide, ?_⟩
    rw [if_pos rfl]
    refine ⟨by constructor <;> omega, ?_⟩
    by_cases c20 : n = 20
    · rw [if_pos c20]; exact l124 1 (Or.inl ⟨rfl, c20⟩)
    · rw [if_neg c20]; exact l124 0 (Or.inr ⟨rfl, c20⟩)
  refine c_headC hb e21 e25 e231 hn (bk m2 f2) hD hc2 (fun m3 f3 e31 e34 n3 hd3 => ?_)
  have f3' := f2.trans f3
  have r5 : RI (m3 372 5) := by
    rcases hh : hdN F n D with - | ⟨p, k⟩
    · rw [hh] at n3
      have z : m3 372 5 = 0 := n3
      rw [z]; decide
    · rw [hh] at n3
      obtain ⟨z1, z2, z3, z4⟩ := n3
      rw [z1]; constructor <;> omega
  refine ⟨r5, ?_⟩
  rcases hh : hdN F n D with - | q
  · rw [hh] at n3
    have z : m3 372 5 = 0 := n3
    rw [if_pos z]
    obtain ⟨x1, x2, x3, x4⟩ := hdN_none hD hh
    have hc3 := hc.lk tb f3'
    have okf := hdF_ok hD x1 x2
    have tx3 := HDs.tx hD hc3 x1 x2 hd3
    have hB3 : BKh m3 (setF F n (hdF D)) (n + 1) := by
      refine ⟨by omega, fun k k0 k1 => ?_⟩
      unfold setF
      by_cases e : k = n
      · rw [if_pos e, e, ← hb]; exact ⟨okf, tx3⟩
      · rw [if_neg e]; exact (bk m3 f3').2 k k0 (by omega)
    have en : (setF F n (hdF D)) n = hdF D := if_pos rfl
    refine c_bodyC hD hc3 hb hn e31 (by rw [f3' 3 1 (by decide) (by decide) (by decide) (by omega) (by omega)]; exact h31) n3 hB3 (by rw [en]; rfl) (fun m4 f4 e4 n4 => ?_)
    refine l43 m4 _ (f3'.trans f4.lk) n4 ?_ (fun _ => ⟨tx3.fr tb (fun c i z => f4 c i (by omega) (by omega) (by omega) (by omega)), okf⟩)
    unfold defN
    rw [hh]
    rcases bodN (setF F n (hdF D)) n D with - | q <;> rfl
  · rw [hh] at n3
    obtain ⟨p, k⟩ := q
    obtain ⟨z1, z2, z3, z4⟩ := id n3
    rw [if_neg (by omega)]
    refine l43 m3 (some (p, k)) f3' n3 ?_ (fun z => by cases z)
    unfold defN
    rw [hh]
/-- what is wrong with a line -/
noncomputable def lineN (e : JE) (d : ND) (c : TT) (full : Prop) : Nte := match ntS e d c with
  | some q => some q
  | none => @ite _ full (Classical.propDecidable _) (some (0, 6)) none
theorem lineN_eq {e : JE} {d : ND} {c : TT} {full : Prop} : ∀ o, o = ntS e d c → lineN e d c full = match o with
    | some q => some q
    | none => @ite _ full (Classical.propDecidable _) (some (0, 6)) none := by
  intro o ho
  unfold lineN
  rw [← ho]
def fullP (nr nv so w : Int) (vN : Int → Int) : Prop := nr = 200 ∨ so = 1 ∧ fstI vN w nv.toNat 0 = none ∧ nv = 20
theorem c_looksL {m : MM} {F : Int → FnR} {d : ND} {c : TT} {lo hi nf nr nv so w : Int} {rR vR : Int → R3} {vN : Int → Int} (hk : d.1 < 30) (wf : wfT (nd d c lf)) (tb : isTx b) (hT : TN m b d c lo hi (m b 2)) (hso : so = 0 ∨ so = 1) (e1 : m b 1 = so) (e16 : so = 1 → m b 16 = w) (hw : RL w) (hB : BKh m F nf) (h31 : m 3 1 = nf) (hRS : RSc m nr rR nv vN vR) (h : ∀ m', FJk b m m' → NC m' (lineN (JEl F nf nr rR nv vN vR) d c (fullP nr nv so w vN)) → (∀ x, rgS (JEl F nf nr rR nv vN vR) d c = some x → AnN m' b (JEl F nf nr rR nv vN vR) d c (m' b 2) ∧ ok3 x) → Q (if lineN (JEl F nf nr rR nv vN vR) d c (fullP nr nv so w vN) = none then 1 else 0) m') : P_X5_looks b m Q := by
  have bx := tb
  unfold isTx at bx
  rintro m1 rfl m2 rfl
  have f2 : FJk b m (up (up m 372 5 0) 372 1 b) := fun c i a1 _ _ _ => by rw [up_ne (fun z => a1 z.1), up_ne (fun z => a1 z.1)]
  have e25 : up (up m 372 5 0) 372 1 b 372 5 = 0 := by rw [up_neI (by decide), up_at]
  obtain ⟨m2, hm2⟩ : ∃ m2, m2 = up (up m 372 5 0) 372 1 b := ⟨_, rfl⟩
  rw [← hm2] at f2 e25 ⊢
  have gb : ∀ m3, FJk b m m3 → ∀ i, m3 b i = m b i := fun m3 f3 i => f3 b i (by omega) (by omega) (by omega) (by omega)
  have rs : ∀ m3, FJk b m m3 → RSc m3 nr rR nv vN vR := by
    intro m3 f3
    refine ⟨⟨?_, hRS.1.2.1, fun k k0 k1 => ?_⟩, ?_, hRS.2.2.1, fun k k0 k1 => ?_⟩
    · rw [f3 3 3 (by decide) (by decide) (by decide) (by omega)]; exact hRS.1.1
    · rw [f3 7 k (by decide) (by decide) (by omega) (by omega)]; exact hRS.1.2.2 k k0 k1
    · rw [f3 3 2 (by decide) (by decide) (by decide) (by omega)]; exact hRS.2.1
    · rw [f3 5 k (by decide) (by decide) (by omega) (by omega), f3 6 k (by decide) (by decide) (by omega) (by omega)]; exact hRS.2.2.2 k k0 k1
  have bk : ∀ m3, FJk b m m3 → BKh m3 F nf := fun m3 f3 => hB.fr (fun c' i z => by
    obtain ⟨b', tx, z⟩ := z
    have q := tx
    unfold isTx at q
    exact f3 c' i (by omega) (by omega) (by omega) (fun y => tx_ne (c := c') tb tx (by omega) (by omega)))
  rw [gb m2 f2 1, e1]
  refine ⟨tb, by constructor <;> omega, ?_⟩
  rw [if_neg (by omega)]
  refine c_judgeL hk wf tb (n := none) (by rw [gb m2 f2 2]; exact hT.lk tb f2.lk) e25 (bk m2 f2) (by rw [f2 3 1 (by decide) (by decide) (by decide) (by omega)]; exact h31) (rs m2 f2) (fun m3 f3 e31 n3 a3 => ?_)
  have f3' := f2.trans f3
  have n3' : NC m3 (ntS (JEl F nf nr rR nv vN vR) d c) := n3
  obtain ⟨o, ho⟩ : ∃ o, o = ntS (JEl F nf nr rR nv vN vR) d c := ⟨_, rfl⟩
  rw [← ho] at n3'
  have r3 := rs m3 f3'
  have nrb := r3.1.2.1
  have nvb := r3.2.2.1
  have ln := fun (full : Prop) => lineN_eq (full := full) o ho
  have l147 : ∀ m4, FJk b m m4 → (∀ c i, c ≠ 372 → m4 c i = m3 c i) → NC m4 (lineN (JEl F nf nr rR nv vN vR) d c (fullP nr nv so w vN)) → P_X5_looks_147 Q m4 := by
    intro m4 f4 g4 n4
    have an4 : ∀ x, rgS (JEl F nf nr rR nv vN vR) d c = some x → AnN m4 b (JEl F nf nr rR nv vN vR) d c (m4 b 2) ∧ ok3 x := by
      intro x hx
      refine ⟨?_, (a3 x hx).2⟩
      rw [g4 b 2 (by omega)]
      obtain ⟨a1, a2, a3', a4⟩ := (a3 x hx).1
      refine ⟨fun y hy => by rw [g4 _ _ (by omega)]; exact a1 y hy, fun q i y hy => by rw [g4 _ _ (by omega)]; exact a2 q i y hy, fun q rc f R z z1 z2 => by rw [g4 _ _ (by omega), g4 _ _ (by omega)]; exact a3' q rc f R z z1 z2, fun q => ?_⟩
      rw [g4 _ _ (by omega)]
      obtain ⟨cl, ch, t2, t3, t4⟩ := hT.lk tb f3'.lk
      have t4' : TF m3 b c cl ch (m3 (b + 2) (m3 b 2)) := by rw [gb m3 f3' 2]; exact t4
      exact AnF.fr (fun i => ⟨g4 _ _ (by omega), g4 _ _ (by omega)⟩) t4' (fun i _ _ => ⟨g4 _ _ (by omega), g4 _ _ (by omega), g4 _ _ (by omega)⟩) (a4 q)
    have := h m4 f4 n4 an4
    rcases hdn : lineN (JEl F nf nr rR nv vN vR) d c (fullP nr nv so w vN) with - | ⟨p, k⟩
    · rw [hdn] at n4 this
      have z : m4 372 5 = 0 := n4
      refine ⟨by rw [z]; decide, ?_⟩
      rw [if_pos z]
      rw [if_pos rfl] at this
      exact this
    · rw [hdn] at n4 this
      obtain ⟨z1, z2, z3, z4⟩ := n4
      refine ⟨by rw [z1]; constructor <;> omega, ?_⟩
      rw [if_neg (by omega)]
      rw [if_neg (fun q => by cases q)] at this
      exact this
  have l124 : ∀ s0 : Int, (s0 = 1 ∧ fullP nr nv so w vN ∨ s0 = 0 ∧ ¬ fullP nr nv so w vN) → P_X5_looks_124 Q s0 m3 := by
    intro s0 hs
    have l := ln (fullP nr nv so w vN)
    rcases o with - | ⟨p, k⟩
    · have z : m3 372 5 = 0 := n3'
      refine ⟨by rw [z]; decide, ?_⟩
      rw [if_pos z]
      refine ⟨by constructor <;> omega, ?_⟩
      simp only at l
      rcases hs with ⟨rfl, hs⟩ | ⟨rfl, hs⟩
      · rw [if_neg (by decide)]
        rintro m4 rfl m5 rfl
        rw [if_pos hs] at l
        refine l147 _ (fun c i a1 a2 a3 a4 => by rw [up_ne (fun z => a1 z.1), up_ne (fun z => a1 z.1)]; exact f3' c i a1 a2 a3 a4) (fun c i a1 => by rw [up_ne (fun z => a1 z.1), up_ne (fun z => a1 z.1)]) ?_
        rw [l]
        exact ⟨by rw [up_neI (by decide), up_at], up_at .., by decide, by decide⟩
      · rw [if_pos rfl]
        rw [if_neg hs] at l
        exact l147 m3 f3' (fun _ _ _ => rfl) (by rw [l]; exact n3')
    · obtain ⟨z1, z2, z3, z4⟩ := id n3'
      refine ⟨by rw [z1]; constructor <;> omega, ?_⟩
      rw [if_neg (by omega)]
      exact l147 m3 f3' (fun _ _ _ => rfl) (by rw [l]; exact n3')
  unfold P_X5_looks_43
  rw [gb m3 f3' 1, e1, r3.1.1]
  refine ⟨tb, by constructor <;> omega, ?_⟩
  rw [if_neg (by omega)]
  refine ⟨by constructor <;> omega, ?_⟩
  by_cases c200 : nr = 200
  · rw [if_pos c200]; exact l124 1 (Or.inl ⟨rfl, Or.inl c200⟩)
  rw [if_neg c200]
  by_cases s1 : so = 1
  · rw [if_pos s1, gb m3 f3' 16, e16 s1]
    refine c_variableC r3.2.1 nvb (fun k k0 k1 => ⟨(r3.2.2.2 k k0 k1).1, (r3.2.2.2 k k0 k1).2.2.2⟩) hw ?_
    rcases hv : fstI vN w nv.toNat 0 with - | v
    · refine ⟨by decide, ?_⟩
      rw [if_pos (show encP none = -1 from rfl), r3.2.1]
      refine ⟨by constructor <;> omega, ?_⟩
      by_cases c20 : nv = 20
      · rw [if_pos c20]; exact l124 1 (Or.inl ⟨rfl, Or.inr ⟨s1, hv, c20⟩⟩)
      · rw [if_neg c20]; exact l124 0 (Or.inr ⟨rfl, fun q => by rcases q with q | q; exact c200 q; exact c20 q.2.2⟩)
    · have vb := fstI_bd _ _ _ hv
      rw [show encP (some v) = v from rfl]
      refine ⟨by constructor <;> omega, ?_⟩
      rw [if_neg (by omega)]
      exact l124 0 (Or.inr ⟨rfl, fun q => by rcases q with q | q; exact c200 q; rw [q.2.1] at hv; cases hv⟩)
  · rw [if_neg s1]
    exact l124 0 (Or.inr ⟨rfl, fun q => by rcases q with q | q; exact c200 q; exact s1 q.1⟩)
end LOOKS
