set_option maxRecDepth 100000
/-! the component: heads of functions -/
/-- what looking at a text may change -/
def FLk (b : Int) (m m' : MM) : Prop := ∀ c i, c ≠ 372 → c ≠ 373 → ¬ (c = 3 ∧ i = 7) → ¬ (b + 6 ≤ c ∧ c ≤ b + 8) → ¬ (b + 13 ≤ c ∧ c ≤ b + 16) → m' c i = m c i
theorem FLk.refl {b : Int} (m : MM) : FLk b m m := fun _ _ _ _ _ _ _ => rfl
theorem FLk.trans {b : Int} {m m1 m2 : MM} (h : FLk b m m1) (k : FLk b m1 m2) : FLk b m m2 := fun c i a1 a2 a3 a4 a5 => (k c i a1 a2 a3 a4 a5).trans (h c i a1 a2 a3 a4 a5)
theorem Fnt.lk {b : Int} {m m' : MM} (h : Fnt m m') : FLk b m m' := fun c i a1 _ _ _ _ => h c i (fun z => a1 z.1)
theorem FJd.lk {b lo hi : Int} {m m' : MM} (h : FJd b lo hi m m') : FLk b m m' := fun c i a1 a2 a3 a4 _ => h c i (fun z => a4 (by omega)) (fun z => a1 z.1) a2 a3
theorem TF.lk {m m' : MM} {b lo hi k : Int} {t : TT} (hb : isTx b) (f : FLk b m m') (h : TF m b t lo hi k) : TF m' b t lo hi k := by
  unfold isTx at hb
  exact h.fr (fun i => ⟨f _ _ (by omega) (by omega) (by omega) (by omega) (by omega), f _ _ (by omega) (by omega) (by omega) (by omega) (by omega), f _ _ (by omega) (by omega) (by omega) (by omega) (by omega), f _ _ (by omega) (by omega) (by omega) (by omega) (by omega), f _ _ (by omega) (by omega) (by omega) (by omega) (by omega), f _ _ (by omega) (by omega) (by omega) (by omega) (by omega)⟩)
theorem TN.lk {m m' : MM} {b lo hi k : Int} {d : ND} {c : TT} (hb : isTx b) (f : FLk b m m') (h : TN m b d c lo hi k) : TN m' b d c lo hi k := by
  have bx := hb
  unfold isTx at bx
  have g : ∀ c' i, b + 1 ≤ c' ∧ c' ≤ b + 5 ∨ c' = b + 9 → m' c' i = m c' i := fun c' i z => f c' i (by omega) (by omega) (by omega) (by omega) (by omega)
  obtain ⟨cl, ch, t2, ⟨e1, e4, e5, e9⟩, t4⟩ := h
  refine ⟨cl, ch, t2, ⟨by rw [g _ _ (by omega)]; exact e1, by rw [g _ _ (by omega)]; exact e4, by rw [g _ _ (by omega)]; exact e5, fun w => by rw [g _ _ (by omega)]; exact e9 w⟩, ?_⟩
  rw [g _ _ (by omega)]
  exact t4.lk hb f
/-- a function that was read lies in a text -/
def DFc (m : MM) (b : Int) (D : DFN) : Prop := (m b 1 = 2 ∧ m b 16 = dNm D ∧ m b 20 = dCp D ∧ m b 5 = dNp D ∧ m b 22 = dRu D ∧ (dRu D ≠ 0 → m b 21 = dFp D) ∧ m b 3 = dFi D) ∧ (∀ k, 1 ≤ k → k ≤ dNp D → m (b + 10) (k - 1) = dPn D k ∧ m (b + 12) (k - 1) = dPp D k ∧ ∃ lo hi, TF m b (dTy D k) lo hi (m (b + 11) (k - 1))) ∧ (∃ lo hi, TF m b (dTy D 0) lo hi (m b 6)) ∧ ∃ lo hi, TN m b (dRd D) (dRc D) lo hi (m b 2)
theorem DFc.lk {m m' : MM} {b : Int} {D : DFN} (hb : isTx b) (f : FLk b m m') (h : DFc m b D) : DFc m' b D := by
  have bx := hb
  unfold isTx at bx
  have g : ∀ c i, c = b ∨ b + 1 ≤ c ∧ c ≤ b + 5 ∨ b + 9 ≤ c ∧ c ≤ b + 12 → m' c i = m c i := fun c i z => f c i (by omega) (by omega) (by omega) (by omega) (by omega)
  obtain ⟨⟨a1, a2, a3, a4, a5, a6, a7⟩, h2, ⟨l3, u3, h3⟩, ⟨l4, u4, h4⟩⟩ := h
  refine ⟨⟨by rw [g _ _ (by omega)]; exact a1, by rw [g _ _ (by omega)]; exact a2, by rw [g _ _ (by omega)]; exact a3, by rw [g _ _ (by omega)]; exact a4, by rw [g _ _ (by omega)]; exact a5, fun q => by rw [g _ _ (by omega)]; exact a6 q, by rw [g _ _ (by omega)]; exact a7⟩, fun k k0 k1 => ?_, ⟨l3, u3, ?_⟩, ⟨l4, u4, ?_⟩⟩
  · obtain ⟨b1, b2, lo, hi, b3⟩ := h2 k k0 k1
    refine ⟨by rw [g _ _ (by omega)]; exact b1, by rw [g _ _ (by omega)]; exact b2, lo, hi, ?_⟩
    rw [g _ _ (by omega)]
    exact b3.lk hb f
  · rw [g _ _ (by omega)]; exact h3.lk hb f
  · rw [g _ _ (by omega)]; exact h4.lk hb f
/-- the head of a text as far as a number of parameters -/
def HDk (m : MM) (b : Int) (D : DFN) (k : Int) : Prop := m (b + 13) k = hasRT (dTy D k) ∧ m (b + 14) k = encX (hdO D k).1 ∧ (∀ x, (hdO D k).1 = some x → hasRT (dTy D k) = 1 → m (b + 15) k = x.2.1 ∧ m (b + 16) k = x.2.2)
/-- only this head's rings -/
def FSh (b k : Int) (m m' : MM) : Prop := ∀ c i, ¬ (c = 372 ∧ (i = 5 ∨ i = 6)) → ¬ ((b + 13 ≤ c ∧ c ≤ b + 16) ∧ i = k) → m' c i = m c i
section HEADC
variable {Q : Int → MM → Prop} {b : Int} {D : DFN}
theorem FSh.lk {k : Int} {m m' : MM} (h : FSh b k m m') : FLk b m m' := fun c i a1 _ _ _ a5 => h c i (fun z => a1 z.1) (fun z => a5 z.1)
theorem c_shapeC {m : MM} {n : Nte} {k tk lo hi : Int} (hb : isTx b) (hk : 0 ≤ k ∧ k < 4) (w : wfT (dTy D k)) (ty : isTy (dTy D k)) (hh : htT (dTy D k) ≤ 16) (h1 : m 372 1 = b) (h3 : m 372 3 = encO (hdR D)) (hT : TF m b (dTy D k) lo hi tk) (hn : NC m n) (h : ∀ m', FSh b k m m' → NC m' (mn n (hdO D k).2) → HDk m' b D k → Q (if (hdO D k).1 = none then 0 else 1) m') : P_X5_shape k tk m Q := by
  have bx := hb
  unfold isTx at bx
  have okt : ∀ x, (hdO D k).1 = some x → ok3 x := fun x hx => tyO_ok (R := hdR D) (fun x hx => (hdR_ok x hx).1) _ w ty x hx
  unfold P_X5_shape
  rw [h1]
  refine ⟨hb, c_typeC hb hdR_ok _ w ty (lo := lo) (hi := hi) (n := n) (by omega) h1 h3 hT hn (fun m1 f1 n1 => ⟨hk, ?_⟩)⟩
  rintro m2 rfl
  have e2 : up m1 (b + 14) k (encX (tyO (hdR D) (dTy D k)).1) 372 1 = b := by rw [up_ne (by omega), f1 372 1 (by decide)]; exact h1
  rw [e2]
  refine ⟨hb, ?_⟩
  rintro m3 rfl
  have e3 : up (up m1 (b + 14) k (encX (tyO (hdR D) (dTy D k)).1)) (b + 15) k 0 372 1 = b := by rw [up_ne (by omega)]; exact e2
  rw [e3]
  refine ⟨hb, ?_⟩
  rintro m4 rfl
  -- the walk down
  have L : ∀ (t : TT), wfT t → isTy t → ∀ (r : Nat), htT t ≤ r → ∀ (o a : Int) (m5 : MM) (lo hi tk : Int), FSh b k m m5 → NC m5 (mn n (hdO D k).2) → m5 (b + 14) k = encX (hdO D k).1 → TF m5 b t lo hi tk → m5 (b + 15) k = o → m5 (b + 16) k = a → hasRT t = hasRT (dTy D k) → shp t o a = shp (dTy D k) 0 0 → P_X5_shape_36 Q (r + 1) k tk m5 := by
    intro t
    induction t with
    | leaf => intro _ hy; exact hy.elim
    | inner z d u c s ihc ihs =>
      intro wt hy r hrr o a m5 lo hi tk f5 n5 e14 hT5 e15 e16 hr hs
      have hrr' : max (htT c + 1) (htT s) ≤ r := hrr
      obtain ⟨r, rfl⟩ : ∃ q, r = q + 1 := ⟨r - 1, by omega⟩
      have hkd := hy.1
      obtain ⟨w0, wc, -⟩ := wt
      obtain ⟨mid, g1, ⟨cl, ch, g2, ⟨y1, y4, y5, y9⟩, g7⟩, g8⟩ := hT5
      have e51 : m5 372 1 = b := by rw [f5 372 1 (by decide) (by omega)]; exact h1
      have kb : 0 ≤ tk ∧ tk < 160 := by omega
      have step : ∀ (o' a' : Int) (m6 : MM), (d.1 = 34 ∨ d.1 = 35) → isTy c → FSh b k m5 m6 → m6 372 5 = m5 372 5 → m6 372 6 = m5 372 6 → m6 (b + 14) k = m5 (b + 14) k → m6 (b + 15) k = o' → m6 (b + 16) k = a' → shp c o' a' = shp (dTy D k) 0 0 → P_X5_shape_112 Q (fun z0 z1 z2 => P_X5_shape_36 Q (r + 1) z0 z1 z2) k tk m6 := by
        intro o' a' m6 q hc f6 z5 z6 z14 z15 z16 zs
        have f56 : FLk b m5 m6 := f6.lk
        have g : ∀ c' i, b + 1 ≤ c' ∧ c' ≤ b + 5 → m6 c' i = m5 c' i := fun c' i z => f6 c' i (by omega) (by omega)
        unfold P_X5_shape_112
        rw [f6 372 1 (by decide) (by omega), e51, g (b + 2) tk (by omega)]
        refine ⟨hb, kb, ?_⟩
        exact ihc wc hc r (by omega) o' a' m6 cl ch (m5 (b + 2) tk) (fun c' i q1 q2 => (f6 c' i q1 q2).trans (f5 c' i q1 q2)) (n5.congr z5 z6) (z14.trans e14) (g7.lk hb f56) z15 z16 (by rw [← hr]; show hasRT c = (if d.1 = 34 ∨ d.1 = 35 then hasRT c else if d.1 = 32 then 1 else 0); rw [if_pos q]) zs
      show P_X5_shape_36 Q (r + 1 + 1) k tk m5
      unfold P_X5_shape_36
      rw [e51, y1]
      refine ⟨hb, kb, by constructor <;> omega, ?_⟩
      have l64 : (d.1 = 34 ∨ d.1 = 35) → P_X5_shape_64 Q (fun z0 z1 z2 => P_X5_shape_36 Q (r + 1) z0 z1 z2) k tk m5 := by
        intro q
        have hc : isTy c := by
          rcases w0.2.2.2.2.2.2.2.2 with q' | q' | q' | q'
          · exfalso; have := q'.1; unfold arT at this; omega
          · exfalso; omega
          · exfalso; omega
          · exact q'.2
        unfold P_X5_shape_64
        rw [e51, y1, y4, e15]
        refine ⟨hb, kb, by constructor <;> omega, ?_⟩
        have hs' : shp (Std.DTreeMap.Internal.Impl.inner z d u c s) o a = (if d.1 = 34 then shp c (o + 1) a else if d.1 = 35 then shp c o d.2.2.1 else (o, a)) := rfl
        by_cases k34 : d.1 = 34
        · rw [if_pos k34]
          refine ⟨hk, ?_⟩
          rintro m6 rfl
          refine step (o + 1) a _ q hc (fun c' i q1 q2 => up_ne (fun z => q2 ⟨by omega, z.2⟩)) (up_ne (by omega)) (up_ne (by omega)) (up_ne (by omega)) (up_at ..) (by rw [up_ne (by omega)]; exact e16) ?_
          rw [← hs, hs', if_pos k34]
        · rw [if_neg k34]
          refine ⟨hk, ?_⟩
          rintro m6 rfl
          refine step o d.2.2.1 _ q hc (fun c' i q1 q2 => up_ne (fun z => q2 ⟨by omega, z.2⟩)) (up_ne (by omega)) (up_ne (by omega)) (up_ne (by omega)) (by rw [up_ne (by omega)]; exact e15) (up_at ..) ?_
          rw [← hs, hs', if_neg k34, if_pos (by omega)]
      by_cases k34 : d.1 = 34
      · rw [if_pos k34]; exact l64 (Or.inl k34)
      rw [if_neg k34]
      by_cases k35 : d.1 = 35
      · rw [if_pos k35]; exact l64 (Or.inr k35)
      rw [if_neg k35]
      have hr' : hasRT (dTy D k) = if d.1 = 32 then 1 else 0 := by
        rw [← hr]
        show (if d.1 = 34 ∨ d.1 = 35 then hasRT c else if d.1 = 32 then 1 else 0) = _
        rw [if_neg (by omega)]
      have hs' : (o, a) = shp (dTy D k) 0 0 := by
        rw [← hs]
        show (o, a) = (if d.1 = 34 then shp c (o + 1) a else if d.1 = 35 then shp c o d.2.2.1 else (o, a))
        rw [if_neg k34, if_neg k35]
      unfold P_X5_shape_125
      rw [e51, y1, ← hr']
      refine ⟨hb, kb, by constructor <;> omega, hk, hasRT_cs _, ?_⟩
      rintro m6 rfl
      have e61 : up m5 (b + 13) k (hasRT (dTy D k)) 372 1 = b := by rw [up_ne (by omega)]; exact e51
      have e614 : up m5 (b + 13) k (hasRT (dTy D k)) (b + 14) k = encX (hdO D k).1 := by rw [up_ne (by omega)]; exact e14
      rw [e61, e614]
      refine ⟨hb, encX_ri okt, ?_⟩
      have fin := h _ (fun c' i q1 q2 => by rw [up_ne (fun z => q2 ⟨by omega, z.2⟩)]; exact f5 c' i q1 q2) (n5.congr (up_ne (by omega)) (up_ne (by omega))) ⟨up_at .., e614, fun x hx hr1 => by
        rw [up_ne (by omega), up_ne (by omega), e15, e16]
        unfold hdO hdR at hx
        split at hx
        · rw [tyO_noR w ty x hx] at hr1; cases hr1
        · have q := (shp_R _ w ty x 0 0 hx hr1).1
          rw [← hs'] at q
          have q1 : o = 0 + x.2.1 := congrArg Prod.fst q
          have q2 : a = if x.2.2 = 0 then 0 else x.2.2 := congrArg Prod.snd q
          refine ⟨by omega, ?_⟩
          rw [q2]
          split <;> omega⟩
      by_cases q : (hdO D k).1 = none
      · rw [if_pos ((encX_3 okt).2 q)]
        rw [if_pos q] at fin
        exact fin
      · rw [if_neg (fun z => q ((encX_3 okt).1 z))]
        rw [if_neg q] at fin
        exact fin
  refine ⟨_, L (dTy D k) w ty _ (Nat.le_refl _) 0 0 _ lo hi tk (fun c' i q1 q2 => by rw [up_ne (fun z => q2 ⟨by omega, z.2⟩), up_ne (fun z => q2 ⟨by omega, z.2⟩), up_ne (fun z => q2 ⟨by omega, z.2⟩)]; exact f1 c' i q1) (n1.congr (by rw [up_ne (by omega), up_ne (by omega), up_ne (by omega)]) (by rw [up_ne (by omega), up_ne (by omega), up_ne (by omega)])) (by rw [up_ne (by omega), up_ne (by omega), up_at]; rfl) ((hT.fn hb f1).fr (fun i => ⟨by rw [up_ne (by omega), up_ne (by omega), up_ne (by omega)], by rw [up_ne (by omega), up_ne (by omega), up_ne (by omega)], by rw [up_ne (by omega), up_ne (by omega), up_ne (by omega)], by rw [up_ne (by omega), up_ne (by omega), up_ne (by omega)], by rw [up_ne (by omega), up_ne (by omega), up_ne (by omega)], by rw [up_ne (by omega), up_ne (by omega), up_ne (by omega)]⟩)) (by rw [up_ne (by omega), up_at]) (up_at ..) rfl rfl⟩
end HEADC
