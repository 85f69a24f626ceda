set_option maxRecDepth 100000
/-! both houses: frames; the tape -/
section HSD
variable {Q : Int → Int → MM → Prop} {Q1 : Int → MM → Prop} {m m' m1 : MM} {F : Int → FnR} {n nr nv sz x w p : Int} {rR vR : Int → R3} {resV varV : Int → VV} {vN tx : Int → Int} {A : HA} {x1 x2 x3 x4 x5 : Int}
theorem BkO.tf (h : BkO m F n) (f : ∀ k c i, 0 ≤ k → k < n → 8 + 17 * k ≤ c → c ≤ 8 + 17 * k + 16 → ¬ (8 + 17 * k + 6 ≤ c ∧ c ≤ 8 + 17 * k + 8) → m' c i = m c i) : BkO m' F n := by
  obtain ⟨h1, h2, h3⟩ := h
  refine ⟨h1, ⟨h2.1, fun k k0 k1 => ⟨(h2.2 k k0 k1).1, TXh.fr (isTx_k (by omega)) (fun c i z => f k c i k0 k1 (by omega) (by omega) (by omega)) (h2.2 k k0 k1).2⟩⟩, fun k k0 k1 => ?_⟩
  obtain ⟨⟨lo, hi, a1⟩, a2, a3, a4⟩ := h3 k k0 k1
  exact ⟨⟨lo, hi, by rw [f k _ _ k0 k1 (by omega) (by omega) (by omega)]; exact a1.frr (fun c i z _ _ _ => f k c i k0 k1 (by omega) (by omega) (by omega))⟩, by rw [f k _ _ k0 k1 (by omega) (by omega) (by omega)]; exact a2, a3, a4⟩
theorem MsI.hf (h : MsI m F n []) (f : ∀ c i, (389 ≤ c ∧ c ≤ 580) ∨ (c = 376 ∧ (i = 6 ∨ i = 13 ∨ (17 ≤ i ∧ i ≤ 20))) → m' c i = m c i) (g : BkO m' F n) : MsI m' F n [] := by
  obtain ⟨⟨h1, h1'⟩, h2, h3, h4, h5, h6, h7, h8⟩ := h
  refine ⟨⟨by rw [f _ _ (by omega)]; exact h1, h1'⟩, trivial, fun k k0 k1 => by rw [f _ _ (by omega)]; exact h3 k k0 k1, by rw [f _ _ (by omega)]; exact h4, fun k k0 k1 => ?_, g, by rw [f 376 17 (by omega), f 376 18 (by omega)]; exact h7, by rw [f 376 19 (by omega), f 376 20 (by omega)]; exact h8⟩
  rw [f _ _ (by omega), f _ _ (by omega)]
  rcases h5 k k0 k1 with q | ⟨g, R, z, q1, q2, q3, q4, q5, q6⟩
  · exact .inl q
  · exact .inr ⟨g, R, z, q1, q2, q3, q4, q5, q6.fr (fun c i a _ _ => f c i (by omega))⟩
theorem RSc.hf (h : RSc m nr rR nv vN vR) (f : ∀ c i, (c = 3 ∧ (i = 2 ∨ i = 3)) ∨ (5 ≤ c ∧ c ≤ 7) → m' c i = m c i) : RSc m' nr rR nv vN vR := by
  obtain ⟨⟨a1, a2, a3⟩, b1, b2, b3⟩ := h
  exact ⟨⟨by rw [f _ _ (by omega)]; exact a1, a2, fun k k0 k1 => by rw [f _ _ (by omega)]; exact a3 k k0 k1⟩, by rw [f _ _ (by omega)]; exact b1, b2, fun k k0 k1 => by rw [f _ _ (by omega), f _ _ (by omega)]; exact b3 k k0 k1⟩
/-- nothing of the component's house but its tape, its notes on the last line, the text at hand -/
def FhC (n : Int) (m m' : MM) : Prop := (∀ c i, (c = 3 ∧ (1 ≤ i ∧ i ≤ 3)) ∨ (5 ≤ c ∧ c ≤ 7) ∨ (374 ≤ c ∧ c ≤ 375) ∨ (389 ≤ c ∧ c ≤ 580) ∨ (c = 376 ∧ (i = 6 ∨ i = 13 ∨ (17 ≤ i ∧ i ≤ 20))) → m' c i = m c i) ∧ ∀ k c i, 0 ≤ k → k < n → 8 + 17 * k ≤ c → c ≤ 8 + 17 * k + 16 → ¬ (8 + 17 * k + 6 ≤ c ∧ c ≤ 8 + 17 * k + 8) → m' c i = m c i
theorem FhC.of (h : ∀ c i, c = 3 ∧ (1 ≤ i ∧ i ≤ 3) ∨ (5 ≤ c ∧ c ≤ 580) → m' c i = m c i) (hn : n ≤ 20) : FhC n m m' := ⟨fun c i z => h c i (by omega), fun k c i k0 k1 a1 a2 _ => h c i (by omega)⟩
theorem FhC.refl : FhC n m m := ⟨fun _ _ _ => rfl, fun _ _ _ _ _ _ _ _ => rfl⟩
theorem FhC.trans (h : FhC n m m1) (g : FhC n m1 m') : FhC n m m' := ⟨fun c i z => (g.1 c i z).trans (h.1 c i z), fun k c i k0 k1 a1 a2 a3 => (g.2 k c i k0 k1 a1 a2 a3).trans (h.2 k c i k0 k1 a1 a2 a3)⟩
theorem HsC.hf (h : HsC m F n nr rR resV nv vN vR varV) (f : FhC n m m') : HsC m' F n nr rR resV nv vN vR varV := by
  obtain ⟨h1, h2, h3, h4, h5⟩ := h
  have e4 : m' 374 = m 374 := funext (fun i => f.1 _ _ (by omega))
  have e5 : m' 375 = m 375 := funext (fun i => f.1 _ _ (by omega))
  exact ⟨h1.hf (fun c i z => f.1 c i (by omega)) (h1.2.2.2.2.2.1.tf f.2), by rw [f.1 _ _ (by omega)]; exact h2, h3.hf (fun c i z => f.1 c i (by omega)), by rw [e4]; exact h4, by rw [e5]; exact h5⟩
theorem RSm.hf (h : RSm m nr rR nv vN vR) (f : ∀ c i, (c = 582 ∧ (i = 33 ∨ i = 34)) ∨ c = 607 ∨ (623 ≤ c ∧ c ≤ 628) → m' c i = m c i) : RSm m' nr rR nv vN vR := by
  obtain ⟨⟨a1, a2, a3⟩, b1, b2, b3⟩ := h
  exact ⟨⟨by rw [f _ _ (by omega)]; exact a1, a2, fun k k0 k1 => ⟨(a3 k k0 k1).1.fr (fun c z => f c k (by omega)), (a3 k k0 k1).2⟩⟩, by rw [f _ _ (by omega)]; exact b1, b2, fun k k0 k1 => ⟨by rw [f _ _ (by omega)]; exact (b3 k k0 k1).1, (b3 k k0 k1).2.1.fr (fun c z => f c k (by omega)), (b3 k k0 k1).2.2⟩⟩
/-- nothing of the model's house but its tape, its notes on the last line, parts behind those of the functions -/
def FhM (nn n : Int) (m m' : MM) : Prop := (∀ i, i = 15 ∨ (32 ≤ i ∧ i ≤ 34) → m' 582 i = m 582 i) ∧ (∀ c i, c = 583 ∨ c = 584 ∨ c = 607 ∨ (623 ≤ c ∧ c ≤ 630) → m' c i = m c i) ∧ (∀ c i, 590 ≤ c → c ≤ 605 → i < nn → m' c i = m c i) ∧ (∀ c i, c = 606 ∨ (609 ≤ c ∧ c ≤ 614) ∨ (618 ≤ c ∧ c ≤ 621) → i < n → m' c i = m c i) ∧ ∀ c i, c = 608 ∨ (615 ≤ c ∧ c ≤ 617) ∨ c = 622 → i < 3 * n → m' c i = m c i
theorem FhM.refl {nn : Int} : FhM nn n m m := ⟨fun _ _ => rfl, fun _ _ _ => rfl, fun _ _ _ _ _ => rfl, fun _ _ _ _ => rfl, fun _ _ _ _ => rfl⟩
theorem FhM.trans {nn : Int} (h : FhM nn n m m1) (g : FhM nn n m1 m') : FhM nn n m m' := ⟨fun i z => (g.1 i z).trans (h.1 i z), fun c i z => (g.2.1 c i z).trans (h.2.1 c i z), fun c i a1 a2 a3 => (g.2.2.1 c i a1 a2 a3).trans (h.2.2.1 c i a1 a2 a3), fun c i a1 a2 => (g.2.2.2.1 c i a1 a2).trans (h.2.2.2.1 c i a1 a2), fun c i a1 a2 => (g.2.2.2.2 c i a1 a2).trans (h.2.2.2.2 c i a1 a2)⟩
theorem FhM.of {nn : Int} (h : ∀ c i, (c = 582 ∧ (i = 15 ∨ (32 ≤ i ∧ i ≤ 34))) ∨ c = 583 ∨ c = 584 ∨ (590 ≤ c ∧ c ≤ 630) → m' c i = m c i) : FhM nn n m m' := ⟨fun i z => h 582 i (by omega), fun c i z => h c i (by omega), fun c i a1 a2 _ => h c i (by omega), fun c i z _ => h c i (by omega), fun c i z _ => h c i (by omega)⟩
/-! trees of the model: only their own range matters -/
theorem LK_un {d : ND} {c : TT} {k : Int} {cs cs0 : List Int} (w : okN d c) (f : FSt m m') (L : LKm m d k cs) (L0 : LKm m' d k cs0) (l : cs.length = lenT c) (l0 : cs0.length = lenT c) : cs = cs0 := by
  have z : lenT c = 0 → cs = cs0 := fun e => by
    rw [e] at l l0
    rw [List.length_eq_zero_iff.1 l, List.length_eq_zero_iff.1 l0]
  rcases w.2.2.2.2.2.2.2.2 with q | q | q | q
  · have q1 := q.1
    have q2 := ar_len q1
    have q3 : 0 ≤ d.1 ∧ d.1 ≤ 25 := by unfold arT at q1; omega
    by_cases c4 : d.1 ≤ 4
    · exact z (q2.1 (by omega))
    · exact LKm_uniq q3 f L L0 (fun h => absurd h c4)
  · exact LKm_uniq (by omega) f L L0 (fun h => by omega)
  · exact z (by rw [q.2]; rfl)
  · obtain ⟨-, -, -, -, -, -, -, -, a⟩ := L
    obtain ⟨-, -, -, -, -, -, -, -, b⟩ := L0
    rw [a (by omega), b (by omega), f _ _ (by omega)]
theorem TB_len : ∀ {t : TT} {lo hi : Int} {ns : List Int}, TB m t lo hi ns → ns.length = lenT t := by
  intro t
  induction t with
  | leaf => intro lo hi ns h; rw [h.1]; rfl
  | inner z d u c s ihc ihs =>
    intro lo hi ns h
    obtain ⟨n, ns', mid, h1, h2, -, h8⟩ := h
    rw [h1, List.length_cons, ihs h8]; rfl
theorem TM_B {P P' : ND → TT → Int → Prop} : ∀ {t : TT} {lo hi lo' hi' : Int} {ns : List Int}, wfT t → TM m P t lo hi ns → TB m t lo' hi' ns → AgM lo' hi' m m' → (∀ d c n, lo' ≤ n → n < hi' → P d c n → P' d c n) → TM m' P' t lo hi ns := by
  intro t
  induction t with
  | leaf => intro lo hi lo' hi' ns _ h _ _ _; exact h
  | inner z d u c s ihc ihs =>
    intro lo hi lo' hi' ns w h b f g
    obtain ⟨n, ns', mid, h1, h2, ⟨cl, ch, cs, h3, h4, h5, h6, h7⟩, h8⟩ := h
    obtain ⟨n0, ns0, mid0, b1, b2, ⟨cl0, ch0, cs0, b3, b4, b5, b7⟩, b8⟩ := b
    obtain ⟨w1, w2, w3⟩ := w
    rw [h1] at b1
    obtain ⟨rfl, rfl⟩ := List.cons.inj b1
    have le := b8.le
    have e : cs0 = cs := LK_un w1 (fun _ _ _ => rfl) (b5.lkm (by omega) (by omega)) h5 (TB_len b7) (TM_len h7)
    subst e
    have b5' : LKb m' lo' mid0 d n cs0 := b5.fr (fun c i z z1 z2 => f c i z z1 (by omega)) (by omega) (Int.le_refl _) (Int.le_refl _)
    exact ⟨n, ns', mid, h1, h2, ⟨cl, ch, cs0, h3, h4.frr (fun c z => f c n z (by omega) (by omega)), b5'.lkm (by omega) (by omega), g _ _ _ (by omega) (by omega) h6, ihc w2 h7 b7 (fun c i z z1 z2 => f c i z (by omega) (by omega)) (fun d c n z1 z2 => g d c n (by omega) (by omega))⟩, ihs w3 h8 b8 (fun c i z z1 z2 => f c i z (by omega) z2) (fun d c n z1 z2 => g d c n (by omega) z2)⟩
theorem LKb.st {d : ND} {k lo hi : Int} {cs : List Int} (f : FSt m m') (b5 : LKb m lo hi d k cs) : LKb m' lo hi d k cs := by
  have fi : ∀ {cs : List Int} {lo hi i : Int}, ITB m hi lo i cs → ITB m' hi lo i cs := by
    intro cs
    induction cs with
    | nil => intro lo hi i h; exact h
    | cons c cs ih => intro lo hi i h; exact ⟨h.1, by rw [f _ _ (by omega)]; exact h.2.1, by rw [f _ _ (by omega)]; exact ih h.2.2⟩
  have fr : ∀ {rs : List (List Int)} {lo hi i : Int}, RWB m hi lo i rs → RWB m' hi lo i rs := by
    intro rs
    induction rs with
    | nil => intro lo hi i h; exact h
    | cons r rs ih => intro lo hi i h; exact ⟨h.1, by rw [f _ _ (by omega)]; exact fi h.2.1, h.2.2.1, by rw [f _ _ (by omega)]; exact ih h.2.2.2⟩
  have e1 : m' 591 k = m 591 k := f _ _ (by omega)
  have e2 : m' 592 k = m 592 k := f _ _ (by omega)
  have e3 : m' 593 k = m 593 k := f _ _ (by omega)
  unfold LKb at b5 ⊢
  rw [e1, e2, e3]
  refine ⟨fun q => fi (b5.1 q), fun q => ?_, b5.2.2⟩
  obtain ⟨rs, g1, g2⟩ := b5.2.1 q
  exact ⟨rs, fr g1, g2⟩
theorem TB_M {P : ND → TT → Int → Prop} (f : FSt m m') : ∀ {t : TT} {lo hi lo' hi' : Int} {ns : List Int}, wfT t → TM m' P t lo hi ns → TB m t lo' hi' ns → TB m' t lo' hi' ns := by
  intro t
  induction t with
  | leaf => intro lo hi lo' hi' ns _ _ b; exact b
  | inner z d u c s ihc ihs =>
    intro lo hi lo' hi' ns w h b
    obtain ⟨n, ns', mid, h1, h2, ⟨cl, ch, cs, h3, h4, h5, h6, h7⟩, h8⟩ := h
    obtain ⟨n0, ns0, mid0, b1, b2, ⟨cl0, ch0, cs0, b3, b4, b5, b7⟩, b8⟩ := b
    obtain ⟨w1, w2, w3⟩ := w
    rw [h1] at b1
    obtain ⟨rfl, rfl⟩ := List.cons.inj b1
    have e : cs0 = cs := LK_un w1 f (b5.lkm (by omega) (by omega)) h5 (TB_len b7) (TM_len h7)
    subst e
    exact ⟨n, ns', mid0, h1, b2, ⟨cl0, ch0, cs0, b3, h4, b5.st f, ihc w2 h7 b7⟩, ihs w3 h8 b8⟩
theorem TNM_B {P P' : ND → TT → Int → Prop} {a : PT} {lo hi lo' hi' k : Int} (w1 : okN a.1 a.2) (w2 : wfT a.2) (h : TNM m P a.1 a.2 lo hi k) (b : TNB m a lo' hi' k) (f : AgM lo' hi' m m') (g : ∀ d c n, lo' ≤ n → n < hi' → P d c n → P' d c n) : TNM m' P' a.1 a.2 lo hi k := by
  obtain ⟨cl, ch, cs, h3, h4, h5, h6, h7⟩ := h
  obtain ⟨cl0, ch0, cs0, b3, b4, b5, b7⟩ := b
  have e : cs0 = cs := LK_un w1 (fun _ _ _ => rfl) (b5.lkm (by omega) (by omega)) h5 (TB_len b7) (TM_len h7)
  subst e
  have b5' : LKb m' lo' hi' a.1 k cs0 := b5.fr f (by omega) (Int.le_refl _) (Int.le_refl _)
  exact ⟨cl, ch, cs0, h3, h4.frr (fun c z => f c k z (by omega) (by omega)), b5'.lkm (by omega) (by omega), g _ _ _ (by omega) (by omega) h6, TM_B w2 h7 b7 (fun c i z z1 z2 => f c i z (by omega) (by omega)) (fun d c n z1 z2 => g d c n (by omega) (by omega))⟩
theorem TNB_M {P : ND → TT → Int → Prop} {a : PT} {lo hi lo' hi' k : Int} (f : FSt m m') (w1 : okN a.1 a.2) (w2 : wfT a.2) (h : TNM m' P a.1 a.2 lo hi k) (b : TNB m a lo' hi' k) : TNB m' a lo' hi' k := by
  obtain ⟨cl, ch, cs, h3, h4, h5, h6, h7⟩ := h
  obtain ⟨cl0, ch0, cs0, b3, b4, b5, b7⟩ := b
  have e : cs0 = cs := LK_un w1 f (b5.lkm (by omega) (by omega)) h5 (TB_len b7) (TM_len h7)
  subst e
  exact ⟨cl0, ch0, cs0, b3, h4, b5.st f, TB_M f w2 h7 b7⟩
theorem FXM.frL {f : Int} {G : FnR} (h : FXM m f G) (hf : 0 ≤ f) (hp : G.2.1 ≤ 3) (g : ∀ c, c = 606 ∨ (609 ≤ c ∧ c ≤ 614) ∨ (618 ≤ c ∧ c ≤ 621) → m' c f = m c f) (g2 : ∀ c i, c = 608 ∨ (615 ≤ c ∧ c ≤ 617) ∨ c = 622 → i < 3 * (f + 1) → m' c i = m c i) : FXM m' f G := by
  obtain ⟨h1, h2, h3, ⟨h4, h5⟩, h6⟩ := h
  exact ⟨by rw [g _ (by omega)]; exact h1, by rw [g _ (by omega)]; exact h2, by rw [g _ (by omega)]; exact h3, ⟨by rw [g _ (by omega)]; exact h4, h5.fr (fun c z => g c (by omega))⟩, fun k k0 k1 => ⟨by rw [g2 _ _ (by omega) (by omega)]; exact (h6 k k0 k1).1, by rw [g2 _ _ (by omega) (by omega)]; exact (h6 k k0 k1).2.1, (h6 k k0 k1).2.2.fr (fun c z => g2 c _ (by omega) (by omega))⟩⟩
theorem HsM.hf (h : HsM m F n nr rR resV nv vN vR varV A) (hO : FOK F n) (f : FhM A.2.2 n m m') : HsM m' F n nr rR resV nv vN vR varV A := by
  obtain ⟨⟨a1, a2, a3⟩, ⟨b1, b2⟩, ⟨c1, c2, c3, c4, c5⟩, d1, d2⟩ := h
  obtain ⟨f1, f2, f3, f4, f5⟩ := f
  have e1 : m' 629 = m 629 := funext (fun i => f2 _ _ (by omega))
  have e2 : m' 630 = m 630 := funext (fun i => f2 _ _ (by omega))
  refine ⟨⟨⟨a1.1, fun k k0 k1 => ⟨(a1.2 k k0 k1).1, (a1.2 k k0 k1).2.frL k0 (a1.2 k k0 k1).1.1.2 (fun c z => f4 c k z k1) (fun c i z z1 => f5 c i z (by omega))⟩⟩, fun k k0 k1 => by rw [f2 _ _ (by omega)]; exact a2 k k0 k1, fun k k0 k1 => by rw [f2 _ _ (by omega)]; exact a3 k k0 k1⟩, ⟨by rw [f1 _ (by omega)]; exact b1, b2.hf (fun c i z => ?_)⟩, ⟨by rw [f1 _ (by omega)]; exact c1, c2, c3, fun g g0 g1 => ?_, fun g g0 g1 => ?_⟩, by rw [e1]; exact d1, by rw [e2]; exact d2⟩
  · by_cases q : c = 582
    · subst q; exact f1 i (by omega)
    · exact f2 c i (by omega)
  · obtain ⟨q1, R, q2, q3, q4, q5⟩ := c4 g g0 g1
    have rg : (A.1 g).2 ≤ A.2.2 := (c3.2 g g0 g1).1.2.2
    have rg0 : 0 ≤ (A.1 g).1 := (c3.2 g g0 g1).1.1
    obtain ⟨⟨-, o1, o2⟩, -⟩ := hO.2 g g0 g1
    refine ⟨by rw [f4 _ _ (by omega) g1]; exact q1, R, q2.fr (fun c z1 z2 => f4 c g (by omega) g1), q3, q4, TNM_B o1 o2 q5 (c5 g g0 g1) (fun c i z z1 z2 => f3 c i z.1 z.2 (by omega)) (fun d c k z1 z2 ap => ap.fr (fun c u1 u2 => f3 c k (by omega) (by omega) (by omega)))⟩
  · have rg : (A.1 g).2 ≤ A.2.2 := (c3.2 g g0 g1).1.2.2
    have r := (c5 g g0 g1).rng
    exact (c5 g g0 g1).fr (fun c i z z1 z2 => f3 c i z.1 z.2 (by omega)) r.1 (Int.le_refl _) (Int.le_refl _) r.2.2.2
end HSD
