set_option maxRecDepth 100000
/-! the component: the code of a text -/
def sumS (c : TT) : Nat → Nat → Nat
  | 0, _ => 0
  | n + 1, k => (szT (prT c k).2 + 1) + sumS c n (k + 1)
/-- the whole code: the part, to its goal, the end -/
noncomputable def cgW (F : Int → FnR) (e : JE) (fl : Int) (a : PT) (z : R3) : List Ins := cg F e fl a 0 ++ (cgTn (rgN e a) z ++ [(9, encC z, 0)])
section CGW
variable {F : Int → FnR} {e : JE} {fl b cd p q k : Int} {T : MM → Prop} {Q : Int → MM → Prop} {m m' m1 : MM} {a : PT} {c : TT} {D dep : Nat}
theorem sumS_sh {z : Nat} {d : ND} {u : Unit} {c s : TT} : ∀ (n k : Nat), sumS (.inner z d u c s) n (k + 1) = sumS s n k := by
  intro n
  induction n with
  | zero => intro k; rfl
  | succ n ih =>
    intro k
    show (szT (prT s k).2 + 1) + sumS (.inner z d u c s) n (k + 1 + 1) = (szT (prT s k).2 + 1) + sumS s n (k + 1)
    rw [ih]
theorem sumS_sz : ∀ (t : TT), sumS t (lenT t) 0 = szT t := by
  intro t
  induction t with
  | leaf => rfl
  | inner z d u c s ihc ihs =>
    show (szT c + 1) + sumS (.inner z d u c s) (lenT s) (0 + 1) = szT c + szT s + 1
    rw [sumS_sh, ihs]; omega
theorem ht_sz : ∀ (t : TT), htT t ≤ szT t := by
  intro t
  induction t with
  | leaf => exact Nat.le_refl 0
  | inner z d u c s ihc ihs =>
    show max (htT c + 1) (htT s) ≤ szT c + szT s + 1
    omega
theorem cgN_lb {f : Nat → Int → List Ins} : ∀ (n k : Nat) (p : Int), (∀ i, k ≤ i → i < k + n → ∀ p, (f i p).length ≤ 4 * (szT (prT c i).2 + 1)) → (cgN f n k p).length ≤ 4 * sumS c n k := by
  intro n
  induction n with
  | zero => intro k p _; exact Nat.zero_le _
  | succ n ih =>
    intro k p h
    rw [cgN_len0, List.length_append]
    have h1 := h k (Nat.le_refl _) (by omega) p
    have h2 := ih (k + 1) (p + ((f k p).length : Int)) (fun i i0 i1 => h i (by omega) (by omega))
    show _ ≤ 4 * ((szT (prT c k).2 + 1) + sumS c n (k + 1))
    omega
theorem cgT_lb {z : R3} {i : Nat} (h : (cgC F e fl c i p).length + 1 ≤ 4 * (szT (prT c i).2 + 1)) : (cgT e c (cgC F e fl c) z i p).length ≤ 4 * (szT (prT c i).2 + 1) := by
  unfold cgT
  rw [List.length_append]
  have := cgTn_len (x := rgN e (prT c i)) (z := z)
  omega
/-- the length of a part's code -/
theorem cg_lb {n' : Int} (he : JEok e) (hF : (0 ≤ n' ∧ n' ≤ 21) ∧ e.2.2.2.1 = mtS F n' ∧ ∀ k, 0 ≤ k → k < n' → okF (F k)) (hk : 0 ≤ a.1.1 ∧ a.1.1 ≤ 25) (w : okN a.1 a.2) (wc : wfT a.2) (hx : rgS e a.1 a.2 ≠ none) (h : ∀ i, i < lenT a.2 → (0 ≤ (prT a.2 i).1.1 ∧ (prT a.2 i).1.1 ≤ 25) → rgS e (prT a.2 i).1 (prT a.2 i).2 ≠ none → ∀ p, (cgC F e fl a.2 i p).length + 1 ≤ 4 * (szT (prT a.2 i).2 + 1)) (p : Int) : (cg F e fl a p).length + 1 ≤ 4 * (szT a.2 + 1) := by
  have hx' : rgS e a.1 a.2 = some (rgN e a) := by
    cases hr : rgS e a.1 a.2 with
    | none => exact absurd hr hx
    | some y => unfold rgN; rw [hr]; rfl
  obtain ⟨rc, ⟨eX, xo, hA, hlr⟩, K3, K4, K5, K6, K7, K8, K9, K11, K22, K24, K25, K12⟩ := nd_kd (F := F) he hk w wc hx'
  have hs : ∀ i, i < lenT a.2 → (0 ≤ (prT a.2 i).1.1 ∧ (prT a.2 i).1.1 ≤ 25) → ∀ p, (cgC F e fl a.2 i p).length + 1 ≤ 4 * (szT (prT a.2 i).2 + 1) := fun i hi kd p => h i hi kd (by rw [(hlr i hi).1]; exact fun z => by cases z) p
  have sz := sumS_sz a.2
  have s1 : lenT a.2 = 1 → szT a.2 = szT (prT a.2 0).2 + 1 := fun l => by rw [← sz, l]; rfl
  have s2 : lenT a.2 = 2 → szT a.2 = (szT (prT a.2 0).2 + 1) + (szT (prT a.2 1).2 + 1) := fun l => by rw [← sz, l]; rfl
  have s3 : lenT a.2 = 3 → szT a.2 = (szT (prT a.2 0).2 + 1) + ((szT (prT a.2 1).2 + 1) + (szT (prT a.2 2).2 + 1)) := fun l => by rw [← sz, l]; rfl
  have go : (cgK e a.2 (cgC F e fl a.2) F fl a.1 (p + 1)).length + 2 ≤ 4 * (szT a.2 + 1) → (cg F e fl a p).length + 1 ≤ 4 * (szT a.2 + 1) := by
    intro g
    unfold cg
    rw [List.length_cons]; omega
  refine go ?_
  unfold cgK
  have one : ∀ {u : Ins}, ([u] : List Ins).length + 2 ≤ 4 * (szT a.2 + 1) := fun {u} => by rw [List.length_singleton]; omega
  by_cases c0 : a.1.1 = 0
  · rw [if_pos c0]; exact one
  rw [if_neg c0]
  by_cases c1 : a.1.1 = 1
  · rw [if_pos c1]; exact one
  rw [if_neg c1]
  by_cases c2 : a.1.1 = 2
  · rw [if_pos c2]; exact one
  rw [if_neg c2]
  by_cases c3 : a.1.1 = 3
  · rw [if_pos c3]; exact one
  rw [if_neg c3]
  by_cases c4 : a.1.1 = 4
  · rw [if_pos c4]; exact one
  rw [if_neg c4]
  by_cases c5 : a.1.1 = 5
  · rw [if_pos c5]
    obtain ⟨al, f, R, ecl, hcl⟩ := K5 c5
    unfold cgCall
    rw [ecl]
    rw [hF.2.1] at hcl
    have u3 := (mtS_ok hF.1.1 hF.2.2 (fun y hy => by
      obtain ⟨i, hi2⟩ := List.mem_iff_getElem?.1 hy
      have hil : i < lenT a.2 := by
        rw [← (rc_at hA).1]
        by_cases c : i < rc.length
        · exact c
        · rw [List.getElem?_eq_none (by omega)] at hi2; cases hi2
      rw [(hlr i hil).2.2] at hi2
      injection hi2 with hi2
      rw [← hi2]; exact (hlr i hil).2.1) hcl).2.2.1
    have en : (F f).2.1.toNat = lenT a.2 := by
      have := (rc_at hA).1
      omega
    simp only [en]
    rw [List.length_append, List.length_singleton]
    have := cgN_lb (c := a.2) (f := fun k => cgT e a.2 (cgC F e fl a.2) ((instS (F f) ((k : Int) + 1) R).getD (0, 0, 0)) k) (lenT a.2) 0 (p + 1) (fun i _ i1 p => cgT_lb (hs i (by omega) (prT_kd al (by omega)) p))
    omega
  rw [if_neg c5]
  by_cases c6 : a.1.1 = 6
  · rw [if_pos c6]
    obtain ⟨al, ho⟩ := K6 c6
    have nf := nd_fun hA ho
    unfold cgFun
    rw [List.length_append, List.length_append, List.length_singleton]
    have l0 : 0 < lenT a.2 := by omega
    have q1 : (cgF1 e a.2 (cgC F e fl a.2) a.1 (p + 1)).length ≤ 4 * (szT (prT a.2 0).2 + 1) := by
      unfold cgF1
      exact cgT_lb (hs 0 l0 (prT_kd al l0) _)
    rcases nf with w | w
    · have q2 : (cgF2 e a.2 (cgC F e fl a.2) a.1 (p + 1 + ((cgF1 e a.2 (cgC F e fl a.2) a.1 (p + 1)).length : Int))).length = 0 := by
        unfold cgF2
        rw [if_neg w.2.1]; rfl
      have := s1 w.1
      omega
    · have q2 : (cgF2 e a.2 (cgC F e fl a.2) a.1 (p + 1 + ((cgF1 e a.2 (cgC F e fl a.2) a.1 (p + 1)).length : Int))).length ≤ 4 * (szT (prT a.2 1).2 + 1) := by
        unfold cgF2
        rw [if_pos w.2.1]
        exact cgT_lb (hs 1 (by omega) (prT_kd al (by omega)) _)
      have := s2 w.1
      omega
  rw [if_neg c6]
  by_cases c7 : a.1.1 = 7
  · rw [if_pos c7]
    obtain ⟨al, -⟩ := K7 c7
    unfold cgMat
    rw [List.length_append, List.length_singleton]
    have := cgN_lb (c := a.2) (f := fun k => cgT e a.2 (cgC F e fl a.2) ((rgN e (a.1, a.2)).1, (rgN e (a.1, a.2)).2.1, 0) k) (lenT a.2) 0 (p + 1) (fun i _ i1 p => cgT_lb (hs i (by omega) (prT_kd al (by omega)) p))
    omega
  rw [if_neg c7]
  by_cases c8 : a.1.1 = 8
  · rw [if_pos c8]
    obtain ⟨al, l3, -⟩ := K8 c8
    unfold cgIf
    rw [List.length_append, List.length_cons, List.length_append, List.length_cons]
    have q0 := hs 0 (by omega) (prT_kd al (by omega)) (p + 1)
    have q1 := cgT_lb (z := rgN e (a.1, a.2)) (hs 1 (by omega) (prT_kd al (by omega)) (p + 1 + ((cgC F e fl a.2 0 (p + 1)).length : Int) + 1))
    have q2 := cgT_lb (z := rgN e (a.1, a.2)) (hs 2 (by omega) (prT_kd al (by omega)) (p + 1 + ((cgC F e fl a.2 0 (p + 1)).length : Int) + 1 + ((cgT e a.2 (cgC F e fl a.2) (rgN e (a.1, a.2)) 1 (p + 1 + ((cgC F e fl a.2 0 (p + 1)).length : Int) + 1)).length : Int) + 1))
    have := s3 l3
    omega
  rw [if_neg c8]
  have bool : ∀ op, (a.1.1 = 9 ∨ a.1.1 = 10) → (cgBool (cgC F e fl a.2) op (p + 1)).length + 2 ≤ 4 * (szT a.2 + 1) := by
    intro op hc
    obtain ⟨al, l2, -⟩ := K9 hc
    unfold cgBool
    rw [List.length_append, List.length_cons]
    have q0 := hs 0 (by omega) (prT_kd al (by omega)) (p + 1)
    have q1 := hs 1 (by omega) (prT_kd al (by omega)) (p + 1 + ((cgC F e fl a.2 0 (p + 1)).length : Int) + 1)
    have := s2 l2
    omega
  by_cases c9 : a.1.1 = 9
  · rw [if_pos c9]; exact bool _ (.inl c9)
  rw [if_neg c9]
  by_cases c10 : a.1.1 = 10
  · rw [if_pos c10]; exact bool _ (.inr c10)
  rw [if_neg c10]
  have on : ∀ u : Ins, (a.1.1 = 11 ∨ a.1.1 = 22 ∨ a.1.1 = 23) → (cgC F e fl a.2 0 (p + 1) ++ [u]).length + 2 ≤ 4 * (szT a.2 + 1) := by
    intro u hc
    rw [List.length_append, List.length_singleton]
    have l : allP a.2 ∧ lenT a.2 = 1 := by
      rcases hc with q | q | q
      · exact ⟨(K11 q).1, (K11 q).2.1⟩
      · exact ⟨(K22 (.inl q)).1, (K22 (.inl q)).2.1⟩
      · exact ⟨(K22 (.inr q)).1, (K22 (.inr q)).2.1⟩
    have q0 := hs 0 (by omega) (prT_kd l.1 (by omega)) (p + 1)
    have := s1 l.2
    omega
  by_cases c11 : a.1.1 = 11
  · rw [if_pos c11]; exact on _ (by omega)
  rw [if_neg c11]
  by_cases c22 : a.1.1 = 22
  · rw [if_pos c22]; exact on _ (by omega)
  rw [if_neg c22]
  by_cases c23 : a.1.1 = 23
  · rw [if_pos c23]; exact on _ (by omega)
  rw [if_neg c23]
  by_cases c24 : a.1.1 = 24
  · rw [if_pos c24]
    obtain ⟨l2, kd, -⟩ := K24 c24
    have := cgT_lb (z := rgN e (a.1, a.2)) (hs 0 (by omega) kd (p + 1))
    have := s2 l2
    omega
  rw [if_neg c24]
  by_cases c25 : a.1.1 = 25
  · rw [if_pos c25]
    obtain ⟨l2, kd, -⟩ := K25 c25
    rw [List.length_append, List.length_singleton]
    have := hs 0 (by omega) kd (p + 1)
    have := s2 l2
    omega
  rw [if_neg c25]
  obtain ⟨al, l2, -⟩ := K12 (by omega)
  unfold cgTwo
  rw [List.length_append, List.length_append, List.length_singleton]
  have q0 := cgT_lb (z := twJ e (a.1, a.2)) (hs 0 (by omega) (prT_kd al (by omega)) (p + 1))
  have q1 := cgT_lb (z := if a.1.1 = 19 then ((twJ e (a.1, a.2)).1, 0, 0) else twJ e (a.1, a.2)) (hs 1 (by omega) (prT_kd al (by omega)) (p + 1 + ((cgT e a.2 (cgC F e fl a.2) (twJ e (a.1, a.2)) 0 (p + 1)).length : Int)))
  have := s2 l2
  omega
theorem cgC_lb {n' : Int} (he : JEok e) (hF : (0 ≤ n' ∧ n' ≤ 21) ∧ e.2.2.2.1 = mtS F n' ∧ ∀ k, 0 ≤ k → k < n' → okF (F k)) : ∀ (t : TT), wfT t → ∀ i, i < lenT t → (0 ≤ (prT t i).1.1 ∧ (prT t i).1.1 ≤ 25) → rgS e (prT t i).1 (prT t i).2 ≠ none → ∀ p, (cgC F e fl t i p).length + 1 ≤ 4 * (szT (prT t i).2 + 1) := by
  intro t
  induction t with
  | leaf => intro _ i hi; exact absurd hi (Nat.not_lt_zero _)
  | inner z d u c s ihc ihs =>
    intro hw i hi hk hx p
    cases i with
    | zero => exact cg_lb (a := (d, c)) he hF hk hw.1 hw.2.1 hx (fun i hi hk hx => ihc hw.2.1 i hi hk hx) p
    | succ i => exact ihs hw.2.2 i (by have hi : i + 1 < lenT s + 1 := hi; omega) hk hx p
/-- only what is below a number changes nothing -/
theorem AnF.lw {m m' : MM} (f : ∀ c i, c < 365 → m' c i = m c i) (hb : isTx b) : ∀ {t : TT} {k : Int}, AnF m b e t k → AnF m' b e t k := by
  have tb := tx_b2 hb
  intro t
  induction t with
  | leaf => intro k h; exact h
  | inner z d u c s ihc ihs =>
    intro k h
    obtain ⟨⟨h1, h2, h3, h4⟩, h5⟩ := h
    refine ⟨⟨fun x hx => by rw [f _ _ (by omega)]; exact h1 x hx, fun q i x hx => by rw [f _ _ (by omega)]; exact h2 q i x hx, fun q rc g R z hr hz => by rw [f _ _ (by omega), f _ _ (by omega)]; exact h3 q rc g R z hr hz, fun q => by rw [f _ _ (by omega)]; exact ihc (h4 q)⟩, by rw [f _ _ (by omega)]; exact ihs h5⟩
theorem AnN.lw {d : ND} (h : AnN m b e d c k) (f : ∀ c i, c < 365 → m' c i = m c i) (hb : isTx b) : AnN m' b e d c k := by
  have tb := tx_b2 hb
  obtain ⟨h1, h2, h3, h4⟩ := h
  exact ⟨fun x hx => by rw [f _ _ (by omega)]; exact h1 x hx, fun q i x hx => by rw [f _ _ (by omega)]; exact h2 q i x hx, fun q rc g R z hr hz => by rw [f _ _ (by omega), f _ _ (by omega)]; exact h3 q rc g R z hr hz, fun q => by rw [f _ _ (by omega)]; exact AnF.lw f hb (h4 q)⟩
theorem TN.lw {d : ND} {lo hi : Int} (h : TN m b d c lo hi k) (f : ∀ c i, c < 365 → m' c i = m c i) (hb : isTx b) : TN m' b d c lo hi k := by
  have tb := tx_b2 hb
  exact h.frr (fun c i z _ _ _ => f _ _ (by omega))
theorem BKh.lw {n : Int} (h : BKh m F n) (f : ∀ c i, c < 365 → m' c i = m c i) : BKh m' F n := h.fr (fun c i ⟨b, hb, z⟩ => f _ _ (by have := tx_b2 hb; omega))
theorem CgE.lw (h : CgE m F e fl b) (f : ∀ c i, c < 365 → m' c i = m c i) (hb : isTx b) : CgE m' F e fl b := by
  have tb := tx_b2 hb
  obtain ⟨h1, ⟨h2, h3⟩, n', h4, h5, h6⟩ := h
  exact ⟨h1, ⟨by rw [f _ _ (by omega)]; exact h2, h3⟩, n', h4, h5, h6.lw f⟩
/-- the code of a text is written -/
theorem c_writeG {z : R3} {lo hi : Int} (hb : isTx b) (hc : isCd cd) (hE : CgE m F e fl b) (hT : TN m b a.1 a.2 lo hi (m b 2)) (hA : AnN m b e a.1 a.2 (m b 2)) (hk : 0 ≤ a.1.1 ∧ a.1.1 ≤ 25) (w : okN a.1 a.2) (wc : wfT a.2) (hs : szT a.2 ≤ 150) (hx : rgS e a.1 a.2 ≠ none) (hz : ok3 z) (kq : ∀ m', CoA m' cd 0 (cgW F e fl a z) → m' cd 3 = ((cgW F e fl a z).length : Int) → (∀ c i, ¬ (c = 377 ∧ (0 ≤ i ∧ i ≤ 2)) → ¬ (cd + 1 ≤ c ∧ c ≤ cd + 3 ∧ 0 ≤ i) → ¬ (c = cd ∧ i = 3) → m' c i = m c i) → Q 0 m') : P_X7_write b cd (encC z) m Q := by
  have tb := tx_b2 hb
  have cb := cd_b hc
  have hx' : rgS e a.1 a.2 = some (rgN e a) := by
    cases hr : rgS e a.1 a.2 with
    | none => exact absurd hr hx
    | some y => unfold rgN; rw [hr]; rfl
  have xo : ok3 (rgN e a) := rgS_ok hE.1 w wc hx'
  obtain ⟨n', n1, n2, BK⟩ := hE.2.2
  have lb := cg_lb (F := F) (fl := fl) hE.1 ⟨n1, n2, fun k k0 k1 => (BK.2 k k0 k1).1⟩ hk w wc hx (cgC_lb hE.1 ⟨n1, n2, fun k k0 k1 => (BK.2 k k0 k1).1⟩ a.2 wc) 0
  intro m1 e1 m2 e2 m3 e3
  have f31 : m3 377 1 = cd := by rw [e3, up_at]
  rw [f31]
  refine ⟨hc, ?_⟩
  intro m4 e4
  have fr : ∀ c i, ¬ (c = 377 ∧ (0 ≤ i ∧ i ≤ 2)) → ¬ (c = cd ∧ i = 3) → m4 c i = m c i := fun c i z z' => by rw [e4, up_ne (by omega), e3, up_ne (by omega), e2, up_ne (by omega), e1, up_ne (by omega)]
  have lw : ∀ c i, c < 365 → m4 c i = m c i := fun c i h => fr c i (by omega) (by omega)
  have f0 : m4 377 0 = b := by rw [e4, up_ne (by omega), e3, up_ne (by omega), e2, up_at]
  have S4 : CoS m4 b cd 0 := ⟨hb, hc, f0, by rw [e4, up_ne (by omega)]; exact f31, by rw [e4, up_ne (by omega), e3, up_ne (by omega), e2, up_ne (by omega), e1, up_at], by rw [e4, up_at], Int.le_refl _⟩
  rw [f0]
  have er : m4 b 2 = m b 2 := lw _ _ (by omega)
  rw [er]
  refine ⟨hb, ?_⟩
  have rg := hT.rng
  have nod := c_nodeG (F := F) (e := e) (fl := fl) (b := b) (cd := cd) (T := fun _ => False) (a := a) (D := 3 * htT a.2) hk w wc (fun i hi kd dep hd => c_allG a.2 wc i hi kd dep hd) 500 (by have := ht_sz a.2; omega)
  refine nod (m b 2) lo hi m4 0 _ S4 (hE.lw lw hb) (hT.lw lw hb) (hA.lw lw hb) hx (by omega) (fun m5 S5 F5 C5 => ?_)
  have er5 : m5 b 2 = m b 2 := by rw [F5.lo hc (by omega)]; exact er
  rw [S5.2.2.1, er5]
  refine ⟨hb, by omega, ?_⟩
  have e6 : m5 (b + 6) (m b 2) = encC (rgN e a) := by rw [F5.lo hc (by omega), lw _ _ (by omega)]; exact hA.1 _ hx'
  rw [e6]
  refine c_turnI xo hz S5 (by omega) (fun m6 S6 F6 C6 => ?_)
  have tl := cgTn_len (x := rgN e a) (z := z)
  rw [S6.2.2.2.1]
  refine ⟨hc, c_insC S6 (by omega) (fun m7 S7 F7 C7 => ?_)⟩
  have FF := (F5.trans F6 (by omega)).trans F7 (by omega)
  refine kq m7 ?_ ?_ (fun c i z1 z2 z3 => ?_)
  · unfold cgW
    exact CoA.app.2 ⟨(C5.keep F6 (Int.le_refl _)).keep F7 (by omega), CoA.app.2 ⟨C6.keep F7 (Int.le_refl _), C7⟩⟩
  · rw [S7.2.2.2.2.2.1]
    unfold cgW
    rw [List.length_append, List.length_append, List.length_singleton]; omega
  · rw [FF c i (by omega) z3, fr c i z1 z3]
end CGW
