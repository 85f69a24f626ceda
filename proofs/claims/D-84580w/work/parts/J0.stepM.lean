set_option maxRecDepth 100000
/-! the model's parser: where it stands, single steps -/
/-- a token as it should be -/
def TkW (t : TK) : Prop := (0 ≤ t.1 ∧ t.1 ≤ 6) ∧ (t.1 = 1 → 0 ≤ t.2.1 ∧ t.2.1 ≤ 999999999) ∧ (t.1 = 3 → (0 ≤ t.2.1 ∧ t.2.1 ≤ 20) ∧ t.2.2.1 = kyn t.2.1) ∧ (t.1 = 4 → (0 ≤ t.2.1 ∧ t.2.1 ≤ 13) ∧ t.2.2.1 = bfn t.2.1) ∧ (t.1 = 5 → 0 ≤ t.2.1 ∧ t.2.1 ≤ 131) ∧ (t.1 = 2 → RL t.2.2.1) ∧ (0 ≤ t.2.2.2 ∧ t.2.2.2 ≤ 400)
def TKq (m : MM) (tk : Int → TK) (N : Int) : Prop := (1 ≤ N ∧ N ≤ 401 ∧ m 582 11 = -1) ∧ ∀ i, 0 ≤ i → i < N → TKm m i (tk i) ∧ m 588 i = (tk i).2.2.2 ∧ TkW (tk i)
/-- the parser stands at a token, with so many things open, so many nodes made -/
def PM (m : MM) (tk : Int → TK) (N p o k : Int) : Prop := (TKq m tk N ∧ (∀ i, 0 ≤ i → i < N - 1 → 1 ≤ (tk i).1 ∧ (tk i).1 ≤ 5) ∧ ((tk (N - 1)).1 = 0 ∨ (tk (N - 1)).1 = 6)) ∧ (m 582 9 = p ∧ 0 ≤ p ∧ p < N ∧ p ≤ 150) ∧ m 582 10 = 0 ∧ (m 582 12 = o ∧ 0 ≤ o ∧ o ≤ 12) ∧ (m 582 15 = k ∧ 0 ≤ k)
/-- a fault was met -/
def PF (m : MM) (e : Int × Int) (q o k : Int) : Prop := (m 582 9 = q ∧ 0 ≤ q ∧ q ≤ 150) ∧ (m 582 10 = e.1 ∧ 0 < e.1 ∧ e.1 ≤ 2) ∧ m 582 11 = e.2 ∧ (m 582 12 = o ∧ 0 ≤ o ∧ o ≤ 13) ∧ (m 582 15 = k ∧ 0 ≤ k)
/-- only what the parser writes changes: nodes from one on -/
def FwM (k : Int) (m m' : MM) : Prop := ∀ c i, ¬ (c = 582 ∧ (9 ≤ i ∧ i ≤ 12 ∨ i = 15)) → ¬ (590 ≤ c ∧ c ≤ 605 ∧ k ≤ i) → m' c i = m c i
theorem FwM.refl {k : Int} {m : MM} : FwM k m m := fun _ _ _ _ => rfl
theorem FwM.trans {k k' : Int} {m m1 m2 : MM} (h : FwM k m m1) (g : FwM k' m1 m2) (hk : k ≤ k') : FwM k m m2 := fun c i z z' => (g c i z (fun y => z' ⟨y.1, y.2.1, by omega⟩)).trans (h c i z z')
theorem FwM.f582 {k : Int} {m0 m m' : MM} (h : FwM k m0 m) (g : ∀ c i, ¬ (c = 582 ∧ (9 ≤ i ∧ i ≤ 12 ∨ i = 15)) → m' c i = m c i) : FwM k m0 m' := fun c i z z' => (g c i z).trans (h c i z z')
theorem FwM.nd {k : Int} {m0 m : MM} {c i v : Int} (h : FwM k m0 m) (hc : 590 ≤ c ∧ c ≤ 605) (hi : k ≤ i) : FwM k m0 (up m c i v) := fun c' i' z z' => (up_ne (fun y => z' (by omega))).trans (h c' i' z z')
def sMi (w : Int) : Int := if w = 14909 then 128 else if w = 15677 then 129 else if w = 14906 then 130 else if w = 15421 then 131 else w
theorem sMi_sM {v : Int} (h : 0 ≤ v ∧ v ≤ 131) : sMi (sM v) = v := by
  unfold sM
  by_cases a : v = 128
  · rw [if_pos a, a]; decide
  rw [if_neg a]
  by_cases a : v = 129
  · rw [if_pos a, a]; decide
  rw [if_neg a]
  by_cases a : v = 130
  · rw [if_pos a, a]; decide
  rw [if_neg a]
  by_cases a : v = 131
  · rw [if_pos a, a]; decide
  rw [if_neg a]
  unfold sMi
  rw [if_neg (by omega), if_neg (by omega), if_neg (by omega), if_neg (by omega)]
theorem sM_inj {v c : Int} (h : 0 ≤ v ∧ v ≤ 131) (g : 0 ≤ c ∧ c ≤ 131) (e : sM v = sM c) : v = c := by rw [← sMi_sM h, e, sMi_sM g]
theorem sM_rl {v : Int} (h : 0 ≤ v ∧ v ≤ 131) : RL (sM v) := by
  unfold sM
  split
  · decide
  split
  · decide
  split
  · decide
  split
  · decide
  constructor <;> omega
theorem kyn_inj' : ∀ a b : Fin 21, kyn (a.val : Int) = kyn (b.val : Int) → a = b := by decide +kernel
theorem kyn_inj {v c : Int} (h : 0 ≤ v ∧ v ≤ 20) (g : 0 ≤ c ∧ c ≤ 20) (e : kyn v = kyn c) : v = c := by
  have w := kyn_inj' ⟨v.toNat, by omega⟩ ⟨c.toNat, by omega⟩ (by
    show kyn ((v.toNat : Nat) : Int) = kyn ((c.toNat : Nat) : Int)
    rw [Int.toNat_of_nonneg h.1, Int.toNat_of_nonneg g.1]; exact e)
  have w' : v.toNat = c.toNat := congrArg Fin.val w
  omega
section STEPM
variable {Q : Int → MM → Prop} {m m' : MM} {tk : Int → TK} {N p o k c x : Int} {e : Int × Int} {q : Int}
theorem kT_5 {k : Int} (h : 0 ≤ k ∧ k ≤ 6) : (kT k = 5 ↔ k = 5) ∧ (kT k = 2 ↔ k = 3) ∧ (kT k = 4 ↔ k = 1) ∧ (kT k = 1 ↔ k = 2) ∧ (kT k = 3 ↔ k = 4) ∧ (kT k = 0 ↔ k = 0) ∧ RI (kT k) := by
  unfold kT
  split
  · refine ⟨?_, ?_, ?_, ?_, ?_, ?_, by decide⟩ <;> omega
  split
  · refine ⟨?_, ?_, ?_, ?_, ?_, ?_, by decide⟩ <;> omega
  split
  · refine ⟨?_, ?_, ?_, ?_, ?_, ?_, by decide⟩ <;> omega
  split
  · refine ⟨?_, ?_, ?_, ?_, ?_, ?_, by decide⟩ <;> omega
  refine ⟨?_, ?_, ?_, ?_, ?_, ?_, ?_⟩
  · omega
  · omega
  · omega
  · omega
  · omega
  · omega
  · constructor <;> omega
theorem PM.at (h : PM m tk N p o k) : 0 ≤ p ∧ p < 420 ∧ p ≤ 150 := by have := h.2.1; omega
theorem PM.tok (h : PM m tk N p o k) : TKm m p (tk p) ∧ m 588 p = plS tk p ∧ TkW (tk p) := h.1.1.2 p h.2.1.2.1 h.2.1.2.2.1
theorem PM.fr {p' o' k' : Int} (h : PM m tk N p o k) (f : ∀ c i, c = 587 ∨ c = 588 ∨ c = 589 ∨ (c = 582 ∧ i = 11) → m' c i = m c i) (hp : m' 582 9 = p' ∧ 0 ≤ p' ∧ p' < N ∧ p' ≤ 150) (h10 : m' 582 10 = 0) (ho : m' 582 12 = o' ∧ 0 ≤ o' ∧ o' ≤ 12) (hk : m' 582 15 = k' ∧ 0 ≤ k') : PM m' tk N p' o' k' := by
  obtain ⟨⟨⟨hN, ht⟩, h2, h3⟩, -, -, -, -⟩ := h
  refine ⟨⟨⟨⟨hN.1, hN.2.1, by rw [f _ _ (by omega)]; exact hN.2.2⟩, fun i i0 i1 => ?_⟩, h2, h3⟩, hp, h10, ho, hk⟩
  obtain ⟨⟨a1, a2, a3, a4⟩, a5, a6⟩ := ht i i0 i1
  exact ⟨⟨by rw [f _ _ (by omega)]; exact a1, fun z => by rw [f _ _ (by omega)]; exact a2 z, fun z => by rw [f _ _ (by omega)]; exact a3 z, fun z => by rw [f _ _ (by omega)]; exact a4 z⟩, by rw [f _ _ (by omega)]; exact a5, a6⟩
theorem c_isSignM (hx : x = sM c) (hc : 0 ≤ c ∧ c ≤ 131) (rx : RI x) (h : PM m tk N p o k) (h1 : isSg tk c p → Q 1 m) (h0 : ¬ isSg tk c p → Q 0 m) : P_X10_isSign x m Q := by
  have a := h.at
  obtain ⟨⟨t1, t2, t3, t4⟩, t5, w⟩ := h.tok
  have kt := kT_5 w.1
  unfold P_X10_isSign
  rw [h.2.2.1, h.2.1.1, t1]
  refine ⟨by decide, ?_⟩
  rw [if_pos rfl]
  refine ⟨by omega, kt.2.2.2.2.2.2, ?_⟩
  by_cases y : kT (tk p).1 = 5
  · rw [if_pos y]
    have y5 := kt.1.1 y
    rw [t4 y5, hx]
    have v5 := w.2.2.2.2.1 y5
    refine ⟨by rw [← hx]; exact rx, sM_rl v5, sM_rl hc, ?_⟩
    by_cases z : sM (tk p).2.1 = sM c
    · rw [if_pos z]; exact h1 ⟨y5, sM_inj v5 hc z⟩
    · rw [if_neg z]; exact h0 (fun u => z (by rw [show (tk p).2.1 = c from u.2]))
  · rw [if_neg y]; exact h0 (fun u => y (kt.1.2 u.1))
theorem c_isKeyM (hx : x = kyn c) (hc : 0 ≤ c ∧ c ≤ 20) (h : PM m tk N p o k) (h1 : isKy tk c p → Q 1 m) (h0 : ¬ isKy tk c p → Q 0 m) : P_X10_isKey x m Q := by
  have a := h.at
  obtain ⟨⟨t1, t2, t3, t4⟩, t5, w⟩ := h.tok
  have kt := kT_5 w.1
  unfold P_X10_isKey
  rw [h.2.2.1, h.2.1.1, t1]
  refine ⟨by decide, ?_⟩
  rw [if_pos rfl]
  refine ⟨by omega, kt.2.2.2.2.2.2, ?_⟩
  by_cases y : kT (tk p).1 = 2
  · rw [if_pos y]
    have y5 := kt.2.1.1 y
    have v5 := w.2.2.1 y5
    rw [t3 (by omega), v5.2, hx]
    refine ⟨kyn_rl, kyn_rl, ?_⟩
    by_cases z : kyn (tk p).2.1 = kyn c
    · rw [if_pos z]; exact h1 ⟨y5, kyn_inj v5.1 hc z⟩
    · rw [if_neg z]; exact h0 (fun u => z (by rw [show (tk p).2.1 = c from u.2]))
  · rw [if_neg y]; exact h0 (fun u => y (kt.2.1.2 u.1))
/-- a fault here -/
theorem c_failM (h : PM m tk N p o k) (hx : 0 < x ∧ x ≤ 2) (h0 : ∀ m', PF m' (x, plS tk p) p o k → (∀ c i, ¬ (c = 582 ∧ (i = 10 ∨ i = 11)) → m' c i = m c i) → Q 0 m') : P_X10_fail x m Q := by
  have a := h.at
  have t := h.tok
  unfold P_X10_fail
  rw [h.2.2.1]
  refine ⟨by decide, ?_⟩
  rw [if_pos (by decide)]
  rintro m1 rfl
  have e9 : up m 582 10 x 582 9 = p := by rw [up_ne (by omega)]; exact h.2.1.1
  rw [e9]
  refine ⟨by omega, ?_⟩
  rintro m2 rfl
  have e8 : up m 582 10 x 588 p = plS tk p := by rw [up_ne (by omega)]; exact t.2.1
  rw [e8]
  refine h0 _ ⟨⟨?_, by omega, by omega⟩, ⟨?_, hx⟩, up_at .., ⟨?_, by have := h.2.2.2.1.2; omega⟩, ⟨?_, h.2.2.2.2.2⟩⟩ (fun c i z => by rw [up_ne (by omega), up_ne (by omega)])
  · rw [up_ne (by omega)]; exact e9
  · rw [up_ne (by omega), up_at]
  · rw [up_ne (by omega), up_ne (by omega)]; exact h.2.2.2.1.1
  · rw [up_ne (by omega), up_ne (by omega)]; exact h.2.2.2.2.1
theorem PM.nx (h : PM m tk N p o k) (hk : 1 ≤ (tk p).1 ∧ (tk p).1 ≤ 5) : p + 1 < N := by
  obtain ⟨⟨-, h2, h3⟩, h4, -⟩ := h
  have : p ≠ N - 1 := fun z => by rw [← z] at h3; omega
  omega
theorem c_acceptM (h : PM m tk N p o k) (hk : 1 ≤ (tk p).1 ∧ (tk p).1 ≤ 5) (h1 : ∀ m', goS tk p = .ok (p + 1) → PM m' tk N (p + 1) o k → (∀ c i, ¬ (c = 582 ∧ i = 9) → m' c i = m c i) → Q 0 m') (h0 : ∀ e m', goS tk p = .error e → PF m' e p o k → (∀ c i, ¬ (c = 582 ∧ (i = 10 ∨ i = 11)) → m' c i = m c i) → Q 0 m') : P_X10_accept m Q := by
  have a := h.at
  have nx := h.nx hk
  unfold P_X10_accept
  rw [h.2.1.1]
  refine ⟨by constructor <;> omega, ?_⟩
  by_cases y : p = 150
  · rw [if_pos y]
    have g : goS tk p = .error (2, plS tk p) := by unfold goS; rw [if_pos (by omega)]
    refine c_failM h (by decide) (fun m1 P1 f1 => ?_)
    refine ⟨by rw [P1.2.1.1]; show RI (2 : Int); decide, ?_⟩
    rw [if_neg (by rw [P1.2.1.1]; show ¬ (2 : Int) = 0; decide)]
    exact h0 _ m1 g P1 f1
  · rw [if_neg y]
    have g : goS tk p = .ok (p + 1) := by unfold goS; rw [if_neg (by omega)]
    refine ⟨by rw [h.2.2.1]; decide, ?_⟩
    rw [if_pos h.2.2.1, h.2.1.1]
    rintro m1 rfl
    refine h1 _ g (h.fr (fun c i z => up_ne (by omega)) ⟨up_at .., by omega, nx, by omega⟩ ?_ ⟨?_, h.2.2.2.1.2⟩ ⟨?_, h.2.2.2.2.2⟩) (fun c i z => up_ne z)
    · rw [up_ne (by omega)]; exact h.2.2.1
    · rw [up_ne (by omega)]; exact h.2.2.2.1.1
    · rw [up_ne (by omega)]; exact h.2.2.2.2.1
abbrev F911 (m m' : MM) : Prop := ∀ c i, ¬ (c = 582 ∧ (9 ≤ i ∧ i ≤ 11)) → m' c i = m c i
abbrev F912 (m m' : MM) : Prop := ∀ c i, ¬ (c = 582 ∧ (9 ≤ i ∧ i ≤ 12)) → m' c i = m c i
/-- a sign that may be there -/
theorem c_takesSignM (hx : x = sM c) (hc : 0 ≤ c ∧ c ≤ 131) (rx : RI x) (h : PM m tk N p o k) (h1 : ∀ m', isSg tk c p → goS tk p = .ok (p + 1) → PM m' tk N (p + 1) o k → F911 m m' → Q 1 m') (h0 : ¬ isSg tk c p → Q 0 m) (he : ∀ e m', isSg tk c p → goS tk p = .error e → PF m' e p o k → F911 m m' → Q 1 m') : P_X10_takesSign x m Q := by
  refine c_isSignM hx hc rx h (fun y => ⟨by decide, ?_⟩) (fun y => ⟨by decide, ?_⟩)
  · rw [if_neg (by decide)]
    exact c_acceptM h (sg_kd y) (fun m' g P f => h1 m' y g P (fun c i z => f c i (by omega))) (fun e m' g P f => he e m' y g P (fun c i z => f c i (by omega)))
  · rw [if_pos rfl]; exact h0 y
theorem c_takesKeyM (hx : x = kyn c) (hc : 0 ≤ c ∧ c ≤ 20) (h : PM m tk N p o k) (h1 : ∀ m', isKy tk c p → goS tk p = .ok (p + 1) → PM m' tk N (p + 1) o k → F911 m m' → Q 1 m') (h0 : ¬ isKy tk c p → Q 0 m) (he : ∀ e m', isKy tk c p → goS tk p = .error e → PF m' e p o k → F911 m m' → Q 1 m') : P_X10_takesKey x m Q := by
  refine c_isKeyM hx hc h (fun y => ⟨by decide, ?_⟩) (fun y => ⟨by decide, ?_⟩)
  · rw [if_neg (by decide)]
    exact c_acceptM h (ky_kd y) (fun m' g P f => h1 m' y g P (fun c i z => f c i (by omega))) (fun e m' g P f => he e m' y g P (fun c i z => f c i (by omega)))
  · rw [if_pos rfl]; exact h0 y
theorem c_signM (hx : x = sM c) (hc : 0 ≤ c ∧ c ≤ 131) (rx : RI x) (h : PM m tk N p o k) (h1 : ∀ m', ndS tk c p = .ok (p + 1) → PM m' tk N (p + 1) o k → F911 m m' → Q 0 m') (h0 : ∀ e m', ndS tk c p = .error e → PF m' e p o k → F911 m m' → Q 0 m') : P_X10_sign x m Q := by
  unfold ndS at h1 h0
  refine c_isSignM hx hc rx h (fun y => ⟨by decide, ?_⟩) (fun y => ⟨by decide, ?_⟩)
  · rw [if_neg (by decide)]
    rw [if_pos y] at h1 h0
    exact c_acceptM h (sg_kd y) (fun m' g P f => h1 m' g P (fun c i z => f c i (by omega))) (fun e m' g P f => h0 e m' g P (fun c i z => f c i (by omega)))
  · rw [if_pos rfl]
    rw [if_neg y] at h0
    exact c_failM h (by decide) (fun m' P f => h0 _ m' rfl P (fun c i z => f c i (by omega)))
theorem c_keyM (hx : x = kyn c) (hc : 0 ≤ c ∧ c ≤ 20) (h : PM m tk N p o k) (h1 : ∀ m', nkS tk c p = .ok (p + 1) → PM m' tk N (p + 1) o k → F911 m m' → Q 0 m') (h0 : ∀ e m', nkS tk c p = .error e → PF m' e p o k → F911 m m' → Q 0 m') : P_X10_key x m Q := by
  unfold nkS at h1 h0
  refine c_isKeyM hx hc h (fun y => ⟨by decide, ?_⟩) (fun y => ⟨by decide, ?_⟩)
  · rw [if_neg (by decide)]
    rw [if_pos y] at h1 h0
    exact c_acceptM h (ky_kd y) (fun m' g P f => h1 m' g P (fun c i z => f c i (by omega))) (fun e m' g P f => h0 e m' g P (fun c i z => f c i (by omega)))
  · rw [if_pos rfl]
    rw [if_neg y] at h0
    exact c_failM h (by decide) (fun m' P f => h0 _ m' rfl P (fun c i z => f c i (by omega)))
/-- a token of a kind, then the next -/
def kgS (tk : Int → TK) (kd p : Int) : Except (Int × Int) Int := kdE tk kd p >>= fun _ => goS tk p
theorem c_needM {kd : Int} (hx : x = kT kd) (hkd : kd = 1 ∨ kd = 2) (h : PM m tk N p o k) (h1 : ∀ m', kgS tk kd p = .ok (p + 1) → PM m' tk N (p + 1) o k → F911 m m' → Q p m') (h0 : ∀ e m', kgS tk kd p = .error e → PF m' e p o k → F911 m m' → Q p m') : P_X10_need x m Q := by
  unfold kgS kdE at h1 h0
  have a := h.at
  obtain ⟨⟨t1, t2, t3, t4⟩, t5, w⟩ := h.tok
  have kt := kT_5 w.1
  unfold P_X10_need
  rw [h.2.2.1, h.2.1.1, t1]
  refine ⟨by decide, ?_⟩
  rw [if_pos (by decide)]
  refine ⟨by omega, kt.2.2.2.2.2.2, by rw [hx]; rcases hkd with rfl | rfl <;> decide, ?_⟩
  have ee : kT (tk p).1 = x ↔ kdS tk p = kd := by
    rw [hx]
    rcases hkd with rfl | rfl
    · exact kt.2.2.1
    · exact kt.2.2.2.1
  by_cases y : kT (tk p).1 = x
  · rw [if_pos y]
    have y1 := ee.1 y
    rw [if_pos y1] at h1 h0
    exact c_acceptM h (by have z : (tk p).1 = kd := y1; omega) (fun m' g P f => h1 m' g P (fun c i z => f c i (by omega))) (fun e m' g P f => h0 e m' g P (fun c i z => f c i (by omega)))
  · rw [if_neg y]
    rw [if_neg (fun z => y (ee.2 z))] at h0
    exact c_failM h (by decide) (fun m' P f => h0 _ m' rfl P (fun c i z => f c i (by omega)))
/-- the token that was passed opens something -/
theorem c_opensM (h : PM m tk N (p + 1) o k) (p0 : 0 ≤ p) (h1 : ∀ m', o ≠ 12 → PM m' tk N (p + 1) (o + 1) k → F912 m m' → Q 0 m') (h0 : ∀ m', o = 12 → PF m' (2, plS tk p) (p + 1) (o + 1) k → F912 m m' → Q 0 m') : P_X10_opens p m Q := by
  have a := h.at
  have ob := h.2.2.2.1
  have t : m 588 p = plS tk p := (h.1.1.2 p p0 (by have := h.2.1; omega)).2.1
  unfold P_X10_opens
  rw [ob.1]
  rintro m1 rfl
  rw [up_at]
  refine ⟨by constructor <;> omega, ?_⟩
  by_cases y : o = 12
  · rw [if_neg (by omega), up_ne (by omega), h.2.2.1]
    refine ⟨by decide, ?_⟩
    rw [if_pos rfl]
    rintro m2 rfl
    refine ⟨by omega, ?_⟩
    have e8 : up (up m 582 12 (o + 1)) 582 10 2 588 p = plS tk p := by rw [up_ne (by omega), up_ne (by omega)]; exact t
    rw [e8]
    rintro m3 rfl
    refine h0 _ y ⟨⟨?_, by omega, by omega⟩, ⟨?_, by show (0 : Int) < 2 ∧ (2 : Int) ≤ 2; decide⟩, up_at .., ⟨?_, by omega⟩, ⟨?_, h.2.2.2.2.2⟩⟩ (fun c i z => by rw [up_ne (by omega), up_ne (by omega), up_ne (by omega)])
    · rw [up_ne (by omega), up_ne (by omega), up_ne (by omega)]; exact h.2.1.1
    · rw [up_ne (by omega), up_at]
    · rw [up_ne (by omega), up_ne (by omega), up_at]
    · rw [up_ne (by omega), up_ne (by omega), up_ne (by omega)]; exact h.2.2.2.2.1
  · rw [if_pos (by omega)]
    refine h1 _ y (h.fr (fun c i z => up_ne (by omega)) ⟨?_, h.2.1.2⟩ ?_ ⟨up_at .., by omega, by omega⟩ ⟨?_, h.2.2.2.2.2⟩) (fun c i z => up_ne (by omega))
    · rw [up_ne (by omega)]; exact h.2.1.1
    · rw [up_ne (by omega)]; exact h.2.2.1
    · rw [up_ne (by omega)]; exact h.2.2.2.2.1
/-! with a fault nothing is taken -/
theorem f_isSign (h : PF m e q o k) (h0 : Q 0 m) : P_X10_isSign x m Q := by
  have a := h.2.1
  unfold P_X10_isSign
  rw [a.1]
  refine ⟨by constructor <;> omega, ?_⟩
  rw [if_neg (by omega)]; exact h0
theorem f_isKey (h : PF m e q o k) (h0 : Q 0 m) : P_X10_isKey x m Q := by
  have a := h.2.1
  unfold P_X10_isKey
  rw [a.1]
  refine ⟨by constructor <;> omega, ?_⟩
  rw [if_neg (by omega)]; exact h0
theorem f_takesSign (h : PF m e q o k) (h0 : Q 0 m) : P_X10_takesSign x m Q := f_isSign h ⟨by decide, by rw [if_pos rfl]; exact h0⟩
theorem f_takesKey (h : PF m e q o k) (h0 : Q 0 m) : P_X10_takesKey x m Q := f_isKey h ⟨by decide, by rw [if_pos rfl]; exact h0⟩
theorem f_fail (h : PF m e q o k) (h0 : Q 0 m) : P_X10_fail x m Q := by
  have a := h.2.1
  unfold P_X10_fail
  rw [a.1]
  refine ⟨by constructor <;> omega, ?_⟩
  rw [if_neg (by omega)]; exact h0
theorem f_accept (h : PF m e q o k) (h0 : Q 0 m) : P_X10_accept m Q := by
  have a := h.2.1
  have b := h.1
  have w : P_X10_accept_15 Q m := by
    unfold P_X10_accept_15
    rw [a.1]
    refine ⟨by constructor <;> omega, ?_⟩
    rw [if_neg (by omega)]; exact h0
  unfold P_X10_accept
  rw [b.1]
  refine ⟨by constructor <;> omega, ?_⟩
  by_cases y : q = 150
  · rw [if_pos y]; exact f_fail h w
  · rw [if_neg y]; exact w
theorem f_sign (h : PF m e q o k) (h0 : Q 0 m) : P_X10_sign x m Q := f_isSign h ⟨by decide, by rw [if_pos rfl]; exact f_fail h h0⟩
theorem f_key (h : PF m e q o k) (h0 : Q 0 m) : P_X10_key x m Q := f_isKey h ⟨by decide, by rw [if_pos rfl]; exact f_fail h h0⟩
theorem f_need (h : PF m e q o k) (h0 : Q q m) : P_X10_need x m Q := by
  have a := h.2.1
  have b := h.1
  unfold P_X10_need
  rw [a.1, b.1]
  refine ⟨by constructor <;> omega, ?_⟩
  rw [if_neg (by omega)]; exact h0
theorem f_opens (h : PF m e q o k) (ho : o ≤ 12) (h0 : ∀ m', PF m' e q (o + 1) k → F912 m m' → Q 0 m') : P_X10_opens x m Q := by
  obtain ⟨h1, h2, h3, h4, h5⟩ := h
  have w := h0 (up m 582 12 (o + 1)) ⟨⟨by rw [up_ne (by omega)]; exact h1.1, h1.2⟩, ⟨by rw [up_ne (by omega)]; exact h2.1, h2.2⟩, by rw [up_ne (by omega)]; exact h3, ⟨up_at .., by omega, by omega⟩, ⟨by rw [up_ne (by omega)]; exact h5.1, h5.2⟩⟩ (fun c i z => up_ne (by omega))
  unfold P_X10_opens
  rw [h4.1]
  rintro m1 rfl
  rw [up_at]
  refine ⟨by constructor <;> omega, ?_⟩
  by_cases y : o + 1 ≤ 12
  · rw [if_pos y]; exact w
  · rw [if_neg y, up_ne (by omega), h2.1]
    refine ⟨by constructor <;> omega, ?_⟩
    rw [if_neg (by omega)]; exact w
theorem PF.cl {m2 : MM} (h : PF m e q (o + 1) k) (o0 : 0 ≤ o) (e2 : m2 = up m 582 12 (m 582 12 - 1)) : PF m2 e q o k ∧ F912 m m2 := by
  obtain ⟨h1, h2, h3, h4, h5⟩ := h
  subst e2
  refine ⟨⟨⟨by rw [up_ne (by omega)]; exact h1.1, h1.2⟩, ⟨by rw [up_ne (by omega)]; exact h2.1, h2.2⟩, by rw [up_ne (by omega)]; exact h3, ⟨?_, by omega, by omega⟩, ⟨by rw [up_ne (by omega)]; exact h5.1, h5.2⟩⟩, fun c i z => up_ne (by omega)⟩
  rw [up_at, h4.1]; omega
theorem PM.cl {m2 : MM} (h : PM m tk N p (o + 1) k) (o0 : 0 ≤ o) (e2 : m2 = up m 582 12 (m 582 12 - 1)) : PM m2 tk N p o k ∧ F912 m m2 := by
  have h4 := h.2.2.2.1
  subst e2
  refine ⟨h.fr (fun c i z => up_ne (by omega)) ⟨by rw [up_ne (by omega)]; exact h.2.1.1, h.2.1.2⟩ (by rw [up_ne (by omega)]; exact h.2.2.1) ⟨?_, by omega, by omega⟩ ⟨by rw [up_ne (by omega)]; exact h.2.2.2.2.1, h.2.2.2.2.2⟩, fun c i z => up_ne (by omega)⟩
  rw [up_at, h4.1]; omega
theorem f_closeWith (h : PF m e q (o + 1) k) (o0 : 0 ≤ o) (h0 : ∀ m', PF m' e q o k → F912 m m' → Q 0 m') : P_X10_closeWith x m Q := by
  refine f_sign h ?_
  intro m2 e2
  have w := h.cl o0 e2
  exact h0 m2 w.1 w.2
theorem f_openWith (h : PF m e q o k) (ho : o ≤ 12) (h0 : ∀ m', PF m' e q (o + 1) k → F912 m m' → Q 0 m') : P_X10_openWith x m Q := f_sign h (f_opens h ho h0)
theorem c_closeWithM (hx : x = sM c) (hc : 0 ≤ c ∧ c ≤ 131) (rx : RI x) (h : PM m tk N p (o + 1) k) (o0 : 0 ≤ o) (h1 : ∀ m', ndS tk c p = .ok (p + 1) → PM m' tk N (p + 1) o k → F912 m m' → Q 0 m') (h0 : ∀ e m', ndS tk c p = .error e → PF m' e p o k → F912 m m' → Q 0 m') : P_X10_closeWith x m Q := by
  refine c_signM hx hc rx h (fun m1 g P1 f1 => ?_) (fun e m1 g P1 f1 => ?_)
  · intro m2 e2
    have w := P1.cl o0 e2
    exact h1 m2 g w.1 (fun c i z => (w.2 c i z).trans (f1 c i (by omega)))
  · intro m2 e2
    have w := P1.cl o0 e2
    exact h0 e m2 g w.1 (fun c i z => (w.2 c i z).trans (f1 c i (by omega)))
theorem c_openWithM (hx : x = sM c) (hc : 0 ≤ c ∧ c ≤ 131) (rx : RI x) (h : PM m tk N p o k) (h1 : ∀ m', noS tk c p o = .ok (p + 1) → PM m' tk N (p + 1) (o + 1) k → F912 m m' → Q 0 m') (h0 : ∀ e m' q, noS tk c p o = .error e → PF m' e q (o + 1) k → p ≤ q → F912 m m' → Q 0 m') : P_X10_openWith x m Q := by
  have ob := h.2.2.2.1
  unfold P_X10_openWith
  rw [h.2.1.1]
  refine c_signM hx hc rx h (fun m1 g P1 f1 => ?_) (fun e m1 g P1 f1 => ?_)
  · obtain ⟨y, gp, -⟩ := nd_ok g
    have gg : ndS tk c p = goS tk p := by unfold ndS; rw [if_pos y]
    refine c_opensM P1 h.2.1.2.1 (fun m2 y2 P2 f2 => ?_) (fun m2 y2 P2 f2 => ?_)
    · refine h1 m2 ?_ P2 (fun c i z => (f2 c i z).trans (f1 c i (by omega)))
      unfold noS opS
      rw [if_pos y, if_neg (fun z => y2 z.1), ← gg]; exact g
    · refine h0 _ m2 _ ?_ P2 (by omega) (fun c i z => (f2 c i z).trans (f1 c i (by omega)))
      unfold noS opS
      rw [if_pos y, if_pos ⟨y2, gp⟩]
  · refine f_opens P1 (by omega) (fun m2 P2 f2 => h0 e m2 p ?_ P2 (Int.le_refl _) (fun c i z => (f2 c i z).trans (f1 c i (by omega))))
    unfold noS
    unfold ndS at g
    by_cases y : isSg tk c p
    · rw [if_pos y] at g ⊢
      unfold opS
      by_cases y2 : o = 12 ∧ p < 150
      · exfalso
        unfold goS at g
        rw [if_neg (by omega)] at g
        cases g
      · rw [if_neg y2]; exact g
    · rw [if_neg y] at g ⊢; exact g
end STEPM
