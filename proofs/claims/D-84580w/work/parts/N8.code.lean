set_option maxRecDepth 100000
/-! the component: the code of a text, found or made -/
def smF (fr : List Fr) : Nat → Int
  | 0 => 0
  | j + 1 => smF fr j + cntF (j : Int) fr
theorem smF_cons {x : Fr} {fr : List Fr} : ∀ j : Nat, smF (x :: fr) j = smF fr j + (if 0 ≤ x.1 ∧ x.1 < (j : Int) then 1 else 0) := by
  intro j
  induction j with
  | zero =>
    show (0 : Int) = 0 + _
    rw [if_neg (by omega)]; rfl
  | succ j ih =>
    show smF (x :: fr) j + (cntF (j : Int) fr + (if x.1 = (j : Int) then 1 else 0)) = smF fr j + cntF (j : Int) fr + _
    rw [ih]
    by_cases c : x.1 = (j : Int)
    · rw [if_pos c, if_neg (by omega), if_pos (by omega)]; omega
    · rw [if_neg c]
      by_cases c2 : 0 ≤ x.1 ∧ x.1 < (j : Int)
      · rw [if_pos c2, if_pos (by omega)]; omega
      · rw [if_neg c2, if_neg (by omega)]; omega
theorem smF_le : ∀ (fr : List Fr) (j : Nat), smF fr j ≤ (fr.length : Int) := by
  intro fr
  induction fr with
  | nil =>
    intro j
    induction j with
    | zero => exact Int.le_refl _
    | succ j ih => show smF [] j + 0 ≤ _; omega
  | cons x fr ih =>
    intro j
    rw [smF_cons, List.length_cons]
    have := ih j
    split <;> omega
theorem cnt_free {fr : List Fr} (h : fr.length ≤ 21) : ∃ k : Int, (0 ≤ k ∧ k < 48) ∧ cntF k fr = 0 := by
  refine Classical.byContradiction (fun no => ?_)
  have key : ∀ j : Nat, j ≤ 48 → (j : Int) ≤ smF fr j := by
    intro j
    induction j with
    | zero => intro _; exact Int.le_refl _
    | succ j ih =>
      intro hj
      have := ih (by omega)
      have c := cntF_nn (j : Int) fr
      have c1 : cntF (j : Int) fr ≠ 0 := fun z => no ⟨j, ⟨by omega, by omega⟩, z⟩
      show ((j + 1 : Nat) : Int) ≤ smF fr j + cntF (j : Int) fr
      omega
  have a := key 48 (Nat.le_refl _)
  have b := smF_le fr 48
  omega
def FcO (n k : Int) (m m' : MM) : Prop := ∀ c i, ¬ (372 ≤ c ∧ c ≤ 373) → ¬ (c = 376 ∧ i = 6) → c ≠ 377 → ¬ (389 + 4 * k ≤ c ∧ c ≤ 389 + 4 * k + 3 ∧ ¬ (c = 389 + 4 * k ∧ i = 6)) → ¬ (c = 3 ∧ i = 7) → ¬ (∃ b, isTx b ∧ b < 8 + 17 * n ∧ b + 6 ≤ c ∧ c ≤ b + 8) → m' c i = m c i
section CODE
variable {Q : Int → MM → Prop} {m m' : MM} {F : Int → FnR} {n : Int} {fr : List Fr} {k x1 x2 x3 x4 b fl lo hi : Int} {e : JE} {a : PT} {z : R3}
theorem c_fresh (h6 : 0 ≤ m 376 6 ∧ m 376 6 < 48) (act : ∀ k, 0 ≤ k → k < 48 → m (389 + 4 * k) 6 = cntF k fr) (len : fr.length ≤ 21) (K : ∀ m' k, (0 ≤ k ∧ k < 48) → m' 376 6 = k → (∀ c i, ¬ (c = 376 ∧ i = 6) → m' c i = m c i) → cntF k fr = 0 → P_X6_codeOf_80 Q x1 x2 x3 x4 m') : ∃ nn, P_X6_codeOf_52 Q nn x1 x2 x3 x4 m := by
  obtain ⟨k0, hk0, z0⟩ := cnt_free len
  have loop : ∀ (d : Nat) (m' : MM), (∀ c i, ¬ (c = 376 ∧ i = 6) → m' c i = m c i) → (0 ≤ m' 376 6 ∧ m' 376 6 < 48) → (m' 376 6 + 1 + (d : Int)) % 48 = k0 → P_X6_codeOf_52 Q (d + 1) x1 x2 x3 x4 m' := by
    intro d
    induction d with
    | zero =>
      intro m' f b6 hd
      unfold P_X6_codeOf_52
      refine ⟨by constructor <;> omega, fun m1 e1 => ?_⟩
      have t : Int.tmod (m' 376 6 + 1) 48 = (m' 376 6 + 1) % 48 := Int.tmod_eq_emod_of_nonneg (by omega)
      have k1 : m1 376 6 = k0 := by rw [e1, up_at, t]; omega
      have f1 : ∀ c i, ¬ (c = 376 ∧ i = 6) → m1 c i = m c i := fun c i q => by rw [e1, up_ne q]; exact f c i q
      have a1 : m1 (389 + 4 * k0) 6 = 0 := by rw [f1 _ _ (by omega), act k0 hk0.1 hk0.2, z0]
      rw [k1, a1]
      refine ⟨hk0, by unfold isCd; omega, by decide, ?_⟩
      rw [if_neg (by omega)]
      exact K m1 k0 hk0 k1 f1 z0
    | succ d ih =>
      intro m' f b6 hd
      unfold P_X6_codeOf_52
      refine ⟨by constructor <;> omega, fun m1 e1 => ?_⟩
      have t : Int.tmod (m' 376 6 + 1) 48 = (m' 376 6 + 1) % 48 := Int.tmod_eq_emod_of_nonneg (by omega)
      have k1 : m1 376 6 = (m' 376 6 + 1) % 48 := by rw [e1, up_at, t]
      have f1 : ∀ c i, ¬ (c = 376 ∧ i = 6) → m1 c i = m c i := fun c i q => by rw [e1, up_ne q]; exact f c i q
      have b1 : 0 ≤ m1 376 6 ∧ m1 376 6 < 48 := by omega
      have a1 : m1 (389 + 4 * m1 376 6) 6 = cntF (m1 376 6) fr := by rw [f1 _ _ (by omega), act _ b1.1 b1.2]
      have cn := cntF_nn (m1 376 6) fr
      refine ⟨b1, by unfold isCd; omega, by rw [a1]; constructor <;> omega, ?_⟩
      rw [a1]
      by_cases c : 0 < cntF (m1 376 6) fr
      · rw [if_pos c]
        exact ih m1 f1 b1 (by omega)
      · rw [if_neg c]
        exact K m1 _ b1 rfl f1 (by omega)
  exact ⟨_, loop ((k0 - m 376 6 - 1) % 48).toNat m (fun _ _ _ => rfl) h6 (by omega)⟩
theorem BkO.fo {n' : Int} (h : BkO m F n) (f : ∀ c i, c < 365 → ¬ (c = 3 ∧ i = 7) → ¬ (∃ b, isTx b ∧ b < 8 + 17 * n' ∧ b + 6 ≤ c ∧ c ≤ b + 8) → m' c i = m c i) : BkO m' F n := by
  obtain ⟨h1, h2, h3⟩ := h
  refine ⟨h1, h2.fr (fun c i q => ?_), fun k k0 k1 => ?_⟩
  · obtain ⟨b, tx, q⟩ := q
    unfold isTx at tx
    refine f c i (by omega) (by omega) (fun w => ?_)
    obtain ⟨b', tx', w1, w2⟩ := w
    unfold isTx at tx'
    omega
  · have tb : isTx (8 + 17 * k) := isTx_k (by omega)
    have g : ∀ j i, (0 ≤ j ∧ j ≤ 5 ∨ j = 9) → m' (8 + 17 * k + j) i = m (8 + 17 * k + j) i := fun j i hj => f _ _ (by omega) (by omega) (fun w => by
      obtain ⟨b', tx', w1, w2⟩ := w
      unfold isTx at tx'
      omega)
    obtain ⟨⟨lo, hi, a1⟩, a2, a3⟩ := h3 k k0 k1
    have g0 : ∀ i, m' (8 + 17 * k) i = m (8 + 17 * k) i := fun i => by have := g 0 i (by omega); rw [Int.add_zero] at this; exact this
    refine ⟨⟨lo, hi, ?_⟩, by rw [g0]; exact a2, a3⟩
    rw [g0]
    exact a1.frr (fun c i hc _ _ _ => by
      have := g (c - (8 + 17 * k)) i (by omega)
      rw [show 8 + 17 * k + (c - (8 + 17 * k)) = c by omega] at this
      exact this)
/-- one code is new -/
theorem MsI.code {n' : Int} (h : MsI m F n fr) (k0 : 0 ≤ k ∧ k < 48) (f : FcO n' k m m') (k6 : m' 376 6 = k) (cnt : cntF k fr = 0) (ca : m' (389 + 4 * k) 4 = -1 ∨ ∃ f R z, m' (389 + 4 * k) 4 = f ∧ (0 ≤ f ∧ f < n) ∧ m' (389 + 4 * k) 5 = encO R ∧ (∀ x, R = some x → ok3 x ∧ x.1 ≠ -2) ∧ instS (F f) 0 R = some z ∧ CoA m' (389 + 4 * k) 0 (cgW F (JEf F f R) 2 (rootF (F f)) z)) : MsI m' F n fr ∧ FmC n' fr m m' := by
  have ntx : ∀ c, 365 ≤ c → ¬ (∃ b, isTx b ∧ b < 8 + 17 * n' ∧ b + 6 ≤ c ∧ c ≤ b + 8) := fun c hc w => by
    obtain ⟨b', tx', w1, w2⟩ := w
    have := tx_b2 tx'
    omega
  have g : ∀ c i, 365 ≤ c → ¬ (372 ≤ c ∧ c ≤ 373) → ¬ (c = 376 ∧ i = 6) → c ≠ 377 → ¬ (389 + 4 * k ≤ c ∧ c ≤ 389 + 4 * k + 3 ∧ ¬ (c = 389 + 4 * k ∧ i = 6)) → m' c i = m c i := fun c i hc a1 a2 a3 a4 => f c i a1 a2 a3 a4 (by omega) (ntx c hc)
  obtain ⟨⟨h1, h1'⟩, h2, h3, h4, h5, h6, h7, h8⟩ := h
  refine ⟨⟨⟨by rw [g _ _ (by decide) (by decide) (by decide) (by decide) (by omega)]; exact h1, h1'⟩, h2.keep (fun c i a1 a2 _ _ => g c i (by omega) (by omega) (by omega) (by omega) (by omega)), fun j j0 j1 => by rw [g _ _ (by omega) (by omega) (by omega) (by omega) (by omega)]; exact h3 j j0 j1, by rw [k6]; exact k0, fun j j0 j1 => ?_, h6.fo (fun c i a1 a2 a3 => f c i (by omega) (by omega) (by omega) (by omega) a2 a3), by rw [g 376 17 (by decide) (by decide) (by decide) (by decide) (by omega), g 376 18 (by decide) (by decide) (by decide) (by decide) (by omega)]; exact h7, by rw [g 376 19 (by decide) (by decide) (by decide) (by decide) (by omega), g 376 20 (by decide) (by decide) (by decide) (by decide) (by omega)]; exact h8⟩, fun x hx c i a1 a2 => ?_, fun c i a1 a2 a3 a4 => f c i a1 (by omega) (by omega) (by omega) a3 a4⟩
  · by_cases c : j = k
    · subst c; exact ca
    · rw [g _ _ (by omega) (by omega) (by omega) (by omega) (by omega), g _ _ (by omega) (by omega) (by omega) (by omega) (by omega)]
      rcases h5 j j0 j1 with q | ⟨f', R, z, q1, q2, q3, q4, q5, q6⟩
      · exact .inl q
      · exact .inr ⟨f', R, z, q1, q2, q3, q4, q5, q6.fr (fun c i a _ _ => g c i (by omega) (by omega) (by omega) (by omega) (by omega))⟩
  · have xi := frG.in h2 x hx
    have xk := cntF_in cnt x hx
    exact g c i (by omega) (by omega) (by omega) (by omega) (by omega)
theorem c_code80 {n' : Int} (I : MsI m F n fr) (k6 : m 376 6 = k) (k0 : 0 ≤ k ∧ k < 48) (cnt : cntF k fr = 0) (tb : isTx b) (hb : b < 8 + 17 * n') (J : ∀ m3 (Q' : Int → MM → Prop), (∀ c i, ¬ (c = 389 + 4 * k ∧ (i = 4 ∨ i = 5)) → ¬ (c = 372 ∧ i = 5) → m3 c i = m c i) → m3 372 5 = 0 → (∀ r m', FJk b m3 m' → AnN m' b e a.1 a.2 (m' b 2) → Q' r m') → P_X5_judge b x1 x2 m3 Q') (hE : CgE m F e fl b) (hT : TN m b a.1 a.2 lo hi (m b 2)) (hkd : 0 ≤ a.1.1 ∧ a.1.1 ≤ 25) (w : okN a.1 a.2) (wc : wfT a.2) (hs : szT a.2 ≤ 150) (hx : rgS e a.1 a.2 ≠ none) (hz : ok3 z) (ca : ∀ m', m' (389 + 4 * k) 4 = x1 → m' (389 + 4 * k) 5 = x2 → CoA m' (389 + 4 * k) 0 (cgW F e fl a z) → (m' (389 + 4 * k) 4 = -1 ∨ ∃ f R z, m' (389 + 4 * k) 4 = f ∧ (0 ≤ f ∧ f < n) ∧ m' (389 + 4 * k) 5 = encO R ∧ (∀ x, R = some x → ok3 x ∧ x.1 ≠ -2) ∧ instS (F f) 0 R = some z ∧ CoA m' (389 + 4 * k) 0 (cgW F (JEf F f R) 2 (rootF (F f)) z))) (kq : ∀ m', MsI m' F n fr → FmC n' fr m m' → FcO n' k m m' → AnN m' b e a.1 a.2 (m' b 2) → CoA m' (389 + 4 * k) 0 (cgW F e fl a z) → Q k m') : P_X6_codeOf_80 Q x1 x2 b (encC z) m := by
  have tb2 := tx_b2 tb
  unfold P_X6_codeOf_80
  rw [k6]
  refine ⟨k0, by unfold isCd; omega, ?_⟩
  intro m1 e1 m2 e2
  unfold P_X5_begin
  intro m3 e3
  have f3 : ∀ c i, ¬ (c = 389 + 4 * k ∧ (i = 4 ∨ i = 5)) → ¬ (c = 372 ∧ i = 5) → m3 c i = m c i := fun c i q1 q2 => by rw [e3, up_ne q2, e2, up_ne (by omega), e1, up_ne (by omega)]
  refine J m3 _ f3 (by rw [e3, up_at]) (fun r m4 f4 A4 => ?_)
  have nt : ∀ c, c < 365 → ¬ (b + 6 ≤ c ∧ c ≤ b + 8) → ∀ i, ¬ (c = 3 ∧ i = 7) → m4 c i = m c i := fun c hc hb i h7 => by
    rw [f4 c i (by omega) (by omega) h7 hb]
    exact f3 c i (by omega) (by omega)
  have T4 : TN m4 b a.1 a.2 lo hi (m4 b 2) := by
    rw [nt b (by omega) (by omega) 2 (by omega)]
    exact hT.frr (fun c i hc _ _ _ => nt c (by omega) (by omega) i (by omega))
  have E4 : CgE m4 F e fl b := by
    obtain ⟨q1, q2, n', q3, q4, q5⟩ := hE
    refine ⟨q1, by rw [nt b (by omega) (by omega) 1 (by omega)]; exact q2, n', q3, q4, q5.fr (fun c i q => ?_)⟩
    obtain ⟨b', tx, q⟩ := q
    unfold isTx at tx tb
    exact nt c (by omega) (by omega) i (by omega)
  refine c_writeG tb (by unfold isCd; omega) E4 T4 A4 hkd w wc hs hx hz (fun m5 C5 s5 f5 => ?_)
  have f45 : ∀ c i, c ≠ 377 → ¬ (389 + 4 * k + 1 ≤ c ∧ c ≤ 389 + 4 * k + 3) → ¬ (c = 389 + 4 * k ∧ i = 3) → m5 c i = m4 c i := fun c i q1 q2 q3 => f5 c i (by omega) (by omega) q3
  have e4 : ∀ i, i = 4 ∨ i = 5 → m5 (389 + 4 * k) i = m3 (389 + 4 * k) i := fun i hi => by
    rw [f45 _ _ (by omega) (by omega) (by omega)]
    exact f4 _ _ (by omega) (by omega) (by omega) (by omega)
  have e44 : m5 (389 + 4 * k) 4 = x1 := by rw [e4 4 (.inl rfl), e3, up_ne (by omega), e2, up_neI (by decide), e1, up_at]
  have e45 : m5 (389 + 4 * k) 5 = x2 := by rw [e4 5 (.inr rfl), e3, up_ne (by omega), e2, up_at]
  have fo : FcO n' k m m5 := fun c i q1 q2 q3 q4 q5 q6 => by
    rw [f45 c i q3 (by omega) (by omega), f4 c i (by omega) (by omega) q5 (fun q => q6 ⟨b, tb, hb, q⟩)]
    exact f3 c i (by omega) (by omega)
  have k65 : m5 376 6 = k := by
    rw [f45 _ _ (by decide) (by omega) (by omega), f4 _ _ (by decide) (by decide) (by decide) (by omega), f3 _ _ (by omega) (by decide)]; exact k6
  obtain ⟨I5, fm5⟩ := I.code k0 fo k65 cnt (ca m5 e44 e45 C5)
  rw [k65]
  exact kq m5 I5 fm5 fo (by rw [f45 b 2 (by omega) (by omega) (by omega)]; exact A4.lw (fun c i hc => f45 c i (by omega) (by omega) (by omega)) tb) C5
/-- found or not -/
theorem c_code3 (ri1 : RI x1) (h1 : 0 ≤ x1) (ri2 : RI x2) (ri4 : ∀ k, 0 ≤ k → k < 48 → RI (m (389 + 4 * k) 4) ∧ (m (389 + 4 * k) 4 = x1 → RI (m (389 + 4 * k) 5))) (hit : ∀ k, 0 ≤ k → k < 48 → m (389 + 4 * k) 4 = x1 → m (389 + 4 * k) 5 = x2 → Q k m) (miss : ∃ nn, P_X6_codeOf_52 Q nn x1 x2 x3 x4 m) : P_X6_codeOf x1 x2 x3 x4 m Q := by
  have loop : ∀ (j : Nat) (i : Int), (j : Int) + i = 48 → 0 ≤ i → P_X6_codeOf_3 Q (j + 1) x1 x2 x3 x4 i m := by
    intro j
    induction j with
    | zero =>
      intro i hi i0
      unfold P_X6_codeOf_3
      refine ⟨by constructor <;> omega, ?_⟩
      rw [if_pos (by omega)]
      exact miss
    | succ j ih =>
      intro i hi i0
      unfold P_X6_codeOf_3
      refine ⟨by constructor <;> omega, ?_⟩
      rw [if_neg (by omega)]
      refine ⟨ri1, ?_⟩
      rw [if_neg (by omega)]
      have r := ri4 i i0 (by omega)
      refine ⟨by omega, by unfold isCd; omega, r.1, ?_⟩
      by_cases c : m (389 + 4 * i) 4 = x1
      · rw [if_pos c]
        refine ⟨r.2 c, ri2, ?_⟩
        by_cases c2 : m (389 + 4 * i) 5 = x2
        · rw [if_pos c2]; exact hit i i0 (by omega) c c2
        · rw [if_neg c2]; exact ih (i + 1) (by omega) (by omega)
      · rw [if_neg c]; exact ih (i + 1) (by omega) (by omega)
  exact ⟨49, loop 48 0 rfl (Int.le_refl _)⟩
theorem encO_inj {R S : Option R3} (hR : ∀ x, R = some x → ok3 x ∧ x.1 ≠ -2) (hS : ∀ x, S = some x → ok3 x ∧ x.1 ≠ -2) (h : encO R = encO S) : R = S := by
  cases R with
  | none =>
    cases S with
    | none => rfl
    | some y =>
      have q := hS y rfl
      have := (encC_bd q.1).2.2 q.2
      have h : (-1 : Int) = encC y := h
      omega
  | some x =>
    have p := hR x rfl
    have pp := (encC_bd p.1).2.2 p.2
    cases S with
    | none =>
      have h : encC x = -1 := h
      omega
    | some y => rw [encC_inj p.1 (hS y rfl).1 h]
/-- the code of a function for an R -/
theorem c_codeF {f : Int} {R : Option R3} {x : R3} (hF : FOK F n) (I : MsI m F n fr) (hf : 0 ≤ f ∧ f < n) (hR : ∀ x, R = some x → ok3 x ∧ x.1 ≠ -2) (h0 : R = none → (F f).2.2.1 = 0) (hi' : ∀ k, 0 ≤ k → k ≤ (F f).2.1 → instS (F f) k R ≠ none) (hJ : JEok (JEf F f R)) (hx : rgS (JEf F f R) (rootF (F f)).1 (rootF (F f)).2 = some x) (hz : instS (F f) 0 R = some z) (hz3 : ok3 z) (kq : ∀ k m', (0 ≤ k ∧ k < 48) → MsI m' F n fr → FmC n fr m m' → (m' = m ∨ FcO n k m m') → CoA m' (389 + 4 * k) 0 (cgW F (JEf F f R) 2 (rootF (F f)) z) → Q k m') : P_X6_codeOf f (encO R) (8 + 17 * f) (encC z) m Q := by
  have I0 := I
  obtain ⟨⟨h1, h1'⟩, h2, h3, h4, h5, h6, h7, h8⟩ := I
  obtain ⟨b1, b2, b3⟩ := h6
  obtain ⟨⟨lo, hi, T⟩, s1, s2, s3⟩ := b3 f hf.1 hf.2
  have rt := (hF.2 f hf.1 hf.2).1
  have tb : isTx (8 + 17 * f) := isTx_k (by omega)
  refine c_code3 (by constructor <;> omega) hf.1 (encO_ri (fun x q => (hR x q).1)) (fun k k0 k1 => ?_) (fun k k0 k1 e1 e2 => ?_) (c_fresh h4 h3 h1' (fun m1 k k0 k6 f1 cnt => ?_))
  · rcases h5 k k0 k1 with q | ⟨f', R', z', q1, q2, q3, q4, -⟩
    · rw [q]; exact ⟨by decide, fun z => by omega⟩
    · rw [q1, q3]; exact ⟨by constructor <;> omega, fun _ => encO_ri (fun x q => (q4 x q).1)⟩
  · refine kq k m ⟨k0, k1⟩ I0 FmC.refl (.inl rfl) ?_
    rcases h5 k k0 k1 with q | ⟨f', R', z', q1, q2, q3, q4, q5, q6⟩
    · rw [q] at e1; omega
    · have ef : f' = f := by rw [← q1, e1]
      subst ef
      have eR : R' = R := encO_inj q4 hR (by rw [← q3, e2])
      subst eR
      have ez : z' = z := Option.some.inj (q5.symm.trans hz)
      subst ez
      exact q6
  · have I1 : MsI m1 F n fr := ⟨⟨by rw [f1 _ _ (by decide)]; exact h1, h1'⟩, h2.keep (fun c i a1 a2 _ _ => f1 c i (by omega)), fun j j0 j1 => by rw [f1 _ _ (by omega)]; exact h3 j j0 j1, by rw [k6]; exact k0, fun j j0 j1 => by
        rw [f1 _ _ (by omega), f1 _ _ (by omega)]
        rcases h5 j j0 j1 with q | ⟨f', R', z', q1, q2, q3, q4, q5, q6⟩
        · exact .inl q
        · exact .inr ⟨f', R', z', q1, q2, q3, q4, q5, q6.fr (fun c i a _ _ => f1 c i (by omega))⟩, BkO.lw ⟨b1, b2, b3⟩ (fun c i a => f1 c i (by omega)), by rw [f1 376 17 (by decide), f1 376 18 (by decide)]; exact h7, by rw [f1 376 19 (by decide), f1 376 20 (by decide)]; exact h8⟩
    have B1 : BKh m1 F n := b2.lw (fun c i a => f1 c i (by omega))
    have T1 : TN m1 (8 + 17 * f) (rootF (F f)).1 (rootF (F f)).2 lo hi (m1 (8 + 17 * f) 2) := by
      rw [f1 _ _ (by omega)]
      exact T.lw (fun c i a => f1 c i (by omega)) tb
    have hB : ∀ {m3 : MM}, BKh m3 F n → BKh m3 F (f + 1) := fun q => ⟨by omega, fun j j0 j1 => q.2 j j0 (by omega)⟩
    refine c_code80 (n' := n) I1 k6 k0 cnt tb (by omega) (fun m3 Q' f3 e3 K => ?_) ⟨hJ, ⟨by rw [f1 _ _ (by omega)]; exact s1, by decide⟩, f + 1, by omega, rfl, hB B1⟩ T1 rt.1 rt.2.1 rt.2.2 s2 (by rw [hx]; intro q; cases q) hz3 (fun m' q1 q2 q3 => .inr ⟨f, R, z, q1, hf, q2, hR, hz, q3⟩) (fun m' q1 q2 q3 _ q4 => kq k m' k0 q1 ?_ (.inr ?_) q4)
    · have g3 : ∀ c i, c < 365 → m3 c i = m1 c i := fun c i hc => f3 c i (by omega) (by omega)
      refine c_judgeF (n := none) (by omega) ⟨rt.2.1, rt.2.2, trivial⟩ rfl (by omega) (by rw [g3 _ _ (by omega)]; exact T1.lw g3 tb) e3 (hB (B1.lw g3)) hR h0 hi' (fun m' g1 g2 g4 g5 => K _ m' g1 (g5 x hx).1)
    · exact FmC.trans ⟨fun x hx c i a1 a2 => by have := frG.in h2 x hx; exact f1 c i (by omega), fun c i a1 a2 _ _ => f1 c i (by omega)⟩ q2
    · exact fun c i p1 p2 p3 p4 p5 p6 => (q3 c i p1 p2 p3 p4 p5 p6).trans (f1 c i p2)
end CODE
