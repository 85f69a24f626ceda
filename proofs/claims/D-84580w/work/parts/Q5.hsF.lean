set_option maxRecDepth 100000
/-! both houses: whom a name means -/
theorem lOr_rl (x y : Int) : RL (lOr x y) := by
  unfold lOr
  have a := Int64.toInt_lt (Int64.ofInt x ||| Int64.ofInt y)
  have b := Int64.le_toInt (Int64.ofInt x ||| Int64.ofInt y)
  constructor <;> omega
/-- a name, its empty bytes left out -/
def pkW (x : Int) : Nat → Int → Int
  | 0, w => w
  | r + 1, w => pkW x r (if lAnd (lShr x (8 * (r : Int))) 255 = 0 then w else lOr (lShl w 8) (lAnd (lShr x (8 * (r : Int))) 255))
theorem pkW_rl {x : Int} : ∀ (r : Nat) (w : Int), RL w → RL (pkW x r w) := by
  intro r
  induction r with
  | zero => intro w h; exact h
  | succ r ih =>
    intro w h
    unfold pkW
    refine ih _ ?_
    by_cases c : lAnd (lShr x (8 * (r : Int))) 255 = 0
    · rw [if_pos c]; exact h
    · rw [if_neg c]; exact lOr_rl _ _
def eK (x3 x4 x5 k : Int) : Int := if k = 0 then x3 else (if k = 1 then x4 else x5 : Int)
def mnI (x3 x4 x5 : Int) : Int := if x3 = (-1) then 0 else (if x4 = (-1) then 1 else (if x5 = (-1) then 2 else 3 : Int) : Int)
theorem mnI_cs {x3 x4 x5 : Int} : 0 ≤ mnI x3 x4 x5 ∧ mnI x3 x4 x5 ≤ 3 := by
  unfold mnI
  by_cases a : x3 = -1
  · rw [if_pos a]; omega
  rw [if_neg a]
  by_cases b : x4 = -1
  · rw [if_pos b]; omega
  rw [if_neg b]
  by_cases c : x5 = -1
  · rw [if_pos c]; omega
  rw [if_neg c]; omega
theorem eK_ri {x3 x4 x5 k : Int} (h3 : RI x3) (h4 : RI x4) (h5 : RI x5) : RI (eK x3 x4 x5 k) := by
  unfold eK
  by_cases a : k = 0
  · rw [if_pos a]; exact h3
  rw [if_neg a]
  by_cases b : k = 1
  · rw [if_pos b]; exact h4
  rw [if_neg b]; exact h5
def rlL (rR : Int → R3) (x3 x4 x5 : Int) : Nat → Int → List R3
  | 0, _ => []
  | r + 1, k => rR (eK x3 x4 x5 k) :: rlL rR x3 x4 x5 r (k + 1)
theorem rlL_len {rR : Int → R3} {x3 x4 x5 : Int} : ∀ (r : Nat) (k : Int), (rlL rR x3 x4 x5 r k).length = r := by
  intro r
  induction r with
  | zero => intro k; rfl
  | succ r ih => intro k; show (rlL rR x3 x4 x5 r (k + 1)).length + 1 = r + 1; rw [ih]
theorem rlL_mem {rR : Int → R3} {x3 x4 x5 : Int} : ∀ (r : Nat) (k : Int) (x : R3), x ∈ rlL rR x3 x4 x5 r k → ∃ j, (k ≤ j ∧ j < k + (r : Int)) ∧ x = rR (eK x3 x4 x5 j) := by
  intro r
  induction r with
  | zero => intro k x h; cases h
  | succ r ih =>
    intro k x h
    rcases List.mem_cons.1 h with h | h
    · exact ⟨k, by omega, h⟩
    · obtain ⟨j, j1, j2⟩ := ih (k + 1) x h
      exact ⟨j, by omega, j2⟩
def shO (o : Option R3) (q : Int) : Int := match o with
  | none => -1
  | some r => shW r (q - 1)
/-- whom it means, as it is asked -/
noncomputable def mtR (F : Int → FnR) (w : Int) (l : List R3) (n q : Int) : Int := match bestS F w l n.toNat with
  | none => -1
  | some b => if q = 0 then b.1 else shO b.2.2 q
section HSF
variable {Q : Int → Int → MM → Prop} {Q1 : Int → MM → Prop} {m m' m1 : MM} {F : Int → FnR} {n nr nv sz w q : Int} {rR vR : Int → R3} {resV varV : Int → VV} {vN tx : Int → Int} {A : HA} {x1 x3 x4 x5 : Int}
theorem rowR_of {a : Int} (hR : ∀ v, 0 ≤ v → v < nr → ok3 (rR v)) : ∀ (r : Nat) (k : Int), (∀ j, k ≤ j → j < k + (r : Int) → m a j = encC (rR (eK x3 x4 x5 j)) ∧ 0 ≤ eK x3 x4 x5 j ∧ eK x3 x4 x5 j < nr) → rowR m a k (rlL rR x3 x4 x5 r k) := by
  intro r
  induction r with
  | zero => intro k _; trivial
  | succ r ih =>
    intro k h
    obtain ⟨h1, h2, h3⟩ := h k (by omega) (by omega)
    exact ⟨h1, hR _ h2 h3, ih (k + 1) (fun j j0 j1 => h j (by omega) (by omega))⟩
theorem rowM_of (hR : ∀ v, 0 ≤ v → v < nr → ok3 (rR v)) : ∀ (r : Nat) (k : Int), (∀ j, k ≤ j → j < k + (r : Int) → r3M m 632 633 634 j (rR (eK x3 x4 x5 j)) ∧ 0 ≤ eK x3 x4 x5 j ∧ eK x3 x4 x5 j < nr) → rowM m k (rlL rR x3 x4 x5 r k) := by
  intro r
  induction r with
  | zero => intro k _; trivial
  | succ r ih =>
    intro k h
    obtain ⟨h1, h2, h3⟩ := h k (by omega) (by omega)
    exact ⟨h1, hR _ h2 h3, ih (k + 1) (fun j j0 j1 => h j (by omega) (by omega))⟩
theorem c_pack128 {x6 x7 : Int} : ∀ (r : Nat) (w : Int), r ≤ 8 → P_X0_meant_168 Q1 x6 x7 (pkW x1 r w) m → P_X0_meant_128 Q1 (r + 1) x1 x6 x7 w (8 * (r : Int) - 8) m := by
  intro r
  induction r with
  | zero =>
    intro w _ h
    unfold P_X0_meant_128
    refine ⟨by decide, ?_⟩
    rw [if_pos (by decide)]; exact h
  | succ r ih =>
    intro w hr h
    unfold P_X0_meant_128
    refine ⟨by constructor <;> omega, ?_⟩
    rw [if_neg (by omega), show 8 * ((r + 1 : Nat) : Int) - 8 = 8 * (r : Int) by omega]
    have h : P_X0_meant_168 Q1 x6 x7 (pkW x1 r (if lAnd (lShr x1 (8 * (r : Int))) 255 = 0 then w else lOr (lShl w 8) (lAnd (lShr x1 (8 * (r : Int))) 255))) m := h
    refine ⟨by rw [lAnd255]; constructor <;> omega, ?_⟩
    rw [show 8 * (r : Int) + (-8) = 8 * (r : Int) - 8 by omega]
    by_cases c : lAnd (lShr x1 (8 * (r : Int))) 255 = 0
    · rw [if_pos c] at h ⊢; exact ih _ (by omega) h
    · rw [if_neg c] at h ⊢; exact ih _ (by omega) h
theorem c_pack161 {x6 : Int} : ∀ (r : Nat) (w : Int), r ≤ 8 → P_X10_meant_201 Q1 x6 (pkW x1 r w) m → P_X10_meant_161 Q1 (r + 1) x1 x6 w (8 * (r : Int) - 8) m := by
  intro r
  induction r with
  | zero =>
    intro w _ h
    unfold P_X10_meant_161
    refine ⟨by decide, ?_⟩
    rw [if_pos (by decide)]; exact h
  | succ r ih =>
    intro w hr h
    unfold P_X10_meant_161
    refine ⟨by constructor <;> omega, ?_⟩
    rw [if_neg (by omega), show 8 * ((r + 1 : Nat) : Int) - 8 = 8 * (r : Int) by omega]
    have h : P_X10_meant_201 Q1 x6 (pkW x1 r (if lAnd (lShr x1 (8 * (r : Int))) 255 = 0 then w else lOr (lShl w 8) (lAnd (lShr x1 (8 * (r : Int))) 255))) m := h
    refine ⟨by rw [lAnd255]; constructor <;> omega, ?_⟩
    rw [show 8 * (r : Int) + (-8) = 8 * (r : Int) - 8 by omega]
    by_cases c : lAnd (lShr x1 (8 * (r : Int))) 255 = 0
    · rw [if_pos c] at h ⊢; exact ih _ (by omega) h
    · rw [if_neg c] at h ⊢; exact ih _ (by omega) h
def gdK (x3 x4 x5 nr my : Int) : Prop := ∀ j, 0 ≤ j → j < my → 0 ≤ eK x3 x4 x5 j ∧ eK x3 x4 x5 j < nr
theorem c_m48 {x6 my : Int} (h3 : RI x3) (h4 : RI x4) (h5 : RI x5) (my3 : my ≤ 3) (hR : RSc m nr rR nv vN vR) (KB : ∀ m', (∀ c i, c ≠ 581 → m' c i = m c i) → ¬ gdK x3 x4 x5 nr my → Q1 (-1) m') (KG : ∀ m', (∀ c i, c ≠ 581 → m' c i = m c i) → (∀ j, 0 ≤ j → j < my → m' 581 j = encC (rR (eK x3 x4 x5 j))) → gdK x3 x4 x5 nr my → ∃ nn, P_X0_meant_128 Q1 nn x1 x6 my 0 56 m') : ∀ (r : Nat) (k : Int) (m1 : MM), k + (r : Int) = my → 0 ≤ k → (∀ c i, c ≠ 581 → m1 c i = m c i) → (∀ j, 0 ≤ j → j < k → m1 581 j = encC (rR (eK x3 x4 x5 j)) ∧ 0 ≤ eK x3 x4 x5 j ∧ eK x3 x4 x5 j < nr) → P_X0_meant_48 Q1 (r + 1) x1 x3 x4 x5 x6 my k m1 := by
  intro r
  induction r with
  | zero =>
    intro k m1 e k0 f v
    unfold P_X0_meant_48
    refine ⟨by constructor <;> omega, by constructor <;> omega, ?_⟩
    rw [if_pos (by omega)]
    exact KG m1 f (fun j j0 j1 => (v j j0 (by omega)).1) (fun j j0 j1 => (v j j0 (by omega)).2)
  | succ r ih =>
    intro k m1 e k0 f v
    unfold P_X0_meant_48
    refine ⟨by constructor <;> omega, by constructor <;> omega, ?_⟩
    rw [if_neg (by omega)]
    have he : (if k = 0 then x3 else (if k = 1 then x4 else x5 : Int) : Int) = eK x3 x4 x5 k := rfl
    rw [he]
    refine ⟨eK_ri h3 h4 h5, ?_⟩
    by_cases c : eK x3 x4 x5 k < 0
    · rw [if_pos c]
      exact KB m1 f (fun g => by have := g k k0 (by omega); omega)
    rw [if_neg c, f 3 3 (by decide), hR.1.1]
    have nb := hR.1.2.1
    refine ⟨by constructor <;> omega, ?_⟩
    by_cases c2 : eK x3 x4 x5 k < nr
    case neg =>
      rw [if_neg c2]
      exact KB m1 f (fun g => by have := g k k0 (by omega); omega)
    rw [if_pos c2]
    refine ⟨by omega, by omega, fun m2 e2 => ?_⟩
    refine ih (k + 1) m2 (by omega) (by omega) (fun c i z => by rw [e2, up_ne (by omega)]; exact f c i z) (fun j j0 j1 => ?_)
    by_cases z : j = k
    · subst z
      rw [e2, up_at, f 7 _ (by decide)]
      exact ⟨(hR.1.2.2 _ (by omega) c2).1, by omega, c2⟩
    · rw [e2, up_ne (by omega)]; exact v j j0 (by omega)
theorem c_m53 {x6 my : Int} (h3 : RI x3) (h4 : RI x4) (h5 : RI x5) (my3 : my ≤ 3) (hR : RSm m nr rR nv vN vR) (KB : ∀ m', (∀ c i, ¬ (632 ≤ c ∧ c ≤ 634) → m' c i = m c i) → ¬ gdK x3 x4 x5 nr my → Q1 (-1) m') (KG : ∀ m', (∀ c i, ¬ (632 ≤ c ∧ c ≤ 634) → m' c i = m c i) → (∀ j, 0 ≤ j → j < my → r3M m' 632 633 634 j (rR (eK x3 x4 x5 j))) → gdK x3 x4 x5 nr my → P_X10_meant_148 Q1 x1 x6 my m') : ∀ (r : Nat) (k : Int) (m1 : MM), k + (r : Int) = my → 0 ≤ k → (∀ c i, ¬ (632 ≤ c ∧ c ≤ 634) → m1 c i = m c i) → (∀ j, 0 ≤ j → j < k → r3M m1 632 633 634 j (rR (eK x3 x4 x5 j)) ∧ 0 ≤ eK x3 x4 x5 j ∧ eK x3 x4 x5 j < nr) → P_X10_meant_53 Q1 (r + 1) x1 x3 x4 x5 x6 my k m1 := by
  intro r
  induction r with
  | zero =>
    intro k m1 e k0 f v
    unfold P_X10_meant_53
    refine ⟨by constructor <;> omega, by constructor <;> omega, ?_⟩
    rw [if_pos (by omega)]
    exact KG m1 f (fun j j0 j1 => (v j j0 (by omega)).1) (fun j j0 j1 => (v j j0 (by omega)).2)
  | succ r ih =>
    intro k m1 e k0 f v
    unfold P_X10_meant_53
    refine ⟨by constructor <;> omega, by constructor <;> omega, ?_⟩
    rw [if_neg (by omega)]
    have he : (if k = 0 then x3 else (if k = 1 then x4 else x5 : Int) : Int) = eK x3 x4 x5 k := rfl
    rw [he]
    refine ⟨eK_ri h3 h4 h5, ?_⟩
    by_cases c : eK x3 x4 x5 k < 0
    · rw [if_pos c]
      exact KB m1 f (fun g => by have := g k k0 (by omega); omega)
    rw [if_neg c, f 582 34 (by decide), hR.1.1]
    have nb := hR.1.2.1
    refine ⟨by constructor <;> omega, ?_⟩
    by_cases c2 : eK x3 x4 x5 k < nr
    case neg =>
      rw [if_neg c2]
      exact KB m1 f (fun g => by have := g k k0 (by omega); omega)
    rw [if_pos c2]
    refine ⟨by omega, by omega, fun m2 e2 m3 e3 m4 e4 => ?_⟩
    refine ih (k + 1) m4 (by omega) (by omega) (fun c i z => by rw [e4, up_ne (by omega), e3, up_ne (by omega), e2, up_ne (by omega)]; exact f c i z) (fun j j0 j1 => ?_)
    by_cases z : j = k
    · subst z
      obtain ⟨⟨g1, g2, g3⟩, -⟩ := hR.1.2.2 _ (by omega) c2
      refine ⟨⟨?_, ?_, ?_⟩, by omega, c2⟩
      · rw [e4, up_ne (by omega), e3, up_ne (by omega), e2, up_at, f _ _ (by omega)]; exact g1
      · rw [e4, up_ne (by omega), e3, up_at, e2, up_ne (by omega), f _ _ (by omega)]; exact g2
      · rw [e4, up_at, e3, up_ne (by omega), e2, up_ne (by omega), f _ _ (by omega)]; exact g3
    · obtain ⟨⟨g1, g2, g3⟩, g4⟩ := v j j0 (by omega)
      refine ⟨⟨?_, ?_, ?_⟩, g4⟩
      · rw [e4, up_ne (by omega), e3, up_ne (by omega), e2, up_ne (by omega)]; exact g1
      · rw [e4, up_ne (by omega), e3, up_ne (by omega), e2, up_ne (by omega)]; exact g2
      · rw [e4, up_ne (by omega), e3, up_ne (by omega), e2, up_ne (by omega)]; exact g3
theorem c_meantHC (h3 : RI x3) (h4 : RI x4) (h5 : RI x5) (hq : RI q) (H : HsC m F n nr rR resV nv vN vR varV) (hB : HsB F n nr rR resV nv vN vR varV) (KB : ∀ m', (∀ c i, c ≠ 581 → ¬ (c = 3 ∧ i = 7) → m' c i = m c i) → ¬ ((0 ≤ q ∧ q ≤ 3) ∧ 0 < mnI x3 x4 x5 ∧ gdK x3 x4 x5 nr (mnI x3 x4 x5)) → Q1 (-1) m') (KG : ∀ m', (∀ c i, c ≠ 581 → ¬ (c = 3 ∧ i = 7) → m' c i = m c i) → (0 ≤ q ∧ q ≤ 3) → 0 < mnI x3 x4 x5 → gdK x3 x4 x5 nr (mnI x3 x4 x5) → Q1 (mtR F (pkW x1 8 0) (rlL rR x3 x4 x5 (mnI x3 x4 x5).toNat 0) n q) m') : P_X0_meant x1 x3 x4 x5 q m Q1 := by
  have my := mnI_cs (x3 := x3) (x4 := x4) (x5 := x5)
  have key : 0 ≤ q → q ≤ 3 → ∃ nn, P_X0_meant_48 Q1 nn x1 x3 x4 x5 q (mnI x3 x4 x5) 0 m := by
    intro q0 q3
    have okr : ∀ v, 0 ≤ v → v < nr → ok3 (rR v) := fun v v0 v1 => (hB.2.2.1 v v0 v1).1
    generalize hmy : mnI x3 x4 x5 = k at *
    refine ⟨_, c_m48 h3 h4 h5 my.2 H.2.2.1 (fun m1 f1 ng => KB m1 (fun c i z _ => f1 c i z) (fun z => ng z.2.2)) (fun m1 f1 v1 gd => ⟨9, ?_⟩) k.toNat 0 m (by omega) (by decide) (fun _ _ _ => rfl) (fun j j0 j1 => by omega)⟩
    refine c_pack128 (r := 8) _ (Nat.le_refl _) ?_
    unfold P_X0_meant_168
    refine ⟨by constructor <;> omega, ?_⟩
    by_cases k0 : k = 0
    · rw [if_pos k0]
      unfold P_X0_meant_199
      refine ⟨by decide, ?_⟩
      rw [if_pos rfl]
      exact KB m1 (fun c i z _ => f1 c i z) (fun z => by omega)
    rw [if_neg k0, f1 3 1 (by decide), H.2.1]
    have hBK := H.1.2.2.2.2.2.1
    have bk1 : BKh m1 F n := hBK.2.1.lw (fun c i z => f1 c i (by omega))
    have rw1 := rowR_of (m := m1) (a := 581) (x3 := x3) (x4 := x4) (x5 := x5) okr k.toNat 0 (fun j j0 j1 => ⟨v1 j j0 (by omega), gd j j0 (by omega)⟩)
    have len : ((rlL rR x3 x4 x5 k.toNat 0).length : Int) = k := by rw [rlL_len]; omega
    have okl : ∀ x, x ∈ rlL rR x3 x4 x5 k.toNat 0 → ok3 x := fun x hx => by
      obtain ⟨j, j1, j2⟩ := rlL_mem _ _ _ hx
      rw [j2]
      have := gd j (by omega) (by omega)
      exact okr _ this.1 this.2
    have main := c_meantC (Q := fun r1 m1 => P_X0_meant_199 Q1 q r1 m1) (a := 581) (.inr rfl) bk1 (pkW_rl 8 0 (by decide)) rw1 (by omega) (fun m2 f2 w2 => ?_) (w := pkW x1 8 0)
    · rw [len] at main
      exact main
    · have kg := KG m2 (fun c i z1 z2 => by rw [f2 c i z2]; exact f1 c i z1) ⟨q0, q3⟩ (by omega) gd
      unfold mtR at kg
      unfold P_X0_meant_199
      generalize hb : bestS F (pkW x1 8 0) (rlL rR x3 x4 x5 k.toNat 0) n.toNat = b at kg w2 ⊢
      rcases b with - | ⟨j, p, R⟩
      · refine ⟨by show RI (-1); decide, ?_⟩
        show (if (-1 : Int) = -1 then _ else _)
        rw [if_pos rfl]; exact kg
      · obtain ⟨bd, cs, -⟩ := bestS_bd _ _ _ _ hb
        have w2 := w2 j p R rfl
        have jn : j < n := by omega
        have nb := hBK.1
        show RI j ∧ (if j = -1 then _ else _)
        refine ⟨by constructor <;> omega, ?_⟩
        rw [if_neg (by omega)]
        refine ⟨hq, ?_⟩
        have kg : Q1 (if q = 0 then j else shO R q) m2 := kg
        by_cases c0 : q = 0
        · rw [if_pos c0] at kg ⊢; exact kg
        rw [if_neg c0] at kg ⊢
        rw [w2]
        obtain ⟨-, -, okR, -⟩ := candS_ok (hBK.2.1.2 j bd.1 jn).1 okl cs
        cases R with
        | none =>
          refine ⟨by show RI (-1); decide, ?_⟩
          show (if (-1 : Int) = -1 then _ else _)
          rw [if_pos rfl]; exact kg
        | some r =>
          obtain ⟨e1, e2, e3⟩ := encC_bd (okR r rfl).1
          have e3 := e3 (okR r rfl).2
          show RI (encC r) ∧ (if encC r = -1 then _ else _)
          refine ⟨e1, ?_⟩
          rw [if_neg (by omega)]
          exact c_shown (by constructor <;> omega) (okR r rfl).1 kg
  unfold P_X0_meant
  refine ⟨hq, ?_⟩
  by_cases q0 : q < 0
  · rw [if_pos q0]; exact KB m (fun _ _ _ _ => rfl) (fun z => by omega)
  rw [if_neg q0]
  by_cases q3 : q ≤ 3
  case neg => rw [if_neg q3]; exact KB m (fun _ _ _ _ => rfl) (fun z => by omega)
  rw [if_pos q3]
  have key := key (by omega) q3
  unfold mnI at key
  refine ⟨h3, ?_⟩
  by_cases a : x3 = -1
  · rw [if_pos a] at key ⊢; exact key
  rw [if_neg a] at key ⊢
  refine ⟨h4, ?_⟩
  by_cases b : x4 = -1
  · rw [if_pos b] at key ⊢; exact key
  rw [if_neg b] at key ⊢
  refine ⟨h5, ?_⟩
  by_cases c : x5 = -1
  · rw [if_pos c] at key ⊢; exact key
  rw [if_neg c] at key ⊢; exact key
theorem c_meantHM (h3 : RI x3) (h4 : RI x4) (h5 : RI x5) (hq : RI q) (H : HsM m F n nr rR resV nv vN vR varV A) (hn : n ≤ 20) (hB : HsB F n nr rR resV nv vN vR varV) (KB : ∀ m', (∀ c i, ¬ (632 ≤ c ∧ c ≤ 634) → ¬ (c = 582 ∧ 65 ≤ i ∧ i ≤ 83) → m' c i = m c i) → ¬ ((0 ≤ q ∧ q ≤ 3) ∧ 0 < mnI x3 x4 x5 ∧ gdK x3 x4 x5 nr (mnI x3 x4 x5)) → Q1 (-1) m') (KG : ∀ m', (∀ c i, ¬ (632 ≤ c ∧ c ≤ 634) → ¬ (c = 582 ∧ 65 ≤ i ∧ i ≤ 83) → m' c i = m c i) → (0 ≤ q ∧ q ≤ 3) → 0 < mnI x3 x4 x5 → gdK x3 x4 x5 nr (mnI x3 x4 x5) → RI (mtR F (pkW x1 8 0) (rlL rR x3 x4 x5 (mnI x3 x4 x5).toNat 0) n q) → Q1 (mtR F (pkW x1 8 0) (rlL rR x3 x4 x5 (mnI x3 x4 x5).toNat 0) n q) m') : P_X10_meant x1 x3 x4 x5 q m Q1 := by
  have my := mnI_cs (x3 := x3) (x4 := x4) (x5 := x5)
  unfold P_X10_meant
  refine ⟨⟨h3, ifTT ⟨h4, ifTT h5⟩⟩, ?_⟩
  show RI (mnI x3 x4 x5) ∧ (if mnI x3 x4 x5 = 0 then _ else _ ∧ (if q < 0 then _ else (if q ≤ 3 then ∃ nn, P_X10_meant_53 Q1 nn x1 x3 x4 x5 q (mnI x3 x4 x5) 0 m else _)))
  refine ⟨by constructor <;> omega, ?_⟩
  generalize hmy : mnI x3 x4 x5 = k at *
  by_cases k0 : k = 0
  · rw [if_pos k0]; exact KB m (fun _ _ _ _ => rfl) (fun z => by omega)
  rw [if_neg k0]
  refine ⟨hq, ?_⟩
  by_cases q0 : q < 0
  · rw [if_pos q0]; exact KB m (fun _ _ _ _ => rfl) (fun z => by omega)
  rw [if_neg q0]
  by_cases q3 : q ≤ 3
  case neg => rw [if_neg q3]; exact KB m (fun _ _ _ _ => rfl) (fun z => by omega)
  rw [if_pos q3]
  have okr : ∀ v, 0 ≤ v → v < nr → ok3 (rR v) := fun v v0 v1 => (hB.2.2.1 v v0 v1).1
  obtain ⟨⟨a1, -⟩, ⟨b1, b2⟩, -⟩ := H
  refine ⟨_, c_m53 h3 h4 h5 my.2 b2 (fun m1 f1 ng => KB m1 (fun c i z _ => f1 c i z) (fun z => ng z.2.2)) (fun m1 f1 v1 gd => ?_) k.toNat 0 m (by omega) (by decide) (fun _ _ _ => rfl) (fun j j0 j1 => by omega)⟩
  unfold P_X10_meant_148
  intro m2 e2
  refine ⟨9, c_pack161 (r := 8) _ (Nat.le_refl _) ?_⟩
  unfold P_X10_meant_201
  have f2 : ∀ c i, ¬ (c = 582 ∧ i = 73) → m2 c i = m1 c i := fun c i z => by rw [e2, up_ne z]
  rw [f2 582 32 (by decide), f1 582 32 (by decide), b1]
  have bk2 : BKm m2 F n := a1.fr (fun c i z => by rw [f2 c i (by omega)]; exact f1 c i (by omega))
  have len : ((rlL rR x3 x4 x5 k.toNat 0).length : Int) = k := by rw [rlL_len]; omega
  have okl : ∀ x, x ∈ rlL rR x3 x4 x5 k.toNat 0 → ok3 x ∧ x.1 < 20000 := fun x hx => by
    obtain ⟨j, j1, j2⟩ := rlL_mem _ _ _ hx
    rw [j2]
    have := gd j (by omega) (by omega)
    exact ⟨okr _ this.1 this.2, (hB.2.2.1 _ this.1 this.2).2.1⟩
  refine c_meantM bk2 (pkW_rl 8 0 (by decide)) (l := rlL rR x3 x4 x5 k.toNat 0) (by rw [e2, up_at, len]) (by omega) (fun x hx => (okl x hx).1) (fun _ => rowM_of okr k.toNat 0 (fun j j0 j1 => ⟨(v1 j j0 (by omega)).fr (fun c z => f2 c j (by omega)), gd j j0 (by omega)⟩)) (fun m3 f3 w3 => ?_)
  have kg := KG m3 (fun c i z1 z2 => by rw [f3 c i (by omega), f2 c i (by omega)]; exact f1 c i z1) ⟨by omega, q3⟩ (by omega) gd
  unfold mtR at kg
  generalize hb : bestS F (pkW x1 8 0) (rlL rR x3 x4 x5 k.toNat 0) n.toNat = b at kg w3 ⊢
  rcases b with - | ⟨j, p, R⟩
  · refine ⟨by show RI (-1); decide, ?_⟩
    show (if (-1 : Int) < 0 then _ else _)
    rw [if_pos (by decide)]; exact kg (by show RI (-1); decide)
  · obtain ⟨bd, cs, -⟩ := bestS_bd _ _ _ _ hb
    have w3 := w3 j p R rfl
    have jn : j < n := by omega
    show RI j ∧ (if j < 0 then _ else _)
    refine ⟨by constructor <;> omega, ?_⟩
    rw [if_neg (by omega)]
    refine ⟨hq, ?_⟩
    have kg : RI (if q = 0 then j else shO R q) → Q1 (if q = 0 then j else shO R q) m3 := kg
    by_cases c0 : q = 0
    · rw [if_pos c0] at kg ⊢; exact kg (by constructor <;> omega)
    rw [if_neg c0] at kg ⊢
    obtain ⟨okj, fx⟩ := a1.2 j bd.1 jn
    obtain ⟨-, rl, okR, -⟩ := candS_ok okj (fun x hx => (okl x hx).1) cs
    have e611 : m3 611 j = (F j).2.2.1 := by
      rw [f3 _ _ (by omega), f2 _ _ (by omega), f1 _ _ (by omega)]; exact fx.2.2.1
    show (0 ≤ j ∧ j < 21) ∧ RI (m3 611 j) ∧ (if m3 611 j = 0 then _ else _)
    rw [e611]
    have ok2 := okj.2.1
    refine ⟨by omega, by constructor <;> omega, ?_⟩
    cases R with
    | none =>
      rcases rl with rl | rl
      · rw [if_pos rl.2]; exact kg (by show RI (-1); decide)
      · exact absurd rfl rl.2
    | some r =>
      have ne := candS_rule cs (fun z => by cases z)
      obtain ⟨u1, u2, u3⟩ := w3 r rfl
      have lt : r.1 < 20000 := by
        rcases candS_cs cs with z | z
        · cases z
        · rcases foundS_base (R := none) (fun x hx => .inl (okl x hx).2) z.symm with t | ⟨t, t1, -⟩
          · exact t
          · cases t1
      rw [if_neg ne]
      have kg : Q1 (shW r (q - 1)) m3 := kg (shW_ri (okR r rfl).1)
      unfold shW at kg
      by_cases c1 : q = 1
      · rw [if_pos (by omega)] at kg
        rw [if_pos c1, u1, bM_lt lt]; exact kg
      rw [if_neg (by omega)] at kg
      rw [if_neg c1]
      by_cases c2 : q = 2
      · rw [if_pos (by omega)] at kg
        rw [if_pos c2, u2]; exact kg
      rw [if_neg (by omega), if_pos (by omega)] at kg
      rw [if_neg c2, u3]; exact kg
theorem h_meant (h3 : RI x3) (h4 : RI x4) (h5 : RI x5) (hq : RI q) (H : Hs m F n nr rR resV nv vN vR varV A tx sz) (K : ∀ r m', RI r → HsI m' → Q r r m') : P_X0_meant x1 x3 x4 x5 q m (fun r1 m1 => P_X10_meant x1 x3 x4 x5 q m1 (fun r2 m2 => Q r1 r2 m2)) := by
  obtain ⟨hC, hM, hT, hB⟩ := H
  have hn := hC.1.2.2.2.2.2.1.1
  have fin : ∀ (m1 m2 : MM), (∀ c i, c ≠ 581 → ¬ (c = 3 ∧ i = 7) → m1 c i = m c i) → (∀ c i, ¬ (632 ≤ c ∧ c ≤ 634) → ¬ (c = 582 ∧ 65 ≤ i ∧ i ≤ 83) → m2 c i = m1 c i) → HsI m2 := by
    intro m1 m2 f1 f2
    have g : ∀ c i, c ≠ 581 → ¬ (c = 3 ∧ i = 7) → ¬ (632 ≤ c ∧ c ≤ 634) → ¬ (c = 582 ∧ 65 ≤ i ∧ i ≤ 83) → m2 c i = m c i := fun c i z1 z2 z3 z4 => by rw [f2 c i z3 z4, f1 c i z1 z2]
    refine ⟨F, n, nr, rR, resV, nv, vN, vR, varV, A, tx, sz, hC.hf (FhC.of (fun c i z => g c i (by omega) (by omega) (by omega) (by omega)) hn.2), hM.hf hB.1.1 (FhM.of (fun c i z => g c i (by omega) (by omega) (by omega) (by omega))), ?_, hB⟩
    obtain ⟨⟨s1, s2, s3⟩, t, tt⟩ := hT
    refine ⟨⟨by rw [g _ _ (by omega) (by omega) (by omega) (by omega)]; exact s1, by rw [g _ _ (by omega) (by omega) (by omega) (by omega)]; exact s2, s3⟩, fun i i0 i1 => by rw [g 2 i (by omega) (by omega) (by omega) (by omega), g 585 i (by omega) (by omega) (by omega) (by omega)]; exact t i i0 i1, ?_⟩
    rw [g 582 10 (by omega) (by omega) (by omega) (by omega), g 582 11 (by omega) (by omega) (by omega) (by omega), g 582 90 (by omega) (by omega) (by omega) (by omega), g 582 92 (by omega) (by omega) (by omega) (by omega), g 582 84 (by omega) (by omega) (by omega) (by omega), g 582 111 (by omega) (by omega) (by omega) (by omega), g 1 9 (by omega) (by omega) (by omega) (by omega), g 1 10 (by omega) (by omega) (by omega) (by omega), g 1 11 (by omega) (by omega) (by omega) (by omega), g 1 12 (by omega) (by omega) (by omega) (by omega), g 1 13 (by omega) (by omega) (by omega) (by omega), g 1 14 (by omega) (by omega) (by omega) (by omega)]
    exact tt
  have hM1 : ∀ (m1 : MM), (∀ c i, c ≠ 581 → ¬ (c = 3 ∧ i = 7) → m1 c i = m c i) → HsM m1 F n nr rR resV nv vN vR varV A := fun m1 f1 => hM.hf hB.1.1 (FhM.of (fun c i z => f1 c i (by omega) (by omega)))
  refine c_meantHC h3 h4 h5 hq hC hB (fun m1 f1 ng => ?_) (fun m1 f1 g1 g2 g3 => ?_)
  · exact c_meantHM h3 h4 h5 hq (hM1 m1 f1) hn.2 hB (fun m2 f2 _ => K _ _ (by decide) (fin m1 m2 f1 f2)) (fun m2 f2 q1 q2 q3 _ => absurd ⟨q1, q2, q3⟩ ng)
  · exact c_meantHM h3 h4 h5 hq (hM1 m1 f1) hn.2 hB (fun m2 f2 z => absurd ⟨g1, g2, g3⟩ z) (fun m2 f2 q1 q2 q3 ri => K _ _ ri (fin m1 m2 f1 f2))
end HSF
