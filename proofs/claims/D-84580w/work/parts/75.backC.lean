set_option maxRecDepth 100000
/-! values that go back: the specification; the component -/
def okB (ch mu e s t : Int) (V : VV) : Prop := (s ≠ t → ∀ i j, (0 ≤ i ∧ i < s) → (0 ≤ j ∧ j < s) → ∀ k, (0 ≤ k ∧ k < 49) → V i j k = (if i = j then V 0 0 k else (0, 1))) ∧ (∀ i j k, (0 ≤ i ∧ i < rws t) → (0 ≤ j ∧ j < rws t) → (cof e ≤ k ∧ k < 49) → V i j k = (0, 1)) ∧ (mu = 1 → ch ≠ 0 → ∀ i j k, (0 ≤ i ∧ i < rws t) → (0 ≤ j ∧ j < rws t) → (0 ≤ k ∧ k < 49) → (V i j k).2 = 1)
def backV (s t : Int) (V : VV) : VV := fun i j k => if 0 ≤ k then (if s = t then V i j k else rvv (V 0 0) i j k) else (0, 1)
noncomputable def backS (ch mu e s t : Int) (V : VV) : EX VV := @ite _ (okB ch mu e s t V) (Classical.propDecidable _) (.ok (backV s t V)) (.error 3)
theorem backS_ok {ch mu e s t : Int} {V : VV} (h : okB ch mu e s t V) : backS ch mu e s t V = .ok (backV s t V) := if_pos h
theorem backS_no {ch mu e s t : Int} {V : VV} (h : ¬ okB ch mu e s t V) : backS ch mu e s t V = .error 3 := if_neg h
theorem NB_zero {mu : Int} {p : PP} (h : NB mu p) (h0 : p.1 = 0) : p = (0, 1) := by
  obtain ⟨h1, h2, h3, h4, h5⟩ := h
  have p2 : p.2 = 1 := by
    by_cases c : mu = 1
    · have g := h4 c
      rw [h0, Int.zero_gcd] at g
      omega
    · exact h3 c
  rw [← h0, ← p2]
theorem NB_Z {mu : Int} {p : PP} (h : NB mu p) (h2 : p.2 = 1) : NB 0 p := ⟨h.1, h.2.1, fun _ => h2, fun z => absurd z (by decide), fun z => absurd z (by decide)⟩
theorem backV_val {s t i j k : Int} {V : VV} (hst : s = t ∨ t = 0) (hk : 0 ≤ k) (hi : 0 ≤ i ∧ i < rws t) (hj : 0 ≤ j ∧ j < rws t) : backV s t V i j k = V i j k := by
  unfold backV
  rw [if_pos hk]
  by_cases c2 : s = t
  · rw [if_pos c2]
  · rw [if_neg c2]
    have t0 : t = 0 := by omega
    subst t0
    have r0 : rws 0 = 1 := rfl
    rw [show i = 0 by omega, show j = 0 by omega, rvv_at]
theorem backV_NN {ch mu d e s t : Int} {V : VV} (hM : MU mu) (hst : s = t ∨ t = 0) (he : 0 ≤ e ∧ e ≤ 2) (hd : 0 ≤ d ∧ d ≤ 2) (nV : NN mu d s V) (h : okB ch mu e s t V) : NN (if ch = 0 then mu else 0) e t (backV s t V) := by
  have hc := cof_bd hd
  have out : ∀ i j k, ¬ ((0 ≤ i ∧ i < rws t) ∧ (0 ≤ j ∧ j < rws t) ∧ k < cof e) → backV s t V i j k = (0, 1) := by
    intro i j k hn
    by_cases ck : 0 ≤ k
    · by_cases c : (0 ≤ i ∧ i < rws t) ∧ (0 ≤ j ∧ j < rws t)
      · rw [backV_val hst ck c.1 c.2]
        by_cases c3 : k < 49
        · exact h.2.1 i j k c.1 c.2 (by omega)
        · exact nV.2 i j k (by omega)
      · unfold backV
        rw [if_pos ck]
        by_cases c2 : s = t
        · subst c2
          rw [if_pos rfl]
          exact nV.2 i j k (by omega)
        · rw [if_neg c2]
          have t0 : t = 0 := by omega
          subst t0
          have r0 : rws 0 = 1 := rfl
          rw [rvv_ne (by omega)]
          rfl
    · unfold backV
      rw [if_neg ck]
  have m0 : MU (if ch = 0 then mu else 0) := by split <;> omega
  refine ⟨fun i j k => ?_, out⟩
  by_cases c : ((0 ≤ i ∧ i < rws t) ∧ (0 ≤ j ∧ j < rws t) ∧ k < cof e) ∧ 0 ≤ k
  · rw [backV_val hst c.2 c.1.1 c.1.2.1]
    by_cases c0 : ch = 0
    · rw [if_pos c0]; exact nV.1 i j k
    · rw [if_neg c0]
      refine NB_Z (nV.1 i j k) ?_
      by_cases c1 : mu = 1
      · have := cof_bd he
        exact h.2.2 c1 c0 i j k c.1.1 c.1.2.1 (by omega)
      · exact (nV.1 i j k).2.2.1 c1
  · by_cases ck : 0 ≤ k
    · rw [out i j k (fun z => c ⟨z, ck⟩)]; exact NB_zr m0
    · unfold backV
      rw [if_neg ck]; exact NB_zr m0
/-! blocks of values -/
theorem VC.blk {g : Int → Int} {x d s : Int} {V : VV} (h : VC g x d s V) (hs : 0 ≤ s ∧ s ≤ 3) (l : Int) (hl : 0 ≤ l ∧ l < enn s) : Rw g (x + 2 * cof d * l) (V (l / rws s) (l % rws s)) (cof d) := by
  have key : (0 ≤ l / rws s ∧ l / rws s < rws s) ∧ (0 ≤ l % rws s ∧ l % rws s < rws s) ∧ s * (l / rws s) + l % rws s = l := by
    rcases enn_cs hs with ⟨a1, a2, a3⟩ | ⟨a1, a2, a3⟩ | ⟨a1, a2, a3⟩ | ⟨a1, a2, a3⟩ <;> rw [a2] at hl <;> rw [a3] <;> subst a1 <;> omega
  have := h (l / rws s) (l % rws s) key.1 key.2.1
  unfold EA at this
  rw [key.2.2] at this
  exact this
theorem VC.ofb {g : Int → Int} {x d s : Int} {V : VV} (hs : 0 ≤ s ∧ s ≤ 3) (h : ∀ l, (0 ≤ l ∧ l < enn s) → Rw g (x + 2 * cof d * l) (V (l / rws s) (l % rws s)) (cof d)) : VC g x d s V := by
  intro i j hi hj
  have key : (0 ≤ s * i + j ∧ s * i + j < enn s) ∧ (s * i + j) / rws s = i ∧ (s * i + j) % rws s = j := by
    rcases enn_cs hs with ⟨a1, a2, a3⟩ | ⟨a1, a2, a3⟩ | ⟨a1, a2, a3⟩ | ⟨a1, a2, a3⟩ <;> rw [a3] at hi hj ⊢ <;> rw [a2] <;> subst a1 <;> omega
  have := h (s * i + j) key.1
  rw [key.2.1, key.2.2] at this
  exact this
section BACKC
variable {Q : Int → MM → Prop} {r r' b c d e s t mu x : Int} {V : VV}
/-- an entry is good -/
def gdB (d e s t : Int) (V : VV) (l : Int) : Prop := if s ≠ t ∧ l / rws s ≠ l % rws s then (∀ k, 0 ≤ k → k < cof d → V (l / rws s) (l % rws s) k = (0, 1)) else (∀ k, cof e ≤ k → k < cof d → V (l / rws s) (l % rws s) k = (0, 1)) ∧ (s ≠ t → ∀ k, 0 ≤ k → k < cof e → V (l / rws s) (l % rws s) k = V 0 0 k)
theorem okB_gd {ch : Int} (hd : 0 ≤ d ∧ d ≤ 2) (he : 0 ≤ e ∧ e ≤ 2) (hde : e ≤ d) (hs : 0 ≤ s ∧ s ≤ 3) (hst : s = t ∨ t = 0) (nV : NN mu d s V) : okB ch mu e s t V ↔ (∀ l, 0 ≤ l → l < enn s → gdB d e s t V l) ∧ (mu = 1 → ch ≠ 0 → ∀ i j k, (0 ≤ i ∧ i < rws t) → (0 ≤ j ∧ j < rws t) → (0 ≤ k ∧ k < 49) → (V i j k).2 = 1) := by
  have hc := cof_bd hd
  have hc' := cof_bd he
  have cd : cof e ≤ cof d := by
    rcases cof_cs hd with ⟨a, b⟩ | ⟨a, b⟩ | ⟨a, b⟩ <;> rcases cof_cs he with ⟨a', b'⟩ | ⟨a', b'⟩ | ⟨a', b'⟩ <;> omega
  have ix : ∀ l, 0 ≤ l → l < enn s → (0 ≤ l / rws s ∧ l / rws s < rws s) ∧ (0 ≤ l % rws s ∧ l % rws s < rws s) := by
    intro l l0 l1
    rcases enn_cs hs with ⟨a1, a2, a3⟩ | ⟨a1, a2, a3⟩ | ⟨a1, a2, a3⟩ | ⟨a1, a2, a3⟩ <;> rw [a2] at l1 <;> rw [a3] <;> omega
  have xi : ∀ i j, (0 ≤ i ∧ i < rws s) → (0 ≤ j ∧ j < rws s) → ∃ l, (0 ≤ l ∧ l < enn s) ∧ l / rws s = i ∧ l % rws s = j := by
    intro i j hi hj
    refine ⟨s * i + j, ?_⟩
    rcases enn_cs hs with ⟨a1, a2, a3⟩ | ⟨a1, a2, a3⟩ | ⟨a1, a2, a3⟩ | ⟨a1, a2, a3⟩ <;> rw [a3] at hi hj ⊢ <;> rw [a2] <;> subst a1 <;> omega
  constructor
  · intro h
    refine ⟨fun l l0 l1 => ?_, h.2.2⟩
    obtain ⟨i1, i2⟩ := ix l l0 l1
    unfold gdB
    by_cases cc : s ≠ t ∧ l / rws s ≠ l % rws s
    · rw [if_pos cc]
      intro k k0 k1
      have rs : rws s = s := by unfold rws; omega
      have := h.1 cc.1 (l / rws s) (l % rws s) (by omega) (by omega) k (by omega)
      rw [if_neg cc.2] at this
      exact this
    · rw [if_neg cc]
      by_cases cst : s = t
      · subst cst
        exact ⟨fun k k0 k1 => h.2.1 _ _ k i1 i2 (by omega), fun z => absurd rfl z⟩
      · have rs : rws s = s := by unfold rws; omega
        have t0 : t = 0 := by omega
        subst t0
        have r0 : rws 0 = 1 := rfl
        have eq : l / rws s = l % rws s := by
          by_cases z : l / rws s = l % rws s
          · exact z
          · exact absurd ⟨cst, z⟩ cc
        have dg : ∀ k, (0 ≤ k ∧ k < 49) → V (l / rws s) (l % rws s) k = V 0 0 k := by
          intro k hk
          have := h.1 cst (l / rws s) (l % rws s) (by omega) (by omega) k hk
          rw [if_pos eq] at this
          exact this
        exact ⟨fun k k0 k1 => by rw [dg k (by omega)]; exact h.2.1 0 0 k (by omega) (by omega) (by omega), fun _ k k0 k1 => dg k (by omega)⟩
  · rintro ⟨h, h3⟩
    refine ⟨fun cst i j hi hj k hk => ?_, fun i j k hi hj hk => ?_, h3⟩
    · have rs : rws s = s := by unfold rws; omega
      obtain ⟨l, l0, l1, l2⟩ := xi i j (by omega) (by omega)
      obtain ⟨o, o0, o1, o2⟩ := xi 0 0 (by omega) (by omega)
      have g := h l l0.1 l0.2
      have g0 := h o o0.1 o0.2
      unfold gdB at g g0
      rw [l1, l2] at g
      rw [o1, o2, if_neg (by omega)] at g0
      by_cases cij : i = j
      · subst cij
        rw [if_neg (by omega)] at g
        rw [if_pos rfl]
        by_cases ck : k < cof e
        · exact g.2 cst k hk.1 ck
        · by_cases ck2 : k < cof d
          · rw [g.1 k (by omega) ck2, g0.1 k (by omega) ck2]
          · rw [nV.2 i i k (by omega), nV.2 0 0 k (by omega)]
      · rw [if_pos ⟨cst, cij⟩] at g
        rw [if_neg cij]
        by_cases ck2 : k < cof d
        · exact g k hk.1 ck2
        · exact nV.2 i j k (by omega)
    · by_cases ck2 : k < cof d
      · by_cases cst : s = t
        · subst cst
          obtain ⟨l, l0, l1, l2⟩ := xi i j hi hj
          have g := h l l0.1 l0.2
          unfold gdB at g
          rw [if_neg (fun z => z.1 rfl), l1, l2] at g
          exact g.1 k hk.1 ck2
        · have t0 : t = 0 := by omega
          subst t0
          have r0 : rws 0 = 1 := rfl
          have rs : 1 ≤ rws s := by unfold rws; omega
          obtain ⟨o, o0, o1, o2⟩ := xi 0 0 (by omega) (by omega)
          have g0 := h o o0.1 o0.2
          unfold gdB at g0
          rw [o1, o2, if_neg (by omega)] at g0
          rw [show i = 0 by omega, show j = 0 by omega]
          exact g0.1 k hk.1 ck2
      · exact nV.2 i j k (by omega)
theorem upup {m : MM} {a i v w : Int} : up (up m a i v) a i w = up m a i w := by
  funext p q
  by_cases z : p = a ∧ q = i
  · rw [z.1, z.2, up_at, up_at]
  · rw [up_ne z, up_ne z, up_ne z]
/-- nothing but the error is another one -/
def ErB (m m' : MM) (ok : Prop) : Prop := (ok → m' = m) ∧ (¬ ok → m' = up m 378 2 3)
theorem ErB.at {m m' : MM} {ok : Prop} (h : ErB m m' ok) {i : Int} : m' 379 i = m 379 i := by
  by_cases c : ok
  · rw [h.1 c]
  · rw [h.2 c, up_ne (fun z => absurd z.1 (by decide))]
theorem ErB.nx {m m' : MM} {ok g ok' : Prop} (h : ErB m m' ok) (hg : ok' ↔ ok ∧ g) : (g → ErB m m' ok') ∧ (¬ g → ErB m (up m' 378 2 3) ok') := by
  refine ⟨fun z => ⟨fun o => h.1 (hg.1 o).1, fun o => h.2 (fun o2 => o (hg.2 ⟨o2, z⟩))⟩, fun z => ⟨fun o => absurd (hg.1 o).2 z, fun _ => ?_⟩⟩
  by_cases c : ok
  · rw [h.1 c]
  · rw [h.2 c, upup]
theorem backC_211 {K43 : Int → Int → Int → Int → Int → Int → Int → Int → Int → MM → Prop} {m m' : MM} {ok g ok' : Prop} {x4 x5 x6 x7 x8 x9 x12 : Int} (h : ErB m m' ok) (hg : ok' ↔ ok ∧ g) (h1 : (x12 = 1 ∧ g) ∨ (x12 = 0 ∧ ¬ g)) (k : ∀ m2, ErB m m2 ok' → K43 r r' x x4 x5 x6 x7 x8 (x9 + 1) m2) : P_X8_back_211 Q K43 r r' x x4 x5 x6 x7 x8 x9 x12 m' := by
  refine ⟨by constructor <;> omega, ?_⟩
  rcases h1 with ⟨a, z⟩ | ⟨a, z⟩
  · rw [if_neg (by omega)]
    exact k m' ((h.nx hg).1 z)
  · rw [if_pos a]
    rintro _ rfl
    exact k _ ((h.nx hg).2 z)
/-- comparing an entry with the first one -/
theorem backC_120 {K43 : Int → Int → Int → Int → Int → Int → Int → Int → Int → MM → Prop} {m' : MM} {x4 x5 x7 x9 ce y : Int} {u v : Int → PP} (g : Prop) (hc : 1 ≤ ce ∧ ce ≤ 49) (hy : Cl y (2 * ce)) (hx : Cl x (2 * ce)) (ru : Rw (m' 379) y u ce) (rv' : Rw (m' 379) x v ce) (nu : NBs mu u ce) (nv : NBs mu v ce) (fin : ∀ x12, (x12 = 1 ∧ (∀ k, 0 ≤ k → k < ce → u k = v k)) ∨ (x12 = 0 ∧ ¬ (∀ k, 0 ≤ k → k < ce → u k = v k)) → P_X8_back_211 Q K43 r r' x x4 x5 ce x7 1 x9 x12 m') : ∀ (n : Nat) (k : Int), 0 ≤ k → k + n = ce → (∀ l, 0 ≤ l → l < k → u l = v l) → P_X8_back_120 Q K43 (n + 2) r r' x x4 x5 ce x7 1 x9 0 y 1 k m' := by
  have bad : ∀ (n : Nat) (k : Int), 0 ≤ k → k < ce → u k ≠ v k → P_X8_back_120 Q K43 (n + 1) r r' x x4 x5 ce x7 1 x9 0 y 0 (k + 1) m' := by
    intro n k k0 k1 hne
    refine ⟨by decide, ?_⟩
    rw [if_pos rfl]
    exact fin 0 (Or.inr ⟨rfl, fun z => hne (z k k0 k1)⟩)
  intro n
  induction n with
  | zero =>
    intro k k0 k1 hk
    refine ⟨by decide, ?_⟩
    rw [if_neg (by decide)]
    refine ⟨by decide, ?_⟩
    rw [if_neg (by decide)]
    refine ⟨by decide, ?_⟩
    rw [if_pos rfl]
    refine ⟨by constructor <;> omega, by constructor <;> omega, ?_⟩
    rw [if_pos (by omega)]
    have : k = ce := by omega
    subst this
    exact fin 1 (Or.inl ⟨rfl, hk⟩)
  | succ n ih =>
    intro k k0 k1 hk
    refine ⟨by decide, ?_⟩
    rw [if_neg (by decide)]
    refine ⟨by decide, ?_⟩
    rw [if_neg (by decide)]
    refine ⟨by decide, ?_⟩
    rw [if_pos rfl]
    refine ⟨by constructor <;> omega, by constructor <;> omega, ?_⟩
    rw [if_neg (by omega)]
    have a := ru k k0 (by omega)
    have b := rv' k k0 (by omega)
    have na := nu k k0 (by omega)
    have nb := nv k k0 (by omega)
    have a1 := na.p1
    have a2 := na.p2
    have b1 := nb.p1
    have b2 := nb.p2
    rw [a.1, a.2, b.1, b.2]
    refine ⟨by omega, by omega, by constructor <;> omega, by constructor <;> omega, ?_⟩
    by_cases c1 : (u k).1 = (v k).1
    · rw [if_pos c1]
      refine ⟨by omega, by omega, by constructor <;> omega, by constructor <;> omega, ?_⟩
      by_cases c2 : (u k).2 = (v k).2
      · rw [if_pos c2]
        refine ih (k + 1) (by omega) (by omega) (fun l l0 l1 => ?_)
        by_cases cl : l = k
        · rw [cl]; exact Prod.ext c1 c2
        · exact hk l l0 (by omega)
      · rw [if_neg c2]
        exact bad (n + 1) k k0 (by omega) (fun z => c2 (by rw [z]))
    · rw [if_neg c1]
      exact bad (n + 1) k k0 (by omega) (fun z => c1 (by rw [z]))
theorem allZ_NB {u : Int → PP} {n : Nat} {i : Int} (h : ∀ k, NB mu (u k)) : allZ u n i = true ↔ ∀ j, i ≤ j → j < i + n → u j = (0, 1) := by
  rw [allZ_iff]
  constructor
  · intro z j j0 j1
    exact NB_zero (h j) (z j j0 j1)
  · intro z j j0 j1
    rw [z j j0 j1]
/-- the loop over entries -/
theorem backC_43 {m : MM} (hR : RG r b d s) (hR' : RG r' c e t) (hde : e ≤ d) (hst : s = t ∨ t = 0) (hx : 0 ≤ x ∧ x + 882 ≤ 1155420) (vx : VC (m 379) x d s V) (nV : NN mu d s V) (x8 : Int) (h8 : x8 = if s = t then 0 else 1) (fin : ∀ m', ErB m m' (∀ l, 0 ≤ l → l < enn s → gdB d e s t V l) → P_X8_back_227 Q r r' x (cof d) (cof e) m') : ∀ (n : Nat) (l : Int) (m' : MM), 0 ≤ l → l + n = enn s → ErB m m' (∀ q, 0 ≤ q → q < l → gdB d e s t V q) → P_X8_back_43 Q (n + 1) r r' x (cof d) (enn s) (cof e) s x8 l m' := by
  obtain ⟨-, hb, hd, hs⟩ := id hR
  obtain ⟨-, hb', he, ht⟩ := id hR'
  have hc := cof_bd hd
  have hc' := cof_bd he
  have cd : cof e ≤ cof d := by
    rcases cof_cs hd with ⟨a, b⟩ | ⟨a, b⟩ | ⟨a, b⟩ <;> rcases cof_cs he with ⟨a', b'⟩ | ⟨a', b'⟩ | ⟨a', b'⟩ <;> omega
  have vb := VS_bd hd hs
  have ve : VS d s = 2 * cof d * enn s := rfl
  have es := enn_cs hs
  intro n
  induction n with
  | zero =>
    intro l m' l0 l1 er
    refine ⟨by constructor <;> omega, by constructor <;> omega, ?_⟩
    rw [if_pos (by omega)]
    have : l = enn s := by omega
    subst this
    exact fin m' er
  | succ n ih =>
    intro l m' l0 l1 er
    refine ⟨by constructor <;> omega, by constructor <;> omega, ?_⟩
    rw [if_neg (by omega)]
    have bd := blk_bd (c := cof d) (N := enn s) (by omega) (show 0 ≤ l ∧ l < enn s by omega)
    have row : Rw (m' 379) (x + 2 * cof d * l) (V (l / rws s) (l % rws s)) (cof d) := by
      intro k k0 k1
      rw [er.at, er.at]
      exact vx.blk hs l (by omega) k k0 k1
    have row0 : Rw (m' 379) x (V 0 0) (cof d) := by
      intro k k0 k1
      rw [er.at, er.at]
      have q := vx.blk hs 0 (by omega) k k0 k1
      rw [Int.zero_ediv, Int.zero_emod, Int.mul_zero, Int.add_zero] at q
      exact q
    have stp : (∀ q, 0 ≤ q → q < l + 1 → gdB d e s t V q) ↔ (∀ q, 0 ≤ q → q < l → gdB d e s t V q) ∧ gdB d e s t V l := by
      constructor
      · intro z
        exact ⟨fun q q0 q1 => z q q0 (by omega), z l l0 (by omega)⟩
      · rintro ⟨z1, z2⟩ q q0 q1
        by_cases cq : q = l
        · rw [cq]; exact z2
        · exact z1 q q0 (by omega)
    have nrow : ∀ k, NB mu (V (l / rws s) (l % rws s) k) := fun k => nV.1 _ _ k
    have go : ∀ (x12 : Int), (x12 = 1 ∧ gdB d e s t V l) ∨ (x12 = 0 ∧ ¬ gdB d e s t V l) → P_X8_back_211 Q (fun z0 z1 z2 z3 z4 z5 z6 z7 z8 z9 => P_X8_back_43 Q (n + 1) z0 z1 z2 z3 z4 z5 z6 z7 z8 z9) r r' x (cof d) (enn s) (cof e) s x8 l x12 m' := fun x12 hh => backC_211 er stp hh (fun m2 e2 => ih (l + 1) m2 (by omega) (by omega) e2)
    by_cases cst : s = t
    · rw [if_pos cst] at h8
      subst h8
      refine ⟨⟨by decide, by rw [if_pos rfl]; trivial⟩, by rw [if_pos rfl]; decide, ?_⟩
      rw [if_pos (if_pos rfl), if_pos rfl]
      have sub := row.sub (k := cof e) (l := cof d - cof e) (by omega) (by omega)
      rw [← show (((cof d - cof e).toNat : Nat) : Int) = cof d - cof e by omega] at sub ⊢
      refine c_X8_isClear (n := (cof d - cof e).toNat) (u := fun j => V (l / rws s) (l % rws s) (cof e + j)) (by omega) (by omega) sub (fun k _ _ => by have := (nrow (cof e + k)).p1; constructor <;> omega) ?_
      have gq : gdB d e s t V l ↔ allZ (fun j => V (l / rws s) (l % rws s) (cof e + j)) (cof d - cof e).toNat 0 = true := by
        rw [allZ_NB (mu := mu) (fun k => nrow _)]
        unfold gdB
        rw [if_neg (fun z => z.1 cst)]
        constructor
        · intro z j j0 j1
          exact z.1 (cof e + j) (by omega) (by omega)
        · intro z
          refine ⟨fun k k0 k1 => ?_, fun z => absurd cst z⟩
          have := z (k - cof e) (by omega) (by omega)
          rw [show cof e + (k - cof e) = k by omega] at this
          exact this
      refine ⟨1, ?_⟩
      by_cases ga : allZ (fun j => V (l / rws s) (l % rws s) (cof e + j)) (cof d - cof e).toNat 0 = true
      · rw [if_pos ga]
        refine ⟨by decide, ?_⟩
        rw [if_neg (by decide)]
        refine ⟨by decide, ?_⟩
        rw [if_pos rfl]
        exact go 1 (Or.inl ⟨rfl, gq.2 ga⟩)
      · rw [if_neg ga]
        refine ⟨by decide, ?_⟩
        rw [if_pos rfl]
        exact go 0 (Or.inr ⟨rfl, fun z => ga (gq.1 z)⟩)
    · rw [if_neg cst] at h8
      subst h8
      have rs : rws s = s := by unfold rws; omega
      have crn : Int.tmod l (s + 1) = 0 ↔ l / rws s = l % rws s := by
        rw [tmod_pos l0, rs]
        rcases es with ⟨a1, a2, a3⟩ | ⟨a1, a2, a3⟩ | ⟨a1, a2, a3⟩ | ⟨a1, a2, a3⟩ <;> subst a1 <;> rw [a2] at l1 <;> omega
      have rti : RI (Int.tmod l (s + 1)) := by
        rw [tmod_pos l0]
        have a := Int.emod_nonneg l (show s + 1 ≠ 0 by omega)
        have b := Int.emod_lt_of_pos l (show 0 < s + 1 by omega)
        constructor <;> omega
      by_cases cdg : l / rws s = l % rws s
      · have tz := crn.2 cdg
        have x10 : (if (1 : Int) = 0 then (0 : Int) else (if (Int.tmod l (s + 1)) = 0 then 0 else 1 : Int)) = 0 := by rw [if_neg (by decide), if_pos tz]
        refine ⟨⟨by decide, by rw [if_neg (by decide)]; exact ⟨by constructor <;> omega, by omega, rti⟩⟩, by rw [x10]; decide, ?_⟩
        rw [x10, if_pos rfl]
        have sub := row.sub (k := cof e) (l := cof d - cof e) (by omega) (by omega)
        rw [← show (((cof d - cof e).toNat : Nat) : Int) = cof d - cof e by omega] at sub ⊢
        refine c_X8_isClear (n := (cof d - cof e).toNat) (u := fun j => V (l / rws s) (l % rws s) (cof e + j)) (by omega) (by omega) sub (fun k _ _ => by have := (nrow (cof e + k)).p1; constructor <;> omega) ?_
        have ga : allZ (fun j => V (l / rws s) (l % rws s) (cof e + j)) (cof d - cof e).toNat 0 = true ↔ ∀ k, cof e ≤ k → k < cof d → V (l / rws s) (l % rws s) k = (0, 1) := by
          rw [allZ_NB (mu := mu) (fun k => nrow _)]
          constructor
          · intro z k k0 k1
            have := z (k - cof e) (by omega) (by omega)
            rw [show cof e + (k - cof e) = k by omega] at this
            exact this
          · intro z j j0 j1
            exact z (cof e + j) (by omega) (by omega)
        have gq : gdB d e s t V l ↔ (∀ k, cof e ≤ k → k < cof d → V (l / rws s) (l % rws s) k = (0, 1)) ∧ (∀ k, 0 ≤ k → k < cof e → V (l / rws s) (l % rws s) k = V 0 0 k) := by
          unfold gdB
          rw [if_neg (fun z => z.2 cdg)]
          exact ⟨fun z => ⟨z.1, z.2 cst⟩, fun z => ⟨z.1, fun _ => z.2⟩⟩
        by_cases gz : allZ (fun j => V (l / rws s) (l % rws s) (cof e + j)) (cof d - cof e).toNat 0 = true
        · rw [if_pos gz]
          refine ⟨(cof e).toNat + 2, backC_120 (mu := mu) (u := V (l / rws s) (l % rws s)) (v := V 0 0) True ⟨hc'.1, hc'.2⟩ (by omega) (by omega) (row.le cd) (row0.le cd) (fun k _ _ => nrow k) (fun k _ _ => nV.1 0 0 k) (fun x12 h12 => go x12 ?_) (cof e).toNat 0 (by decide) (by omega) (fun q q0 q1 => by omega)⟩
          rcases h12 with ⟨a, z⟩ | ⟨a, z⟩
          · exact Or.inl ⟨a, gq.2 ⟨ga.1 gz, z⟩⟩
          · exact Or.inr ⟨a, fun g => z (gq.1 g).2⟩
        · rw [if_neg gz]
          refine ⟨1, by decide, ?_⟩
          rw [if_pos rfl]
          exact go 0 (Or.inr ⟨rfl, fun g => gz (ga.2 (gq.1 g).1)⟩)
      · have tz : ¬ Int.tmod l (s + 1) = 0 := fun z => cdg (crn.1 z)
        have x10 : (if (1 : Int) = 0 then (0 : Int) else (if (Int.tmod l (s + 1)) = 0 then 0 else 1 : Int)) = 1 := by rw [if_neg (by decide), if_neg tz]
        refine ⟨⟨by decide, by rw [if_neg (by decide)]; exact ⟨by constructor <;> omega, by omega, rti⟩⟩, by rw [x10]; decide, ?_⟩
        rw [x10, if_neg (by decide)]
        have row2 := row.le (show (((cof d).toNat : Nat) : Int) ≤ cof d by omega)
        have key := c_X8_isClear (Q := fun r2 m2 => ∃ nn, P_X8_back_120 Q (fun z0 z1 z2 z3 z4 z5 z6 z7 z8 z9 => P_X8_back_43 Q (n + 1) z0 z1 z2 z3 z4 z5 z6 z7 z8 z9) nn r r' x (cof d) (enn s) (cof e) s 1 l 1 (x + 2 * cof d * l) r2 0 m2) (m := m') (at_ := x + 2 * cof d * l) (n := (cof d).toNat) (u := V (l / rws s) (l % rws s)) (by omega) (by omega) row2 (fun k _ _ => by have := (nrow k).p1; constructor <;> omega) ?_
        · rw [show (((cof d).toNat : Nat) : Int) = cof d by omega] at key
          exact key
        have ga : gdB d e s t V l ↔ allZ (V (l / rws s) (l % rws s)) (cof d).toNat 0 = true := by
          rw [allZ_NB (mu := mu) nrow]
          unfold gdB
          rw [if_pos ⟨cst, cdg⟩]
          exact ⟨fun z j j0 j1 => z j j0 (by omega), fun z k k0 k1 => z k k0 (by omega)⟩
        refine ⟨1, ?_⟩
        by_cases gz : allZ (V (l / rws s) (l % rws s)) (cof d).toNat 0 = true
        · rw [if_pos gz]
          refine ⟨by decide, ?_⟩
          rw [if_neg (by decide)]
          refine ⟨by decide, ?_⟩
          rw [if_neg (by decide)]
          refine ⟨by decide, ?_⟩
          rw [if_neg (by decide)]
          exact go 1 (Or.inl ⟨rfl, ga.2 gz⟩)
        · rw [if_neg gz]
          refine ⟨by decide, ?_⟩
          rw [if_pos rfl]
          exact go 0 (Or.inr ⟨rfl, fun z => gz (ga.1 z)⟩)
end BACKC
