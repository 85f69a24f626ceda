set_option maxRecDepth 100000
/-! values of rings; what goes where; the model's pile -/
/-- the modulus of a base, where an F unlike all others has a number -/
def muR (b mo : Int) : Int := if b = -2 then 0 else if b < 20000 then b else mo
/-- that number is one -/
def okMo (b mo : Int) : Prop := (b = 20000 → PRI mo ∧ mo ≤ 9973) ∧ (b = 20001 → 2 ≤ mo ∧ mo ≤ 9973)
theorem muR_MU {b mo : Int} (hb : b = -2 ∨ okb b) (hm : okMo b mo) : MU (muR b mo) := by
  have h1 := hm.1
  have h2 := hm.2
  unfold muR
  split
  · decide
  · split
    · omega
    · rcases (show b = 20000 ∨ b = 20001 by omega) with z | z
      · have := h1 z
        have := this.1.1
        omega
      · have := h2 z
        omega
theorem muR_C {m : MM} {b mo : Int} (hb : okb b) (hmo : m 378 1 = mo) : muC m b = muR b mo := by
  unfold muC muR
  rw [if_neg (show ¬ b = -2 by omega), hmo]
theorem muR_M {m : MM} {b mo : Int} (hb : okb b) (hmo : m 582 89 = mo) : muM m (bM b) = muR b mo := by
  have hc := bM_cs b
  unfold muM muR
  rw [hmo, if_neg (show ¬ b = -2 by omega)]
  rcases hc with ⟨a, z⟩ | ⟨a, z⟩ | ⟨a, z1, z2⟩
  · rw [a, if_pos rfl, if_neg (by omega)]
  · rw [a, if_neg (by decide), if_pos rfl, if_neg (by omega)]
  · rw [a, if_neg (by omega), if_neg (by omega), if_pos (by omega)]
theorem muR_BM {m : MM} {b mo : Int} (hb : okb b) (hm : okMo b mo) (hmo : m 582 89 = mo) : BM m (bM b) (muR b mo) := by
  have hbd := bM_bd (Or.inr hb)
  have mu := muR_MU (Or.inr hb) hm
  have h1 := hm.1
  have h2 := hm.2
  have hc := bM_cs b
  refine ⟨by omega, by omega, muR_M hb hmo, mu, fun z => ?_⟩
  unfold muR
  rw [if_neg (show ¬ b = -2 by omega)]
  split
  · omega
  · rcases (show b = 20000 ∨ b = 20001 by omega) with w | w
    · have := (h1 w).1.1
      omega
    · have := h2 w
      omega
theorem muR_FD {b mo : Int} (hb : okb b) (hm : okMo b mo) (hf : isFb b) : FD (muR b mo) := by
  unfold muR
  rw [if_neg (show ¬ b = -2 by omega)]
  rcases hf with z | z | z
  · rw [if_pos (by omega)]; exact Or.inl z
  · rw [if_neg (by omega)]; exact Or.inr (hm.1 z).1
  · rw [if_pos (by omega)]; exact Or.inr z.2
/-- a value of a ring -/
def VR (mo : Int) (x : R3) (V : VV) : Prop := NN (muR x.1 mo) x.2.1 x.2.2 V ∧ (x.1 = -2 → V 0 0 0 = (0, 1) ∨ V 0 0 0 = (1, 1))
def conv (mo : Int) (x z : R3) (V : VV) : VV := goV (if x.1 = z.1 then 0 else 1) (muR z.1 mo) x.2.2 z.2.2 V
/-- x goes to z -/
def gs (x z : R3) : Prop := jn x z = some z
theorem gs_vals {x z : R3} (hx : ok3 x) (hz : ok3 z) (h : gs x z) : (x.1 = z.1 ∨ x.1 = 0 ∧ z.1 ≠ -2) ∧ x.2.1 ≤ z.2.1 ∧ (x.2.2 = z.2.2 ∨ x.2.2 = 0) ∧ (x.1 = -2 → x = z) ∧ (z.1 = -2 → x = z) := by
  unfold gs jn at h
  split at h
  case isTrue c => subst c; exact ⟨Or.inl rfl, Int.le_refl _, Or.inl rfl, fun _ => rfl, fun _ => rfl⟩
  case isFalse c =>
    split at h
    · cases h
    case isFalse c2 =>
      split at h
      case isTrue c3 =>
        have e := Option.some.inj h
        have e1 : (if x.1 = 0 then z.1 else x.1) = z.1 := congrArg (fun q : R3 => q.1) e
        have e2 : max x.2.1 z.2.1 = z.2.1 := congrArg (fun q : R3 => q.2.1) e
        have e3 : max x.2.2 z.2.2 = z.2.2 := congrArg (fun q : R3 => q.2.2) e
        refine ⟨?_, by omega, ?_, fun w => absurd (Or.inl w) c2, fun w => absurd (Or.inr w) c2⟩
        · by_cases w : x.1 = 0
          · exact Or.inr ⟨w, fun q => c2 (Or.inr q)⟩
          · rw [if_neg w] at e1; exact Or.inl e1
        · have := hx
          have := hz
          unfold ok3 at hx hz
          omega
      · cases h
theorem conv_VR {mo : Int} {x z : R3} {V : VV} (hx : ok3 x) (hz : ok3 z) (hm : okMo z.1 mo) (h : gs x z) (v : VR mo x V) : VR mo z (conv mo x z V) := by
  obtain ⟨g1, g2, g3, g4, g5⟩ := gs_vals hx hz h
  have mz := muR_MU (ok3_b hz) hm
  have dx : (0 ≤ x.2.1 ∧ x.2.1 ≤ 2) ∧ (0 ≤ z.2.1 ∧ z.2.1 ≤ 2) := by unfold ok3 at hx hz; omega
  refine ⟨goV_NN mz dx.1 dx.2 g2 (fun c => ?_) (fun c => ?_), fun w => ?_⟩
  · have e : x.1 = z.1 := by
      by_cases q : x.1 = z.1
      · exact q
      · rw [if_neg q] at c; exact absurd c (by decide)
    rw [← e]
    exact v.1
  · have e : ¬ x.1 = z.1 := fun q => c (by rw [if_pos q])
    have x0 : x.1 = 0 := by omega
    have : muR x.1 mo = 0 := by unfold muR; rw [if_neg (by omega), if_pos (by omega), x0]
    have n := v.1
    rw [this] at n
    exact n
  · have e := g5 w
    subst e
    have : conv mo x x V = V := by
      funext i j k
      unfold conv goV gC
      rw [if_pos rfl, if_pos rfl]
      rfl
    rw [this]
    exact v.2 w
/-- no ring: nothing changes -/
theorem conv_self {mo : Int} {x : R3} {V : VV} : conv mo x x V = V := by
  funext i j k
  unfold conv goV gC
  rw [if_pos rfl, if_pos rfl]
  rfl
section CONV
variable {Q : Int → MM → Prop} {mo : Int} {x z : R3} {V W : VV} {l : List SV}
/-- the component's conversion of the value on top -/
theorem c_conv {m : MM} (hx : ok3 x) (hz : ok3 z) (hm : okMo z.1 mo) (hg : gs x z) (hne : x ≠ z) (hmo : m 378 1 = mo) (hst : stG m ((x.2.1, x.2.2, V) :: l)) (hl : l.length ≤ 1298) (ht : m 376 8 = (l.length : Int) + 1) (ar : AR (m 376 19) (m 376 20)) (v : VR mo x V) (h : ∀ m', FKm m m' → m' 378 2 = m 378 2 → stG m' ((z.2.1, z.2.2, conv mo x z V) :: l) → m' 376 8 = (l.length : Int) + 1 → Q 0 m') : P_X6_perform 6 (encC x) (encC z) m Q := by
  obtain ⟨g1, g2, g3, g4, g5⟩ := gs_vals hx hz hg
  have nx : x.1 ≠ -2 := fun w => hne (g4 w)
  have nz : z.1 ≠ -2 := fun w => hne (g5 w)
  have bz : okb z.1 := by have := ok3_b hz; omega
  have bx : okb x.1 := by have := ok3_b hx; omega
  refine c_pf_convert (encC_RG hx nx) (encC_RG hz nz) g2 g3 rfl hst hl ht ar (muR_C bz hmo) (muR_MU (Or.inr bz) hm) (fun c => ?_) (fun c => ?_) h
  · have e : x.1 = z.1 := by
      by_cases q : x.1 = z.1
      · exact q
      · rw [if_neg q] at c; exact absurd c (by decide)
    rw [← e]
    exact v.1
  · have e : ¬ x.1 = z.1 := fun q => c (by rw [if_pos q])
    have x0 : x.1 = 0 := by omega
    have : muR x.1 mo = 0 := by unfold muR; rw [if_neg (by omega), if_pos (by omega), x0]
    have n := v.1
    rw [this] at n
    exact n
/-- the model's -/
theorem c_convM {m : MM} {p : Int} (hx : ok3 x) (hz : ok3 z) (hm : okMo z.1 mo) (hg : gs x z) (hmo : m 582 89 = mo) (hp : Pl p 882) (vp : VM (m 635) p V) (v : VR mo x V) (h : ∀ m', Fm (SX p) m m' → m' 582 84 = m 582 84 → VM (m' 635) p (conv mo x z V) → Q 0 m') : P_X10_go p (bM x.1) x.2.1 x.2.2 (bM z.1) z.2.1 z.2.2 m Q := by
  obtain ⟨g1, g2, g3, g4, g5⟩ := gs_vals hx hz hg
  obtain ⟨rx1, rx2, rx3⟩ := ok3_ri hx
  obtain ⟨rz1, rz2, rz3⟩ := ok3_ri hz
  by_cases nz : z.1 = -2
  · have e := g5 nz
    subst e
    have xs : x.2.2 = 0 := by
      rcases hx with q | q
      · exact q.2.2
      · have := q.1; omega
    refine ⟨rx1, rz1, ?_⟩
    rw [if_pos rfl]
    refine ⟨rx3, ?_⟩
    rw [if_pos xs]
    refine ⟨rx3, ?_⟩
    rw [if_pos (by omega)]
    refine h m (Fm.refl m) rfl ?_
    rw [conv_self]
    exact vp
  · have bz : okb z.1 := by have := ok3_b hz; omega
    have bx : okb x.1 := by have := ok3_b hx; have := g1; omega
    have inj := bM_inj (Or.inr bx) (Or.inr bz)
    have hs : (0 ≤ x.2.2 ∧ x.2.2 ≤ 3) ∧ (0 ≤ z.2.2 ∧ z.2.2 ≤ 3) ∧ (0 ≤ x.2.1 ∧ x.2.1 ≤ 2) := by unfold ok3 at hx hz; omega
    have ech : (if x.1 = z.1 then (0 : Int) else 1) = if bM x.1 = bM z.1 then 0 else 1 := by
      by_cases q : x.1 = z.1
      · rw [if_pos q, if_pos (inj.2 q)]
      · rw [if_neg q, if_neg (fun w => q (inj.1 w))]
    refine c_X10_go (ch := if x.1 = z.1 then 0 else 1) hs.2.2 hs.1 hs.2.1 g3 rx1 ech (muR_BM bz hm hmo) hp vp (fun c => ?_) (fun c => ?_) h
    · have e : x.1 = z.1 := by
        by_cases q : x.1 = z.1
        · exact q
        · rw [if_neg q] at c; exact absurd c (by decide)
      rw [← e]
      exact v.1
    · have e : ¬ x.1 = z.1 := fun q => c (by rw [if_pos q])
      have x0 : x.1 = 0 := by omega
      have : muR x.1 mo = 0 := by unfold muR; rw [if_neg (by omega), if_pos (by omega), x0]
      have n := v.1
      rw [this] at n
      exact n
end CONV
/-! the model's pile -/
def stM (m : MM) : List VV → Prop
  | [] => True
  | V :: l => stM m l ∧ VM (m 635) (882 * (l.length : Int)) V
theorem stM.fr {m m' : MM} : ∀ {l : List VV}, stM m l → (∀ q, 0 ≤ q → q < 882 * (l.length : Int) → m' 635 q = m 635 q) → stM m' l := by
  intro l
  induction l with
  | nil => intro _ _; trivial
  | cons V l ih =>
    intro h f
    rw [show ((V :: l).length : Int) = (l.length : Int) + 1 from rfl] at f
    refine ⟨ih h.1 (fun q q0 q1 => f q q0 (by omega)), fun i j hi hj k k0 k1 => ?_⟩
    rw [f _ (by omega) (by omega), f _ (by omega) (by omega)]
    exact h.2 i j hi hj k k0 k1
theorem stM.low {S : Int → Prop} {m m' : MM} {l : List VV} (h : stM m l) (f : Fm S m m') (hS : ∀ q, S q → 882 * (l.length : Int) ≤ q) : stM m' l := h.fr (fun q q0 q1 => f.2 q (fun z => by have := hS q z; omega))
