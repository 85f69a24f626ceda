set_option maxRecDepth 100000
/-! rings: the model; prices -/
def jm (m : MM) (b d s c e t : Int) : MM := up (up (up m 582 65 (if b = 0 then c else b)) 582 66 (max d e)) 582 67 (max s t)
def jP (b s c t : Int) : Prop := b ≠ -9 ∧ c ≠ -9 ∧ (b = c ∨ b ≠ -2 ∧ c ≠ -2 ∧ (b = 0 ∨ c = 0)) ∧ (s = t ∨ s = 0 ∨ t = 0)
theorem jm_65 {m : MM} {b d s c e t : Int} : jm m b d s c e t 582 65 = (if b = 0 then c else b) := by
  unfold jm
  rw [up_neI (by decide), up_neI (by decide), up_at]
theorem jm_66 {m : MM} {b d s c e t : Int} : jm m b d s c e t 582 66 = max d e := by
  unfold jm
  rw [up_neI (by decide), up_at]
theorem jm_67 {m : MM} {b d s c e t : Int} : jm m b d s c e t 582 67 = max s t := up_at ..
theorem jm_o {m : MM} {b d s c e t x i : Int} (h : ¬ (x = 582 ∧ (i = 65 ∨ i = 66 ∨ i = 67))) : jm m b d s c e t x i = m x i := by
  unfold jm
  rw [up_ne (fun z => h ⟨z.1, Or.inr (Or.inr z.2)⟩), up_ne (fun z => h ⟨z.1, Or.inr (Or.inl z.2)⟩), up_ne (fun z => h ⟨z.1, Or.inl z.2⟩)]
section RNGM
variable {Q : Int → MM → Prop} {x y : R3}
theorem c_joins0 {m : MM} {b d s c e t : Int} (hb : RI b) (hd : RI d) (hs : RI s) (hc : RI c) (he : RI e) (ht : RI t) (h1 : jP b s c t → Q 1 (jm m b d s c e t)) (h0 : ¬ jP b s c t → Q 0 (jm m b d s c e t)) : P_X10_joins b d s c e t m Q := by
  refine ⟨⟨hb, by split; trivial; exact hc⟩, ⟨hb, hc, by split; trivial; split; decide; split <;> decide⟩, ⟨hs, ht⟩, hb, ?_⟩
  rintro _ rfl
  refine c_max hd he ?_
  rintro _ rfl
  refine c_max hs ht ?_
  rintro _ rfl
  refine ⟨hb, ?_⟩
  show (if b = -9 then Q 0 (jm m b d s c e t) else _)
  by_cases c1 : b = -9
  · rw [if_pos c1]; exact h0 (fun z => z.1 c1)
  rw [if_neg c1]
  refine ⟨hc, ?_⟩
  by_cases c2 : c = -9
  · rw [if_pos c2]; exact h0 (fun z => z.2.1 c2)
  rw [if_neg c2]
  -- bases
  have bs : (if b = c then (1 : Int) else (if (if b = (-2) then (1 : Int) else (if c = (-2) then 1 else 0 : Int)) = 0 then (if b = 0 then 1 else (if c = 0 then 1 else 0 : Int) : Int) else 0 : Int)) = 1 ∧ (b = c ∨ b ≠ -2 ∧ c ≠ -2 ∧ (b = 0 ∨ c = 0)) ∨ (if b = c then (1 : Int) else (if (if b = (-2) then (1 : Int) else (if c = (-2) then 1 else 0 : Int)) = 0 then (if b = 0 then 1 else (if c = 0 then 1 else 0 : Int) : Int) else 0 : Int)) = 0 ∧ ¬ (b = c ∨ b ≠ -2 ∧ c ≠ -2 ∧ (b = 0 ∨ c = 0)) := by
    by_cases a1 : b = c
    · left; rw [if_pos a1]; exact ⟨rfl, Or.inl a1⟩
    · rw [if_neg a1]
      by_cases a2 : b = -2
      · right
        rw [if_pos a2, if_neg (by decide)]
        exact ⟨rfl, by omega⟩
      · rw [if_neg a2]
        by_cases a3 : c = -2
        · right
          rw [if_pos a3, if_neg (by decide)]
          exact ⟨rfl, by omega⟩
        · rw [if_neg a3, if_pos rfl]
          by_cases a4 : b = 0
          · left; rw [if_pos a4]; exact ⟨rfl, by omega⟩
          · rw [if_neg a4]
            by_cases a5 : c = 0
            · left; rw [if_pos a5]; exact ⟨rfl, by omega⟩
            · right; rw [if_neg a5]; exact ⟨rfl, by omega⟩
  have ss : (if s = t then (1 : Int) else (if s = 0 then 1 else (if t = 0 then 1 else 0 : Int) : Int)) = 1 ∧ (s = t ∨ s = 0 ∨ t = 0) ∨ (if s = t then (1 : Int) else (if s = 0 then 1 else (if t = 0 then 1 else 0 : Int) : Int)) = 0 ∧ ¬ (s = t ∨ s = 0 ∨ t = 0) := by
    by_cases a1 : s = t
    · left; rw [if_pos a1]; exact ⟨rfl, Or.inl a1⟩
    · rw [if_neg a1]
      by_cases a2 : s = 0
      · left; rw [if_pos a2]; exact ⟨rfl, Or.inr (Or.inl a2)⟩
      · rw [if_neg a2]
        by_cases a3 : t = 0
        · left; rw [if_pos a3]; exact ⟨rfl, Or.inr (Or.inr a3)⟩
        · right; rw [if_neg a3]; exact ⟨rfl, by omega⟩
  rcases bs with ⟨z, hz⟩ | ⟨z, hz⟩
  · rw [z]
    refine ⟨by decide, ?_⟩
    rw [if_neg (by decide)]
    rcases ss with ⟨w, hw⟩ | ⟨w, hw⟩
    · rw [w]
      refine ⟨by decide, ?_⟩
      rw [if_neg (by decide)]
      exact h1 ⟨c1, c2, hz, hw⟩
    · rw [w]
      refine ⟨by decide, ?_⟩
      rw [if_pos rfl]
      exact h0 (fun q => hw q.2.2.2)
  · rw [z]
    refine ⟨by decide, ?_⟩
    rw [if_pos rfl]
    exact h0 (fun q => hz q.2.2.1)
theorem bM_bd {b : Int} (h : b = -2 ∨ okb b) : -2 ≤ bM b ∧ bM b ≤ 10007 ∧ (bM b = -2 ↔ b = -2) ∧ (bM b = 0 ↔ b = 0) ∧ (bM b = 1 ↔ b = 1) := by
  unfold bM
  split
  · omega
  · split <;> omega
theorem bM_cs (b : Int) : bM b = 10007 ∧ b = 20000 ∨ bM b = 10000 ∧ b = 20001 ∨ bM b = b ∧ b ≠ 20000 ∧ b ≠ 20001 := by
  unfold bM
  by_cases c1 : b = 20000
  · rw [if_pos c1]; exact Or.inl ⟨rfl, c1⟩
  · rw [if_neg c1]
    by_cases c2 : b = 20001
    · rw [if_pos c2]; exact Or.inr (Or.inl ⟨rfl, c2⟩)
    · rw [if_neg c2]; exact Or.inr (Or.inr ⟨rfl, c1, c2⟩)
theorem bM_inj {b c : Int} (h : b = -2 ∨ okb b) (k : c = -2 ∨ okb c) : bM b = bM c ↔ b = c := by
  have hb := bM_cs b
  have hc := bM_cs c
  omega
theorem ok3_b (h : ok3 x) : x.1 = -2 ∨ okb x.1 := by
  rcases h with h | h
  · exact Or.inl h.1
  · exact Or.inr h.1
/-- both sides join the same -/
theorem jP_jn (hx : ok3 x) (hy : ok3 y) : jP (bM x.1) x.2.2 (bM y.1) y.2.2 ↔ (jn x y).isSome = true := by
  have bx := bM_bd (ok3_b hx)
  have by_ := bM_bd (ok3_b hy)
  have inj := bM_inj (ok3_b hx) (ok3_b hy)
  unfold jP jn
  by_cases c : x = y
  · subst c
    rw [if_pos rfl]
    refine ⟨fun _ => rfl, fun _ => ⟨by omega, by omega, Or.inl rfl, Or.inl rfl⟩⟩
  · rw [if_neg c]
    by_cases c2 : x.1 = -2 ∨ y.1 = -2
    · rw [if_pos c2]
      refine ⟨fun z => ?_, fun z => by cases z⟩
      exfalso
      apply c
      obtain ⟨b, d, s⟩ := x
      obtain ⟨b', d', s'⟩ := y
      unfold ok3 at hx hy
      simp only at *
      have : b = b' ∧ d = d' ∧ s = s' := by omega
      rw [this.1, this.2.1, this.2.2]
    · rw [if_neg c2]
      by_cases c3 : (x.1 = y.1 ∨ x.1 = 0 ∨ y.1 = 0) ∧ (x.2.2 = y.2.2 ∨ x.2.2 = 0 ∨ y.2.2 = 0)
      · rw [if_pos c3]
        refine ⟨fun _ => rfl, fun _ => ⟨by omega, by omega, by omega, c3.2⟩⟩
      · rw [if_neg c3]
        refine ⟨fun z => ?_, fun z => by cases z⟩
        exfalso
        apply c3
        omega
theorem jn_vals {z : R3} (hx : ok3 x) (hy : ok3 y) (h : jn x y = some z) : (if bM x.1 = 0 then bM y.1 else bM x.1) = bM z.1 ∧ max x.2.1 y.2.1 = z.2.1 ∧ max x.2.2 y.2.2 = z.2.2 := by
  have bx := bM_bd (ok3_b hx)
  unfold jn at h
  split at h
  case isTrue c =>
    cases h
    subst c
    refine ⟨by split <;> rfl, by omega, by omega⟩
  case isFalse c =>
    split at h
    · cases h
    · split at h
      · cases h
        refine ⟨?_, rfl, rfl⟩
        simp only
        by_cases z : x.1 = 0
        · rw [if_pos (bx.2.2.2.1.2 z), if_pos z]
        · rw [if_neg (fun q => z (bx.2.2.2.1.1 q)), if_neg z]
      · cases h
theorem ok3_ri (h : ok3 x) : RI (bM x.1) ∧ RI x.2.1 ∧ RI x.2.2 := by
  have b := bM_bd (ok3_b h)
  refine ⟨by constructor <;> omega, ?_, ?_⟩
  · rcases h with h | h <;> constructor <;> omega
  · rcases h with h | h <;> constructor <;> omega
theorem c_joins {m : MM} (hx : ok3 x) (hy : ok3 y) (h : Q (if (jn x y).isSome = true then 1 else 0) (jm m (bM x.1) x.2.1 x.2.2 (bM y.1) y.2.1 y.2.2)) : P_X10_joins (bM x.1) x.2.1 x.2.2 (bM y.1) y.2.1 y.2.2 m Q := by
  obtain ⟨a1, a2, a3⟩ := ok3_ri hx
  obtain ⟨b1, b2, b3⟩ := ok3_ri hy
  have k := jP_jn hx hy
  refine c_joins0 a1 a2 a3 b1 b2 b3 (fun z => ?_) (fun z => ?_)
  · rw [if_pos (k.1 z)] at h; exact h
  · rw [if_neg (fun q => z (k.2 q))] at h; exact h
theorem c_goesM {m : MM} (hx : ok3 x) (hy : ok3 y) (h : Q (if jn x y = some y then 1 else 0) (jm m (bM x.1) x.2.1 x.2.2 (bM y.1) y.2.1 y.2.2)) : P_X10_goes (bM x.1) x.2.1 x.2.2 (bM y.1) y.2.1 y.2.2 m Q := by
  obtain ⟨b1, b2, b3⟩ := ok3_ri hy
  refine c_joins hx hy ?_
  rcases hj : jn x y with - | z
  · rw [hj] at h
    rw [if_neg (by intro q; cases q)] at h
    rw [if_neg (by intro q; cases q)]
    refine ⟨by decide, ?_⟩
    rw [if_pos rfl]
    exact h
  · rw [hj] at h
    rw [if_pos (show (some z).isSome = true from rfl)]
    refine ⟨by decide, ?_⟩
    rw [if_neg (by decide), jm_65, jm_66, jm_67]
    have hz := jn_ok hx hy hj
    obtain ⟨v1, v2, v3⟩ := jn_vals hx hy hj
    obtain ⟨z1, z2, z3⟩ := ok3_ri hz
    rw [v1, v2, v3]
    have inj := bM_inj (ok3_b hz) (ok3_b hy)
    refine ⟨z1, b1, ?_⟩
    by_cases c1 : z.1 = y.1
    · rw [if_pos (inj.2 c1)]
      refine ⟨z2, b2, ?_⟩
      by_cases c2 : z.2.1 = y.2.1
      · rw [if_pos c2]
        refine ⟨z3, b3, ?_⟩
        by_cases c3 : z.2.2 = y.2.2
        · rw [if_pos c3]
          have : z = y := by
            obtain ⟨p, q, w⟩ := z
            obtain ⟨p', q', w'⟩ := y
            simp only at c1 c2 c3
            rw [c1, c2, c3]
          rw [if_pos (by rw [this])] at h
          exact h
        · rw [if_neg c3]
          rw [if_neg (fun q => c3 (by rw [Option.some.inj q]))] at h
          exact h
      · rw [if_neg c2]
        rw [if_neg (fun q => c2 (by rw [Option.some.inj q]))] at h
        exact h
    · rw [if_neg (fun q => c1 (inj.1 q))]
      rw [if_neg (fun q => c1 (by rw [Option.some.inj q]))] at h
      exact h
/-- what it costs to go there -/
def price3 (x y : R3) : Int := (if x.1 = y.1 then 0 else 1) + (if x.2.2 = y.2.2 then 0 else 1) + y.2.1 - x.2.1
theorem c_price {m : MM} (hx : ok3 x) (hy : ok3 y) (hg : jn x y = some y) (h : Q (price3 x y) m) : P_X11_price (encC x) (encC y) m Q := by
  have ex := encC_bd hx
  have ey := encC_bd hy
  refine ⟨ex.1, ey.1, ?_⟩
  by_cases c : x = y
  · subst c
    rw [if_pos rfl]
    have : price3 x x = 0 := by
      unfold price3
      rw [if_pos rfl, if_pos rfl]
      omega
    rw [this] at h
    exact h
  · rw [if_neg (fun z => c (encC_inj hx hy z))]
    have nb : x.1 ≠ -2 ∧ y.1 ≠ -2 := by
      unfold jn at hg
      rw [if_neg c] at hg
      by_cases z : x.1 = -2 ∨ y.1 = -2
      · rw [if_pos z] at hg; cases hg
      · omega
    have gx := encC_RG hx nb.1
    have gy := encC_RG hy nb.2
    obtain ⟨-, hb, hd, hs⟩ := id gx
    obtain ⟨-, hb', hd', hs'⟩ := id gy
    exact c_base gx (c_base gy ⟨⟨by constructor <;> omega, by constructor <;> omega⟩, c_size gx (c_size gy ⟨⟨by constructor <;> omega, by constructor <;> omega⟩, c_depth gy (c_depth gx h)⟩)⟩)
end RNGM
