set_option maxRecDepth 100000
/-! roots: the model -/
theorem rinv_loop {Q : Int → MM → Prop} {m : MM} {p v : Int} (hp : 2 ≤ p ∧ p ≤ 9973) (hv : 0 ≤ v ∧ v < p) (h : Q (v ^ (p - 2).toNat % p) m) : ∀ (n : Nat) (r : Int), n ≤ 14 → r = v ^ ((p - 2).toNat / 2 ^ n) % p → P_X10_rootInverse_7 Q (n + 1) v p r ((n : Int) - 1) m := by
  intro n
  induction n with
  | zero =>
    intro r hn hr
    refine ⟨by decide, ?_⟩
    rw [if_pos (by decide)]
    rw [show 2 ^ 0 = 1 from rfl, Nat.div_one] at hr
    rw [hr]
    exact h
  | succ n ih =>
    intro r hn hr
    have rb : 0 ≤ r ∧ r < p := by rw [hr]; exact emod_bd (by omega)
    have b1 := mul_p hp.2 (show 0 ≤ r ∧ r ≤ p by omega) rb
    have rb2 := emod_bd (x := r * r) (show 0 < p by omega)
    have b2 := mul_p hp.2 (show 0 ≤ r * r % p ∧ r * r % p ≤ p by omega) hv
    rw [show ((n + 1 : Nat) : Int) - 1 = (n : Int) by omega]
    refine ⟨by constructor <;> omega, ?_⟩
    rw [if_neg (by omega)]
    have sh : lShr (p - 2) (n : Int) = (((p - 2).toNat / 2 ^ n : Nat) : Int) := by
      rw [lShr_eq n (by constructor <;> omega) (by omega), Int.natCast_ediv, show (((p - 2).toNat : Nat) : Int) = p - 2 by omega]
    rw [sh, lAnd1, tmod_pos b1.1, tmod_pos b2.1]
    have dv : (p - 2).toNat / 2 ^ (n + 1) = (p - 2).toNat / 2 ^ n / 2 := by rw [Nat.div_div_eq_div_mul, Nat.pow_succ]
    generalize hE : (p - 2).toNat / 2 ^ n = E at *
    have sq : r * r % p = v ^ (2 * (E / 2)) % p := by
      rw [hr, dv, Int.mul_emod, Int.emod_emod, ← Int.mul_emod, ← Int.pow_add]
      congr 2
      omega
    refine ⟨by constructor <;> omega, by constructor <;> omega, by omega, by constructor <;> omega, ?_⟩
    by_cases c : (E : Int) % 2 = 1
    · rw [if_pos c]
      refine ⟨by constructor <;> omega, ?_⟩
      refine ih _ (by omega) ?_
      rw [sq, Int.mul_emod, Int.emod_emod, ← Int.mul_emod, ← Int.pow_succ]
      congr 2
      omega
    · rw [if_neg c]
      refine ih _ (by omega) ?_
      rw [sq]
      congr 2
      omega
theorem c_rootInverse {Q : Int → MM → Prop} {m : MM} {p v : Int} (hp : 2 ≤ p ∧ p ≤ 9973) (hv : 0 ≤ v ∧ v < p) (h : Q (invS p v) m) : P_X10_rootInverse v p m Q := by
  refine ⟨15, rinv_loop hp hv h 14 1 (by decide) ?_⟩
  have : (p - 2).toNat / 2 ^ 14 = 0 := Nat.div_eq_of_lt (by have : (2 : Nat) ^ 14 = 16384 := rfl; omega)
  rw [this, Int.pow_zero]
  exact (Int.emod_eq_of_lt (by decide) (by omega)).symm
def AM (f g : Int) : Prop := (f = 648 ∧ g = 649) ∨ (f = 649 ∧ g = 648)
theorem AM.ly {f g : Int} (h : AM f g) : lyA f = some (.inl (1, 7)) ∧ lyA g = some (.inl (1, 7)) ∧ f ≠ g := by
  rcases h with ⟨rfl, rfl⟩ | ⟨rfl, rfl⟩
  · exact ⟨ly_648, ly_649, by decide⟩
  · exact ⟨ly_649, ly_648, by decide⟩
theorem AM.sw {f g : Int} (h : AM f g) : AM g f := by
  rcases h with ⟨rfl, rfl⟩ | ⟨rfl, rfl⟩
  · exact Or.inr ⟨rfl, rfl⟩
  · exact Or.inl ⟨rfl, rfl⟩
/-- what the search for roots may change -/
def FRm (m m' : MM) : Prop := ∀ c i, c ≠ 648 → c ≠ 649 → c ≠ 650 → m' c i = m c i
theorem FRm.trans {m m1 m2 : MM} (h : FRm m m1) (k : FRm m1 m2) : FRm m m2 := fun c i a b d => (k c i a b d).trans (h c i a b d)
theorem FRm.ofA {f g : Int} {m m' : MM} (hfg : AM f g) (h : FA f m m') : FRm m m' := fun c i a b d => h c i (by rcases hfg with ⟨z, -⟩ | ⟨z, -⟩ <;> omega)
section ROOTM
variable {Q : Int → MM → Prop} {p f g a b d x : Int} {u : Int → PP} {P T : PL}
theorem redM_85 {K41 : Int → Int → Int → Int → Int → MM → Prop} {K61 : Int → Int → Int → Int → Int → Int → MM → Prop} {m0 : MM} {inv k t : Int} (hp : 2 ≤ p ∧ p ≤ 9973) (hfg : AM f g) (hh : 0 ≤ b ∧ b ≤ 6) (hk : b ≤ k ∧ k < 7) (ht : 0 ≤ t ∧ t < p) (i_f : InP p (m0 f) 7) (ig : InP p (m0 g) 7) (fin : ∀ m', FA f m0 m' → (∀ i, m' f i = stepR p t k b (m0 f) (m0 g) i) → K61 p f g b inv (k + (-1)) m') : ∀ (n : Nat) (j : Int) (m' : MM), 0 ≤ j → j + n = b + 1 → FA f m0 m' → (∀ i, m' f i = if k - b ≤ i ∧ i < k - b + j then (m0 f i + (p - t) * m0 g (i - (k - b))) % p else m0 f i) → P_X10_rootCommon_85 Q K41 K61 (n + 1) p f g b inv k (p - t) j m' := by
  obtain ⟨lf, lg, hne⟩ := hfg.ly
  intro n
  induction n with
  | zero =>
    intro j m' j0 j1 ff hm
    refine ⟨by constructor <;> omega, by constructor <;> omega, ?_⟩
    rw [if_pos (by omega)]
    refine fin m' ff (fun i => ?_)
    rw [hm i]
    unfold stepR
    by_cases c : k - b ≤ i ∧ i ≤ k
    · rw [if_pos c, if_pos (by omega)]
    · rw [if_neg c, if_neg (by omega)]
  | succ n ih =>
    intro j m' j0 j1 ff hm
    refine ⟨by constructor <;> omega, by constructor <;> omega, ?_⟩
    rw [if_neg (by omega)]
    have e1 : m' f (k - b + j) = m0 f (k - b + j) := by rw [hm, if_neg (by omega)]
    have e2 : m' g j = m0 g j := ff _ _ (fun z => hne z.symm)
    have b1 := i_f (k - b + j) (by omega) (by omega)
    have b2 := ig j j0 (by omega)
    have b3 := mul_p hp.2 (show 0 ≤ p - t ∧ p - t ≤ p by omega) b2
    rw [e1, e2]
    refine ⟨⟨7, lf, by omega, by show k - b + j < 7; omega⟩, ⟨7, lg, by omega, by show j < 7; omega⟩, by constructor <;> omega, by constructor <;> omega, by omega, ?_⟩
    rintro _ rfl
    rw [tmod_pos (by omega)]
    refine ih (j + 1) _ (by omega) (by omega) (ff.trans FA.up) (fun i => ?_)
    by_cases c : i = k - b + j
    · subst c
      rw [up_at, if_pos (by omega), show k - b + j - (k - b) = j by omega]
    · rw [up_neI c, hm i]
      by_cases c2 : k - b ≤ i ∧ i < k - b + j
      · rw [if_pos c2, if_pos (by omega)]
      · rw [if_neg c2, if_neg (by omega)]
theorem redM_61 {K41 : Int → Int → Int → Int → Int → MM → Prop} {m : MM} {inv : Int} (hp : 2 ≤ p ∧ p ≤ 9973) (hfg : AM f g) (hh : 0 ≤ b ∧ b ≤ 6) (i_f : InP p (m f) 7) (ig : InP p (m g) 7) (hinv : 0 ≤ inv ∧ inv < p) (hi : (m g b * inv) % p = 1) (gz : ∀ j, b < j → j < 7 → m g j = 0) (fz : ∀ j, a < j → j < 7 → m f j = 0) (ha : -1 ≤ a ∧ a ≤ 6) (fin : ∀ m', FA f m m' → InP p (m' f) 7 → (∀ j, b ≤ j → j < 7 → m' f j = 0) → DF p (PA (m g) 7) (PA (m f) 7) (PA (m' f) 7) → P_X10_rootCommon_137 Q K41 p f g b m') : ∃ nn, P_X10_rootCommon_61 Q K41 nn p f g b inv a m := by
  obtain ⟨lf, lg, hne⟩ := hfg.ly
  have Lp : ∀ (n : Nat) (k : Int) (m' : MM), k ≤ a ∧ -1 ≤ k → k - b + 1 ≤ n → FA f m m' → InP p (m' f) 7 → (∀ j, k < j → j < 7 → b ≤ j → m' f j = 0) → DF p (PA (m g) 7) (PA (m f) 7) (PA (m' f) 7) → P_X10_rootCommon_61 Q K41 (n + 1) p f g b inv k m' := by
    intro n
    induction n with
    | zero =>
      intro k m' k0 k1 ff i z s
      refine ⟨by constructor <;> omega, by constructor <;> omega, ?_⟩
      rw [if_pos (by omega)]
      exact fin m' ff i (fun j j0 j1 => z j (by omega) j1 j0) s
    | succ n ih =>
      intro k m' k0 k1 ff i z s
      refine ⟨by constructor <;> omega, by constructor <;> omega, ?_⟩
      by_cases c : k < b
      · rw [if_pos c]
        exact fin m' ff i (fun j j0 j1 => z j (by omega) j1 j0) s
      · rw [if_neg c]
        have b1 := i k (by omega) (by omega)
        have b2 := mul_p hp.2 (show 0 ≤ m' f k ∧ m' f k ≤ p by omega) hinv
        refine ⟨⟨7, lf, by omega, by show k < 7; omega⟩, by constructor <;> omega, by constructor <;> omega, by omega, ?_⟩
        rw [tmod_pos b2.1]
        have fb : ∀ j, m' g j = m g j := fun j => ff _ _ (fun z => hne z.symm)
        have ig' : InP p (m' g) 7 := fun j j0 j1 => by rw [fb]; exact ig j j0 j1
        refine ⟨_, redM_85 (m0 := m') hp hfg hh (by omega) (emod_bd (by omega)) i ig' (fun m2 f2 h2 => ?_) (b + 1).toNat 0 m' (by decide) (by omega) (fun _ _ _ => rfl) (fun q => by rw [if_neg (by omega)])⟩
        have hg : m2 f = stepR p (m' f k * inv % p) k b (m' f) (m' g) := funext h2
        have hgf : m' g = m g := funext fb
        refine ih (k + (-1)) m2 (by omega) (by omega) (ff.trans f2) ?_ (fun j j0 j1 j2 => ?_) (s.trans ?_)
        · rw [hg]
          exact stepR_P (Lb := 7) hp.1 i
        · rw [hg]
          by_cases cj : j = k
          · rw [cj]
            exact stepR_0 hp.1 hh.1 (by rw [fb]; exact hi) rfl
          · have : stepR p (m' f k * inv % p) k b (m' f) (m' g) j = m' f j := by
              unfold stepR
              rw [if_neg (by omega)]
            rw [this]
            exact z j (by omega) j1 j2
        · have := stepR_D (p := p) (t := m' f k * inv % p) (k := k) (h := b) (L := 7) (Lb := 7) (g := m' f) (b := m' g) (by omega) (by omega) (fun j j0 j1 => by rw [fb]; exact gz j j0 j1)
          rw [← hg, hgf] at this
          exact this
  exact ⟨_, Lp 8 a m ⟨Int.le_refl _, ha.1⟩ (by omega) (fun _ _ _ => rfl) i_f (fun j j0 j1 _ => fz j j0 j1) DF.refl⟩
/-- looking for the head of a row -/
theorem scan_159 {K41 : Int → Int → Int → Int → Int → MM → Prop} {m : MM} (lg : lyA g = some (.inl (1, 7))) (ig : InP p (m g) 7) (hp9 : p ≤ 9973) : ∀ n : Nat, n ≤ 7 → K41 p f g a (degG (rowQ m g) n) m → P_X10_rootCommon_159 Q K41 (n + 1) p f g a ((n : Int) - 1) m := by
  intro n
  induction n with
  | zero => intro _ q; refine ⟨by decide, ?_⟩; rw [if_pos (by decide)]; exact q
  | succ n ih =>
    intro hn q
    have := ig n (by omega) (by omega)
    refine ⟨by constructor <;> omega, ?_⟩
    rw [if_neg (by omega), show ((n + 1 : Nat) : Int) - 1 = (n : Int) by omega]
    refine ⟨⟨7, lg, by omega, by show (n : Int) < 7; omega⟩, by constructor <;> omega, ?_⟩
    unfold degG at q
    by_cases c : m g (n : Int) = 0
    · rw [if_pos c]
      rw [if_pos (show (rowQ m g (n : Int)).1 = 0 from c)] at q
      have := ih (by omega) q
      rw [show (n : Int) - 1 = (n : Int) + -1 by omega] at this
      exact this
    · rw [if_neg c]
      rw [if_neg (show ¬ (rowQ m g (n : Int)).1 = 0 from c)] at q
      exact q
theorem degG_cut {v : Int → PP} {k : Nat} (hk : k ≤ 7) (h : ∀ j : Int, (k : Int) ≤ j → j < 7 → (v j).1 = 0) : degG v k = degS v := by
  have L : ∀ n : Nat, k + n ≤ 7 → degG v (k + n) = degG v k := by
    intro n
    induction n with
    | zero => intro _; rfl
    | succ n ih =>
      intro hn
      show (if (v ((k + n : Nat) : Int)).1 = 0 then degG v (k + n) else ((k + n : Nat) : Int)) = degG v k
      rw [if_pos (h _ (by omega) (by omega))]
      exact ih (by omega)
  have := L (7 - k) (by omega)
  rw [show k + (7 - k) = 7 by omega] at this
  exact this.symm
theorem rootM_41 {m0 : MM} (hp : PRI p) (hp9 : p ≤ 9973) (fin : ∀ m' D, FRm m0 m' → rtD p P T D → Q D m') : ∀ (n : Nat) (f g : Int) (m : MM), AM f g → FRm m0 m → InP p (m f) 7 → InP p (m g) 7 → 0 ≤ degS (rowQ m f) → EQI p (PA (m f) 7) (PA (m g) 7) P T → degS (rowQ m g) < n → P_X10_rootCommon_41 Q (n + 1) p f g (degS (rowQ m f)) (degS (rowQ m g)) m := by
  have p2 := hp.1
  have last : ∀ (f g : Int) (m : MM), FRm m0 m → InP p (m f) 7 → 0 ≤ degS (rowQ m f) → EQI p (PA (m f) 7) (PA (m g) 7) P T → degS (rowQ m g) < 0 → Q (degS (rowQ m f)) m := by
    intro f g m fr i_f da eq db
    refine fin m _ fr (eq.rt (rtD_base hp ?_ (fun n hn => ?_) (fun n => ?_)))
    · have bd := degS_bd (rowQ m f)
      have nz : m f (degS (rowQ m f)) ≠ 0 := degG_nz 7 da
      have := i_f (degS (rowQ m f)) da (by omega)
      unfold PA
      rw [if_pos (by omega)]
      exact notdvd (by omega)
    · unfold PA
      split
      case isTrue c =>
        have z : m f n = 0 := degG_ab (u := rowQ m f) 7 n hn c.2
        rw [z]
        exact Int.dvd_zero p
      case isFalse => exact Int.dvd_zero p
    · unfold PA
      split
      case isTrue c =>
        have z : m g n = 0 := degG_ab (u := rowQ m g) 7 n (show degG (rowQ m g) 7 < n by have : degG (rowQ m g) 7 = degS (rowQ m g) := rfl; omega) c.2
        rw [z]
        exact Int.dvd_zero p
      case isFalse => exact Int.dvd_zero p
  intro n
  induction n with
  | zero =>
    intro f g m hfg fr i_f ig da eq db
    have bd := degS_bd (rowQ m g)
    refine ⟨by constructor <;> omega, ?_⟩
    rw [if_pos (by omega)]
    exact last f g m fr i_f da eq (by omega)
  | succ n ih =>
    intro f g m hfg fr i_f ig da eq db
    obtain ⟨lf, lg, hne⟩ := hfg.ly
    have bd := degS_bd (rowQ m g)
    have bdf := degS_bd (rowQ m f)
    refine ⟨by constructor <;> omega, ?_⟩
    by_cases c : degS (rowQ m g) < 0
    · rw [if_pos c]
      exact last f g m fr i_f da eq c
    · rw [if_neg c]
      have nz : m g (degS (rowQ m g)) ≠ 0 := degG_nz 7 (show 0 ≤ degG (rowQ m g) 7 by have : degG (rowQ m g) 7 = degS (rowQ m g) := rfl; omega)
      have gb := ig (degS (rowQ m g)) (by omega) (by omega)
      refine ⟨⟨7, lg, by omega, by show degS (rowQ m g) < 7; omega⟩, c_rootInverse ⟨p2, hp9⟩ gb ?_⟩
      refine redM_61 (K41 := fun z0 z1 z2 z3 z4 z5 => P_X10_rootCommon_41 Q (n + 1) z0 z1 z2 z3 z4 z5) ⟨p2, hp9⟩ hfg (by omega) i_f ig (invS_bd p2) (hp.inv (by omega) (by omega)) (fun j j0 j1 => degG_ab (u := rowQ m g) 7 j j0 j1) (fun j j0 j1 => degG_ab (u := rowQ m f) 7 j j0 j1) (by omega) (fun m2 f2 i2 z2 d2 => ?_)
      have fg : m2 g = m g := funext (fun k => f2 _ _ hne.symm)
      have rqg : rowQ m2 g = rowQ m g := by
        funext k
        unfold rowQ
        rw [fg]
      -- the head of what is left
      have cut := degG_cut (v := rowQ m2 f) (k := (degS (rowQ m g)).toNat) (by omega) (fun j j0 j1 => z2 j (by omega) j1)
      have low : degS (rowQ m2 f) < degS (rowQ m g) := by
        have := (degG_bd (rowQ m2 f) (degS (rowQ m g)).toNat).2
        rw [cut] at this
        omega
      have key := scan_159 (Q := Q) (K41 := fun z0 z1 z2 z3 z4 z5 => P_X10_rootCommon_41 Q (n + 1) z0 z1 z2 z3 z4 z5) (f := g) (g := f) (a := degS (rowQ m g)) (m := m2) (p := p) lf i2 hp9 (degS (rowQ m g)).toNat (by omega) ?_
      · rw [show (((degS (rowQ m g)).toNat : Nat) : Int) - 1 = degS (rowQ m g) - 1 by omega] at key
        exact ⟨_, key⟩
      · rw [cut, ← rqg]
        refine ih g f m2 hfg.sw (fr.trans (FRm.ofA hfg f2)) (by rw [fg]; exact ig) i2 (by rw [rqg]; omega) (fun S cS => ?_) (by omega)
        rw [fg, ← eq S cS]
        constructor
        · rintro ⟨s1, s2⟩
          exact ⟨(d2.iff cS s1).2 s2, s1⟩
        · rintro ⟨s1, s2⟩
          exact ⟨s2, (d2.iff cS s2).1 s1⟩
theorem c_rootCommon {m m0 : MM} (hp : PRI p) (hp9 : p ≤ 9973) (hd : 1 ≤ d ∧ d ≤ 6) (fr : FRm m0 m) (iP : InP p (m 648) 7) (iX : InP p (m 649) 7) (dP : degS (rowQ m 648) = d) (zX : ∀ j, d ≤ j → j < 7 → m 649 j = 0) (eq : EQI p (PA (m 648) 7) (PA (m 649) 7) P T) (fin : ∀ m' D, FRm m0 m' → rtD p P T D → Q D m') : P_X10_rootCommon d p m Q := by
  have cut := degG_cut (v := rowQ m 649) (k := d.toNat) (by omega) (fun j j0 j1 => zX j (by omega) j1)
  have bd := degS_bd (rowQ m 649)
  have key := rootM_41 (Q := Q) (P := P) (T := T) (m0 := m0) hp hp9 fin 8 648 649 m (Or.inl ⟨rfl, rfl⟩) fr iP iX (by omega) eq (by omega)
  rw [dP] at key
  have L : ∀ n : Nat, n ≤ 7 → degG (rowQ m 649) n = degS (rowQ m 649) → P_X10_rootCommon_20 Q (n + 1) p 648 649 d ((n : Int) - 1) m := by
    intro n
    induction n with
    | zero =>
      intro _ q
      refine ⟨by decide, ?_⟩
      rw [if_pos (by decide)]
      rw [← q] at key
      exact ⟨_, key⟩
    | succ n ih =>
      intro hn q
      have := iX n (by omega) (by omega)
      refine ⟨by constructor <;> omega, ?_⟩
      rw [if_neg (by omega), show ((n + 1 : Nat) : Int) - 1 = (n : Int) by omega]
      refine ⟨⟨7, ly_649, by omega, by show (n : Int) < 7; omega⟩, by constructor <;> omega, ?_⟩
      unfold degG at q
      by_cases c : m 649 (n : Int) = 0
      · rw [if_pos c]
        rw [if_pos (show (rowQ m 649 (n : Int)).1 = 0 from c)] at q
        have := ih (by omega) q
        rw [show (n : Int) - 1 = (n : Int) + -1 by omega] at this
        exact this
      · rw [if_neg c]
        rw [if_neg (show ¬ (rowQ m 649 (n : Int)).1 = 0 from c)] at q
        rw [← q] at key
        exact ⟨_, key⟩
  have := L d.toNat (by omega) cut
  rw [show ((d.toNat : Nat) : Int) - 1 = d - 1 by omega] at this
  exact ⟨_, this⟩
end ROOTM
