set_option maxRecDepth 100000
/-! 1 of a ring, adjugates: the specification; the component -/
def oneK (n : Int) : VV := fun a b c => if a = b ∧ 0 ≤ a ∧ a < n ∧ c = 0 then (1, 1) else (0, 1)
def oneV (s : Int) : VV := oneK (rws s)
def oneB : Int → PP := fun c => if c = 0 then (1, 1) else (0, 1)
def minE (mu d s : Int) (V : VV) (i j : Int) : EX (Int → PP) := if s = 1 then .ok oneB else if s = 2 then .ok (V (1 - j) (1 - i)) else det2S mu d (V (lo3 j) (lo3 i)) (V (lo3 j) (hi3 i)) (V (hi3 j) (lo3 i)) (V (hi3 j) (hi3 i))
def adjE (mu d s : Int) (V : VV) (i j : Int) : EX (Int → PP) := match minE mu d s V i j with
  | .error e => .error e
  | .ok w => .ok (if (i + j) % 2 = 1 then fun k => negN mu (w k) else w)
def adjS (mu d s : Int) (V : VV) : EX VV := matS (adjE mu d s V) (rws s).toNat
theorem NB_one {mu : Int} (h : MU mu) (h1 : mu ≠ 1 → True) : okP (1, 1) := by decide
theorem minE_err {mu d s i j e : Int} {V : VV} (h : minE mu d s V i j = .error e) : e = 1 ∨ e = 4 := by
  unfold minE at h
  split at h
  · cases h
  · split at h
    · cases h
    · exact det2S_err h
theorem adjE_err {mu d s : Int} {V : VV} (i j e : Int) (h : adjE mu d s V i j = .error e) : e = 1 ∨ e = 4 := by
  unfold adjE at h
  split at h
  case h_1 he => cases h; exact minE_err he
  case h_2 => cases h
theorem adjS_err {mu d s e : Int} {V : VV} (h : adjS mu d s V = .error e) : e = 1 ∨ e = 4 := rowG_err (P := fun e => e = 1 ∨ e = 4) (fun i j e => adjE_err i j e) _ _ _ _ h
theorem NB_11 {mu : Int} (h : MU mu) : NB mu (1, 1) := by
  refine ⟨by decide, by decide, fun _ => rfl, fun _ => by decide, fun k => ⟨by decide, ?_⟩⟩
  show (1 : Int) < mu
  exact k
theorem negN_z {mu : Int} : negN mu (0, 1) = (0, 1) := by
  unfold negN
  simp
theorem lo3_in {j : Int} (h : in3 j) : in3 (lo3 j) ∧ in3 (hi3 j) := by
  unfold lo3 hi3
  constructor <;> split <;> decide
theorem minE_NR {mu d s i j : Int} {V : VV} {w : Int → PP} (hM : MU mu) (hd : 0 ≤ d ∧ d ≤ 2) (hs : 1 ≤ s ∧ s ≤ 3) (nV : NN mu d s V) (hi : 0 ≤ i ∧ i < s) (hj : 0 ≤ j ∧ j < s) (h : minE mu d s V i j = .ok w) : NR mu (cof d) w := by
  have hc := cof_bd hd
  unfold minE at h
  split at h
  · cases h
    refine ⟨fun k => ?_, fun k hk => ?_⟩
    · unfold oneB; split
      · exact NB_11 hM
      · exact NB_zr hM
    · unfold oneB; rw [if_neg (by omega)]
  · split at h
    · cases h
      exact ⟨fun k => nV.1 _ _ k, fun k hk => nV.2 _ _ k (by omega)⟩
    · have b1 := lo3_in (show in3 j by omega)
      have b2 := lo3_in (show in3 i by omega)
      exact det2S_NR hM hd (fun k _ _ => nV.1 _ _ k) (fun k _ _ => nV.1 _ _ k) (fun k _ _ => nV.1 _ _ k) (fun k _ _ => nV.1 _ _ k) h
theorem adjE_NR {mu d s i j : Int} {V : VV} {w : Int → PP} (hM : MU mu) (hd : 0 ≤ d ∧ d ≤ 2) (hs : 1 ≤ s ∧ s ≤ 3) (nV : NN mu d s V) (hi : 0 ≤ i ∧ i < s) (hj : 0 ≤ j ∧ j < s) (h : adjE mu d s V i j = .ok w) : NR mu (cof d) w := by
  unfold adjE at h
  split at h
  case h_1 => cases h
  case h_2 v hv =>
    have nv := minE_NR hM hd hs nV hi hj hv
    cases h
    split
    · exact ⟨fun k => NB.neg hM (nv.1 k), fun k hk => by simp only; rw [nv.2 k hk]; exact negN_z⟩
    · exact nv
theorem adjS_NN {mu d s : Int} {V U : VV} (hM : MU mu) (hd : 0 ≤ d ∧ d ≤ 2) (hs : 1 ≤ s ∧ s ≤ 3) (nV : NN mu d s V) (h : adjS mu d s V = .ok U) : NN mu d s U := by
  obtain ⟨h1, h2⟩ := matS_ok h
  have hr : rws s = s := by unfold rws; omega
  refine ⟨fun i j k => ?_, fun i j k hn => ?_⟩
  · by_cases c : (0 ≤ i ∧ i < rws s) ∧ (0 ≤ j ∧ j < rws s)
    · exact (adjE_NR hM hd hs nV (by omega) (by omega) (h1 i j (by omega) (by omega))).1 k
    · rw [h2 i j (by omega)]; exact NB_zr hM
  · by_cases c : (0 ≤ i ∧ i < rws s) ∧ (0 ≤ j ∧ j < rws s)
    · exact (adjE_NR hM hd hs nV (by omega) (by omega) (h1 i j (by omega) (by omega))).2 k (by omega)
    · rw [h2 i j (by omega)]; rfl
section ADJC
variable {Q : Int → MM → Prop} {r b mu d s x to : Int} {V : VV}
theorem c_X8_unit {m : MM} (hR : RG r b d s) (ht : Cl to (VS d s)) (h : ∀ m', Fc (fun q => to ≤ q ∧ q < to + VS d s) m m' → m' 378 2 = m 378 2 → VC (m' 379) to d s (oneV s) → Q 0 m') : P_X8_unit r to m Q := by
  obtain ⟨-, hb, hd, hs⟩ := id hR
  have hc := cof_bd hd
  have hr := rws_bd hs
  have hN : (((cof d * enn s).toNat : Nat) : Int) = cof d * enn s := by
    have := VS_bd hd hs
    rw [VS_eq] at this
    omega
  refine c_coef hR (c_entries hR ?_)
  rw [← hN]
  rw [VS_eq, ← hN] at ht
  refine c_X8_clear ht.1 (by omega) (fun m1 f1 e1 r1 => ?_)
  rw [hN, ← VS_eq] at f1 ht
  rw [hN] at r1
  have L : ∀ (n : Nat) (i : Int) (m' : MM), 0 ≤ i → i + n = rws s → Fc (fun q => to ≤ q ∧ q < to + VS d s) m m' → m' 378 2 = m 378 2 → VC (m' 379) to d s (oneK i) → P_X8_unit_19 Q (n + 1) r to (cof d) i m' := by
    intro n
    induction n with
    | zero =>
      intro i m' i0 i1 f e v
      refine c_size hR (c_max (by decide) (by constructor <;> omega) ⟨by constructor <;> omega, by constructor <;> omega, ?_⟩)
      rw [if_pos (by unfold rws at i1; omega)]
      refine h m' f e ?_
      unfold oneV
      rw [show rws s = i by omega]
      exact v
    | succ n ih =>
      intro i m' i0 i1 f e v
      have bd := EA_bd (d := d) (s := s) (i := i) (j := i) hd hs (by omega) (by omega)
      refine c_size hR (c_max (by decide) (by constructor <;> omega) ⟨by constructor <;> omega, by constructor <;> omega, ?_⟩)
      rw [if_neg (by unfold rws at i1; omega)]
      refine c_size hR ⟨show 0 ≤ to + EA d s i i ∧ to + EA d s i i < 1159540 by omega, ?_⟩
      rintro _ rfl
      refine ih (i + 1) _ (by omega) (by omega) (f.trans (Fc.ofUp (show to ≤ to + EA d s i i ∧ to + EA d s i i < to + VS d s by omega))) (by rw [up_ne (fun z => absurd z.1 (by decide))]; exact e) (fun k l hk hl c c0 c1 => ?_)
      have old := v k l hk hl c c0 c1
      have bk := EA_bd (d := d) (s := s) (i := k) (j := l) hd hs hk hl
      show up m' 379 (to + EA d s i i) 1 379 (to + EA d s k l + 2 * c) = _ ∧ up m' 379 (to + EA d s i i) 1 379 (to + EA d s k l + 2 * c + 1) = _
      by_cases cc : k = i ∧ l = i
      · rw [cc.1, cc.2] at old ⊢
        by_cases c2 : c = 0
        · subst c2
          rw [show to + EA d s i i + 2 * 0 = to + EA d s i i by omega] at old ⊢
          rw [up_at, up_neI (by omega), old.2]
          unfold oneK
          rw [if_pos ⟨rfl, by omega, by omega, rfl⟩, if_neg (by omega)]
          exact ⟨rfl, rfl⟩
        · rw [up_neI (by omega), up_neI (by omega), old.1, old.2]
          unfold oneK
          rw [if_neg (by omega), if_neg (by omega)]
          exact ⟨rfl, rfl⟩
      · have ne := EA_ne (d := d) (s := s) (i := k) (j := l) (k := i) (l := i) hd hs hk hl (by omega) (by omega) cc
        rw [up_neI (by omega), up_neI (by omega), old.1, old.2]
        have : oneK (i + 1) k l c = oneK i k l c := by
          unfold oneK
          by_cases c3 : k = l ∧ 0 ≤ k ∧ k < i ∧ c = 0
          · rw [if_pos c3, if_pos (by omega)]
          · rw [if_neg c3, if_neg (by omega)]
        rw [this]
        exact ⟨rfl, rfl⟩
  refine ⟨(rws s).toNat + 1, L (rws s).toNat 0 m1 (by decide) (by omega) f1 e1 (r1.vc hd hs (fun i j c hi hj hcc => ?_))⟩
  unfold oneK zr
  rw [if_neg (by omega)]
def S4 (to d s : Int) (q : Int) : Prop := 1157380 ≤ q ∧ q < 1157776 ∨ to ≤ q ∧ q < to + VS d s
theorem adjC_err33 {K23 : Int → Int → Int → Int → Int → Int → Int → MM → Prop} {m : MM} {n : Nat} {c al i j : Int} (hj : RI j) (hs : RI s) (he : RI (m 378 2)) (h0 : m 378 2 ≠ 0) (k : K23 r x to s c al (i + 1) m) : P_X8_adjugate_33 Q K23 (n + 1) r x to s c al i j m := by
  refine ⟨hj, hs, ?_⟩
  by_cases cc : s ≤ j
  · rw [if_pos cc]; exact k
  · rw [if_neg cc]
    refine ⟨he, ?_⟩
    rw [if_neg h0]
    exact k
theorem adjC_err23 {m : MM} {c al : Int} (hs : 0 ≤ s ∧ s ≤ 3) (he : RI (m 378 2)) (h0 : m 378 2 ≠ 0) (k : Q 0 m) : ∀ (n : Nat) (i : Int), 0 ≤ i → s - i ≤ n → i ≤ s → P_X8_adjugate_23 Q (n + 1) r x to s c al i m := by
  intro n
  induction n with
  | zero =>
    intro i i0 i1 i2
    refine ⟨by constructor <;> omega, by constructor <;> omega, ?_⟩
    rw [if_pos (by omega)]
    exact k
  | succ n ih =>
    intro i i0 i1 i2
    refine ⟨by constructor <;> omega, by constructor <;> omega, ?_⟩
    by_cases cc : s ≤ i
    · rw [if_pos cc]; exact k
    · rw [if_neg cc]
      exact ⟨1, adjC_err33 (by decide) (by constructor <;> omega) he h0 (ih (i + 1) (by omega) (by omega) (by omega))⟩
end ADJC
