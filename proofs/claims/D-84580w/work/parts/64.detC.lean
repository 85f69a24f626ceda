set_option maxRecDepth 100000
/-! determinants: the specification; the component -/
def det2S (mu d : Int) (a b c e : Int → PP) : EX (Int → PP) := match prodS mu d a e with
  | .error x => .error x
  | .ok t => match addR mu 0 (cof d).toNat zr t with
    | .error x => .error x
    | .ok w => match prodS mu d b c with
      | .error x => .error x
      | .ok t2 => addR mu 1 (cof d).toNat w t2
def lo3 (j : Int) : Int := if j = 0 then 1 else 0
def hi3 (j : Int) : Int := if j = 2 then 1 else 2
/-- one summand of a determinant -/
def stepS (mu d ls : Int) (rs : EX (Int → PP)) (u a : Int → PP) : EX (Int → PP) := match rs with
  | .error x => .error x
  | .ok sm => match prodS mu d u sm with
    | .error x => .error x
    | .ok t => addR mu ls (cof d).toNat a t
def det3S (mu d : Int) (V : VV) : EX (Int → PP) := match stepS mu d 0 (det2S mu d (V 1 1) (V 1 2) (V 2 1) (V 2 2)) (V 0 0) zr with
  | .error x => .error x
  | .ok a => match stepS mu d 1 (det2S mu d (V 1 0) (V 1 2) (V 2 0) (V 2 2)) (V 0 1) a with
    | .error x => .error x
    | .ok b => stepS mu d 0 (det2S mu d (V 1 0) (V 1 1) (V 2 0) (V 2 1)) (V 0 2) b
def detS (mu d s : Int) (V : VV) : EX (Int → PP) := if s = 1 then .ok (V 0 0) else if s = 2 then det2S mu d (V 0 0) (V 0 1) (V 1 0) (V 1 1) else det3S mu d V
theorem det2S_eq {mu d : Int} {a b c e : Int → PP} : det2S mu d a b c e = (match stepS mu d 0 (.ok e) a zr with
    | .error x => .error x
    | .ok w => stepS mu d 1 (.ok c) b w) := by
  unfold det2S stepS
  simp only
  rcases prodS mu d a e with x | t
  · rfl
  · rfl
theorem stepS_err {mu d ls e : Int} {rs : EX (Int → PP)} {u a : Int → PP} (hr : ∀ x, rs = .error x → x = 1 ∨ x = 4) (h : stepS mu d ls rs u a = .error e) : e = 1 ∨ e = 4 := by
  unfold stepS at h
  split at h
  case h_1 x => cases h; exact hr _ rfl
  case h_2 sm =>
    split at h
    case h_1 he => cases h; exact prodS_err he
    case h_2 t ht => exact Or.inl (addR_err h)
/-- a row with good numbers, clear behind a place -/
def NR (mu c : Int) (w : Int → PP) : Prop := (∀ k, NB mu (w k)) ∧ ∀ k, c ≤ k → w k = (0, 1)
theorem NR.bs {mu c n : Int} {w : Int → PP} (h : NR mu c w) : NBs mu w n := fun k _ _ => h.1 k
theorem stepS_NR {mu d ls : Int} {rs : EX (Int → PP)} {u a w : Int → PP} (hM : MU mu) (hd : 0 ≤ d ∧ d ≤ 2) (hr : ∀ x, rs = .ok x → NBs mu x (cof d)) (hu : NBs mu u (cof d)) (ha : NBs mu a (cof d)) (h : stepS mu d ls rs u a = .ok w) : NR mu (cof d) w := by
  have hc := cof_bd hd
  have hcN : ((cof d).toNat : Int) = cof d := by omega
  unfold stepS at h
  split at h
  case h_1 => cases h
  case h_2 sm =>
    split at h
    case h_1 => cases h
    case h_2 t ht =>
      have nt := prodS_NB hM hd hu (hr _ rfl) ht
      exact ⟨addR_NB hM (by rw [hcN]; exact ha) (fun k _ _ => nt.1 k) h, fun k hk => (addR_ok h).2 k (by omega)⟩
theorem det2S_err {mu d x : Int} {a b c e : Int → PP} (h : det2S mu d a b c e = .error x) : x = 1 ∨ x = 4 := by
  rw [det2S_eq] at h
  split at h
  case h_1 he => cases h; exact stepS_err (fun _ z => by cases z) he
  case h_2 w hw => exact stepS_err (fun _ z => by cases z) h
theorem det2S_NR {mu d : Int} {a b c e w : Int → PP} (hM : MU mu) (hd : 0 ≤ d ∧ d ≤ 2) (ha : NBs mu a (cof d)) (hb : NBs mu b (cof d)) (hc : NBs mu c (cof d)) (he : NBs mu e (cof d)) (h : det2S mu d a b c e = .ok w) : NR mu (cof d) w := by
  rw [det2S_eq] at h
  split at h
  case h_1 => cases h
  case h_2 v hv =>
    have nv := stepS_NR hM hd (fun x z => by cases z; exact he) ha (fun _ _ _ => NB_zr hM) hv
    exact stepS_NR hM hd (fun x z => by cases z; exact hc) hb nv.bs h
theorem det3S_err {mu d x : Int} {V : VV} (h : det3S mu d V = .error x) : x = 1 ∨ x = 4 := by
  unfold det3S at h
  split at h
  case h_1 he => cases h; exact stepS_err (fun _ z => det2S_err z) he
  case h_2 a ha =>
    split at h
    case h_1 he => cases h; exact stepS_err (fun _ z => det2S_err z) he
    case h_2 b hb => exact stepS_err (fun _ z => det2S_err z) h
theorem det3S_NR {mu d : Int} {V : VV} {w : Int → PP} (hM : MU mu) (hd : 0 ≤ d ∧ d ≤ 2) (hV : NV mu d 3 V) (h : det3S mu d V = .ok w) : NR mu (cof d) w := by
  have n : ∀ i j, in3 i → in3 j → NBs mu (V i j) (cof d) := fun i j hi hj => hV i j hi hj
  unfold det3S at h
  split at h
  case h_1 => cases h
  case h_2 a ha =>
    have na := stepS_NR hM hd (fun x z => (det2S_NR hM hd (n _ _ (by decide) (by decide)) (n _ _ (by decide) (by decide)) (n _ _ (by decide) (by decide)) (n _ _ (by decide) (by decide)) z).bs) (n 0 0 (by decide) (by decide)) (fun _ _ _ => NB_zr hM) ha
    split at h
    case h_1 => cases h
    case h_2 b hb =>
      have nb := stepS_NR hM hd (fun x z => (det2S_NR hM hd (n _ _ (by decide) (by decide)) (n _ _ (by decide) (by decide)) (n _ _ (by decide) (by decide)) (n _ _ (by decide) (by decide)) z).bs) (n 0 1 (by decide) (by decide)) na.bs hb
      exact stepS_NR hM hd (fun x z => (det2S_NR hM hd (n _ _ (by decide) (by decide)) (n _ _ (by decide) (by decide)) (n _ _ (by decide) (by decide)) (n _ _ (by decide) (by decide)) z).bs) (n 0 2 (by decide) (by decide)) nb.bs h
theorem c_ntz {m : MM} {Q : Int → MM → Prop} {x t : Int} (h : (iAnd (iXor x (-1)) (x - 1) = 0 ∧ t = 0) ∨ (iAnd (iXor x (-1)) (x - 1) = 1 ∧ t = 1) ∨ (iAnd (iXor x (-1)) (x - 1) = 3 ∧ t = 2)) (k : Q t m) : P_J6_numberOfTrailingZeros x m Q := by
  unfold P_J6_numberOfTrailingZeros
  rcases h with ⟨e, rfl⟩ | ⟨e, rfl⟩ | ⟨e, rfl⟩ <;> rw [e]
  · refine ⟨by decide, ?_⟩
    rw [if_neg (by decide), show iAnd 0 32 = 0 by decide]
    exact k
  · refine ⟨by decide, ?_⟩
    rw [if_pos (by decide), if_pos (by decide)]
    refine ⟨by decide, ?_⟩
    rw [if_pos (by decide)]
    refine ⟨by decide, ?_⟩
    rw [if_pos (by decide)]
    refine ⟨by decide, ?_⟩
    rw [if_pos (by decide), show (1 : Int) + iUshr 1 1 = 1 by decide]
    exact k
  · refine ⟨by decide, ?_⟩
    rw [if_pos (by decide), if_pos (by decide)]
    refine ⟨by decide, ?_⟩
    rw [if_pos (by decide)]
    refine ⟨by decide, ?_⟩
    rw [if_pos (by decide)]
    refine ⟨by decide, ?_⟩
    rw [if_pos (by decide), show (1 : Int) + iUshr 3 1 = 2 by decide]
    exact k
section DETC
variable {Q : Int → MM → Prop} {T : MM → Prop} {r b mu d s x to : Int} {V : VV}
abbrev Bit (R i : Int) : Prop := R = 1 ∧ i = 0 ∨ R = 2 ∧ i = 1 ∨ R = 4 ∧ i = 2
theorem Bit.n {R i : Int} (h : Bit R i) : ((iAnd (iXor R (-1)) (R - 1) = 0 ∧ i = 0) ∨ (iAnd (iXor R (-1)) (R - 1) = 1 ∧ i = 1) ∨ (iAnd (iXor R (-1)) (R - 1) = 3 ∧ i = 2)) ∧ iAnd R (R - 1) = 0 := by
  rcases h with ⟨rfl, rfl⟩ | ⟨rfl, rfl⟩ | ⟨rfl, rfl⟩ <;> exact ⟨by decide, by decide⟩
/-- a minor of one row and one column: the entry -/
theorem c_minor1 {n : Nat} {m : MM} {R C i j : Int} (hR : RG r b d s) (hi : Bit R i) (hj : Bit C j) (hi1 : i < rws s) (hj1 : j < rws s) (hx : Cl x (VS d s)) (ht : Cl to (2 * cof d)) (vx : VC (m 379) x d s V) (h : ∀ m', Fc (fun q => to ≤ q ∧ q < to + 2 * cof d) m m' → m' 378 2 = m 378 2 → Rw (m' 379) to (V i j) (cof d) → Q 0 m') : R_X8_minor (n + 1) 0 [r, x, R, C, to] m Q T := by
  obtain ⟨-, hb, hd, hs⟩ := id hR
  have hc := cof_bd hd
  have i0 : 0 ≤ i := by rcases hi with ⟨-, rfl⟩ | ⟨-, rfl⟩ | ⟨-, rfl⟩ <;> decide
  have j0 : 0 ≤ j := by rcases hj with ⟨-, rfl⟩ | ⟨-, rfl⟩ | ⟨-, rfl⟩ <;> decide
  have bd := EA_bd (d := d) (s := s) (i := i) (j := j) hd hs ⟨i0, hi1⟩ ⟨j0, hj1⟩
  obtain ⟨a1, a2⟩ := hi.n
  obtain ⟨b1, b2⟩ := hj.n
  show W_X8_minor (R_X8_minor n) r x R C to m Q T
  refine c_coef hR (c_base hR (c_size hR (c_ntz a1 ?_)))
  rw [a2]
  refine ⟨by decide, ?_⟩
  rw [if_pos rfl]
  refine c_ntz b1 (c_X8_copy (by omega) (show Cl (x + EA d s i j) (2 * cof d) by omega) ht (fun m' f e cp => h m' f e ?_))
  exact (vx i j ⟨i0, hi1⟩ ⟨j0, hj1⟩).cp cp
/-- a summand of a minor -/
theorem minor_do {rec : Nat → List Int → MM → (Int → MM → Prop) → (MM → Prop) → Prop} {n : Nat} {m : MM} {R R1 C C1 row j ls small : Int} {rs : EX (Int → PP)} {a : Int → PP} {Ss : Int → Prop} (hR : RG r b d s) (hmu : muC m b = mu) (hM : MU mu) (he : m 378 2 = 0) (hls : ls = 0 ∨ ls = 1) (hrow : 0 ≤ row ∧ row < s) (hj : 0 ≤ j ∧ j < s) (hx : Cl x (VS d s)) (ht : Cl to (2 * cof d)) (dx : Dj x (VS d s) 1157282 494) (dt : Dj to (2 * cof d) 1157380 396) (hbit : iAnd (iShr C j) 1 = 1) (hR1 : iAnd R (R - 1) = R1) (hC1 : iAnd C (iXor (iShl 1 j) (-1)) = C1) (hsm : (iAnd R1 (R1 - 1) = 0 ∧ small = 1157580) ∨ (iAnd R1 (R1 - 1) = 4 ∧ small = 1157282)) (hts : Dj to (2 * cof d) small (2 * cof d)) (vx : VC (m 379) x d s V) (nV : NV mu d s V) (ra : Rw (m 379) to a (cof d)) (na : NBs mu a (cof d)) (hSs : ∀ q, Ss q → 1157282 ≤ q ∧ q < 1157776 ∧ ¬ (to ≤ q ∧ q < to + 2 * cof d)) (nrs : ∀ x, rs = .ok x → NBs mu x (cof d)) (ers : ∀ x, rs = .error x → x = 1 ∨ x = 4) (hrec : ∀ Qk : Int → MM → Prop, OutC Ss m rs small (cof d) Qk → rec 0 [r, x, R1, C1, small] m Qk T) (ok : ∀ w m', stepS mu d ls rs (V row j) a = .ok w → Fc (fun q => Ss q ∨ 1157380 ≤ q ∧ q < 1157776 ∨ to ≤ q ∧ q < to + 2 * cof d) m m' → m' 378 2 = 0 → Rw (m' 379) to w (cof d) → P_X8_minor_73 rec Q T (n + 1) r x R C to (cof d) b s row (if ls = 0 then 1 else 0) (j + 1) m') (er : ∀ e m', stepS mu d ls rs (V row j) a = .error e → Fc (fun q => Ss q ∨ 1157380 ≤ q ∧ q < 1157776 ∨ to ≤ q ∧ q < to + 2 * cof d) m m' → m' 378 2 = e → Q 0 m') : P_X8_minor_73 rec Q T (n + 2) r x R C to (cof d) b s row ls j m := by
  obtain ⟨-, hb, hd, hs⟩ := id hR
  have hc := cof_bd hd
  have hcN : ((cof d).toNat : Int) = cof d := by omega
  have hr : rws s = s := by unfold rws; omega
  have bd := EA_bd (d := d) (s := s) (i := row) (j := j) hd hs (by omega) (by omega)
  have hsb : small = 1157580 ∨ small = 1157282 := by rcases hsm with ⟨-, e⟩ | ⟨-, e⟩ <;> omega
  have hsm2 : (if iAnd R1 (R1 - 1) = 0 then (1157580 : Int) else 1157282) = small := by
    rcases hsm with ⟨e, e2⟩ | ⟨e, e2⟩
    · rw [if_pos e, e2]
    · rw [if_neg (by rw [e]; decide), e2]
  have hri : RI (iAnd R1 (R1 - 1)) := by rcases hsm with ⟨e, -⟩ | ⟨e, -⟩ <;> rw [e] <;> decide
  -- what follows an error
  have fin : ∀ m1 : MM, RI (m1 378 2) → m1 378 2 ≠ 0 → Q 0 m1 → P_X8_minor_208 rec Q T (fun z0 z1 z2 z3 z4 z5 z6 z7 z8 z9 z10 z11 => P_X8_minor_73 rec Q T (n + 1) z0 z1 z2 z3 z4 z5 z6 z7 z8 z9 z10 z11) r x R C to (cof d) b s row ls j m1 := by
    intro m1 h1 h2 q
    have z : ∀ l : Int, P_X8_minor_73 rec Q T (n + 1) r x R C to (cof d) b s row l (j + 1) m1 := by
      intro l
      refine ⟨by constructor <;> omega, by constructor <;> omega, ?_⟩
      by_cases c : s ≤ j + 1
      · rw [if_pos c]; exact q
      · rw [if_neg c]
        refine ⟨h1, ?_⟩
        rw [if_neg h2]
        exact q
    refine ⟨by constructor <;> omega, ?_⟩
    split
    · exact z 1
    · exact z 0
  refine ⟨by constructor <;> omega, by constructor <;> omega, ?_⟩
  rw [if_neg (by omega)]
  refine ⟨by rw [he]; decide, ?_⟩
  rw [if_pos he, hbit]
  refine ⟨by decide, ?_⟩
  rw [if_neg (by decide), hR1, hC1, hsm2]
  refine ⟨hri, hrec _ ⟨fun sm m1 h1 f1 e1 r1 => ?_, fun e m1 h1 f1 e1 => ?_⟩⟩
  · subst h1
    refine ⟨by rw [e1]; decide, ?_⟩
    rw [if_pos e1]
    refine c_depth hR ?_
    unfold stepS at ok er
    simp only at ok er
    have f1' : Fc (fun q => Ss q ∨ 1157380 ≤ q ∧ q < 1157776 ∨ to ≤ q ∧ q < to + 2 * cof d) m m1 := f1.mono (fun q z => Or.inl z)
    have vE : Rw (m1 379) (x + EA d s row j) (V row j) (cof d) := (vx row j (by omega) (by omega)).fr f1 (fun q q0 q1 z => by have := hSs q z; omega)
    have ra1 : Rw (m1 379) to a (cof d) := ra.fr f1 (fun q q0 q1 z => by have := hSs q z; omega)
    have nE := nV row j (by omega) (by omega)
    have nsm := nrs _ rfl
    refine c_X8_product (u := V row j) (v := sm) (to := 1157678) hd (by constructor <;> omega) (by rw [f1.mu, hmu]) hM e1 (show Cl (x + EA d s row j) (2 * cof d) by omega) (by omega) (by omega) (show Dj (x + EA d s row j) (2 * cof d) 1157380 200 by omega) (by omega) (by omega) (show Dj (x + EA d s row j) (2 * cof d) 1157678 (2 * cof d) by omega) (by omega) vE r1 nE nsm ⟨fun t m2 h2 f2 e2 r2 => ?_, fun e m2 h2 f2 e2 => ?_⟩
    · rw [h2] at ok er
      simp only at ok er
      have nt := prodS_NB hM hd nE nsm h2
      have f2' : Fc (fun q => Ss q ∨ 1157380 ≤ q ∧ q < 1157776 ∨ to ≤ q ∧ q < to + 2 * cof d) m m2 := f1'.trans (f2.mono (fun q z => by right; left; unfold SP at z; omega))
      refine ⟨by rw [e2]; decide, ?_⟩
      rw [if_pos e2]
      have ra2 : Rw (m2 379) to a (cof d) := ra1.fr f2 (fun q q0 q1 z => by unfold SP at z; omega)
      rw [← hcN] at r2 ra2
      have key := c_X8_addAll (m := m2) (Q := fun _ m3 => P_X8_minor_208 rec Q T (fun z0 z1 z2 z3 z4 z5 z6 z7 z8 z9 z10 z11 => P_X8_minor_73 rec Q T (n + 1) z0 z1 z2 z3 z4 z5 z6 z7 z8 z9 z10 z11) r x R C to (cof d) b s row ls j m3) (n := (cof d).toNat) (u := a) (v := t) (ls := ls) (to := to) (x := to) (y := 1157678) (base := b) (mu := mu) (by constructor <;> omega) (by rw [f2'.mu, hmu]) hM (by constructor <;> omega) e2 (by omega) (by omega) (by omega) (Or.inl rfl) (by omega) ra2 r2 (by rw [hcN]; exact na) (fun k _ _ => nt.1 k) ⟨fun w m3 h3 f3 e3 r3 => ?_, fun e m3 h3 f3 e3 => ?_⟩
      · rw [hcN] at key
        exact key
      · rw [hcN] at r3 f3
        have f3' : Fc (fun q => Ss q ∨ 1157380 ≤ q ∧ q < 1157776 ∨ to ≤ q ∧ q < to + 2 * cof d) m m3 := f2'.trans (f3.mono (fun q z => Or.inr (Or.inr z)))
        have q := ok w m3 h3 f3' e3 r3
        refine ⟨by constructor <;> omega, ?_⟩
        rcases hls with c | c
        · subst c
          rw [if_pos rfl] at q ⊢
          exact q
        · subst c
          rw [if_neg (by decide)] at q ⊢
          exact q
      · rw [hcN] at f3
        have := addR_err h3
        exact fin m3 (by rw [e3, this]; decide) (by rw [e3, this]; decide) (er e m3 h3 (f2'.trans (f3.mono (fun q z => Or.inr (Or.inr z)))) e3)
    · rw [h2] at er
      have := prodS_err h2
      have q := er e m2 rfl (f1'.trans (f2.mono (fun q z => by right; left; unfold SP at z; omega))) e2
      refine ⟨by rw [e2]; constructor <;> omega, ?_⟩
      rw [if_neg (by rw [e2]; omega)]
      exact fin m2 (by rw [e2]; constructor <;> omega) (by rw [e2]; omega) q
  · subst h1
    have := ers e rfl
    unfold stepS at er
    have q := er e m1 rfl (f1.mono (fun q z => Or.inl z)) e1
    refine ⟨by rw [e1]; constructor <;> omega, ?_⟩
    rw [if_neg (by rw [e1]; omega)]
    refine ⟨by rw [e1]; constructor <;> omega, ?_⟩
    rw [if_neg (by rw [e1]; omega)]
    exact fin m1 (by rw [e1]; constructor <;> omega) (by rw [e1]; omega) q
theorem minor_skip {rec : Nat → List Int → MM → (Int → MM → Prop) → (MM → Prop) → Prop} {n : Nat} {m : MM} {R C row j ls : Int} (hs : 0 ≤ s ∧ s ≤ 3) (hj : 0 ≤ j ∧ j < s) (he : m 378 2 = 0) (hbit : iAnd (iShr C j) 1 = 0) (k : P_X8_minor_73 rec Q T n r x R C to (cof d) b s row ls (j + 1) m) : P_X8_minor_73 rec Q T (n + 1) r x R C to (cof d) b s row ls j m := by
  refine ⟨by constructor <;> omega, by constructor <;> omega, ?_⟩
  rw [if_neg (by omega)]
  refine ⟨by rw [he]; decide, ?_⟩
  rw [if_pos he, hbit]
  refine ⟨by decide, ?_⟩
  rw [if_pos rfl]
  exact k
theorem minor_end {rec : Nat → List Int → MM → (Int → MM → Prop) → (MM → Prop) → Prop} {n : Nat} {m : MM} {R C row j ls : Int} (hs : 0 ≤ s ∧ s ≤ 3) (hj : j = s) (k : Q 0 m) : P_X8_minor_73 rec Q T (n + 1) r x R C to (cof d) b s row ls j m := by
  refine ⟨by constructor <;> omega, by constructor <;> omega, ?_⟩
  rw [if_pos (by omega)]
  exact k
abbrev Two (R i j : Int) : Prop := R = 3 ∧ i = 0 ∧ j = 1 ∨ R = 5 ∧ i = 0 ∧ j = 2 ∨ R = 6 ∧ i = 1 ∧ j = 2
theorem Two.n {R i j : Int} (h : Two R i j) : ((iAnd (iXor R (-1)) (R - 1) = 0 ∧ i = 0) ∨ (iAnd (iXor R (-1)) (R - 1) = 1 ∧ i = 1) ∨ (iAnd (iXor R (-1)) (R - 1) = 3 ∧ i = 2)) ∧ (0 ≤ i ∧ i < j ∧ j ≤ 2) ∧ ∃ R1, iAnd R (R - 1) = R1 ∧ Bit R1 j ∧ R1 ≠ 0 ∧ RI R1 ∧ iAnd R1 (R1 - 1) = 0 := by
  rcases h with ⟨rfl, rfl, rfl⟩ | ⟨rfl, rfl, rfl⟩ | ⟨rfl, rfl, rfl⟩
  · exact ⟨by decide, by decide, 2, by decide, by decide, by decide, by decide, by decide⟩
  · exact ⟨by decide, by decide, 4, by decide, by decide, by decide, by decide, by decide⟩
  · exact ⟨by decide, by decide, 4, by decide, by decide, by decide, by decide, by decide⟩
theorem Two.c {C j l : Int} (h : Two C j l) : (iAnd (iShr C j) 1 = 1 ∧ ∃ C1, iAnd C (iXor (iShl 1 j) (-1)) = C1 ∧ Bit C1 l) ∧ (iAnd (iShr C l) 1 = 1 ∧ ∃ C1, iAnd C (iXor (iShl 1 l) (-1)) = C1 ∧ Bit C1 j) := by
  rcases h with ⟨rfl, rfl, rfl⟩ | ⟨rfl, rfl, rfl⟩ | ⟨rfl, rfl, rfl⟩
  · exact ⟨⟨by decide, 2, by decide, by decide⟩, by decide, 1, by decide, by decide⟩
  · exact ⟨⟨by decide, 4, by decide, by decide⟩, by decide, 1, by decide, by decide⟩
  · exact ⟨⟨by decide, 4, by decide, by decide⟩, by decide, 2, by decide, by decide⟩
def S2 (to d : Int) (q : Int) : Prop := 1157380 ≤ q ∧ q < 1157776 ∨ to ≤ q ∧ q < to + 2 * cof d
theorem VC.fr {S : Int → Prop} {m m' : MM} {a d s : Int} {V : VV} (h : VC (m 379) a d s V) (hd : 0 ≤ d ∧ d ≤ 2) (hs : 0 ≤ s ∧ s ≤ 3) (f : Fc S m m') (k : ∀ q, a ≤ q → q < a + VS d s → ¬ S q) : VC (m' 379) a d s V := fun i j hi hj => (h i j hi hj).fr f (fun q q0 q1 => by have := EA_bd (d := d) (s := s) hd hs hi hj; exact k q (by omega) (by omega))
theorem c_minor2 {n : Nat} {m : MM} {R C i0 i1 j0 j1 : Int} (hR : RG r b d s) (hmu : muC m b = mu) (hM : MU mu) (he : m 378 2 = 0) (hi : Two R i0 i1) (hj : Two C j0 j1) (hi1 : i1 < s) (hj1 : j1 < s) (hx : Cl x (VS d s)) (ht : Cl to (2 * cof d)) (dx : Dj x (VS d s) 1157282 494) (dt : Dj to (2 * cof d) 1157380 396) (ex : Dj x (VS d s) to (2 * cof d)) (vx : VC (m 379) x d s V) (nV : NV mu d s V) (h : OutC (S2 to d) m (det2S mu d (V i0 j0) (V i0 j1) (V i1 j0) (V i1 j1)) to (cof d) Q) : R_X8_minor (n + 2) 0 [r, x, R, C, to] m Q T := by
  obtain ⟨-, hb, hd, hs⟩ := id hR
  have hc := cof_bd hd
  have hcN : ((cof d).toNat : Int) = cof d := by omega
  have hr : rws s = s := by have := hi.n.2.1; unfold rws; omega
  obtain ⟨n1, n2, R1, n3, n4, n5, n6, n7⟩ := hi.n
  obtain ⟨⟨c1, C1, c2, c3⟩, c4, C2, c5, c6⟩ := hj.c
  have hjj := hj.n.2.1
  show W_X8_minor (R_X8_minor (n + 1)) r x R C to m Q T
  refine c_coef hR (c_base hR (c_size hR (c_ntz n1 ?_)))
  rw [n3]
  refine ⟨n6, ?_⟩
  rw [if_neg n5]
  rw [← hcN]
  refine c_X8_clear (by omega) (by omega) (fun m1 f1 e1 r1 => ?_)
  rw [hcN] at f1 r1 ⊢
  rw [det2S_eq] at h
  have f1' : Fc (S2 to d) m m1 := f1.mono (fun q z => Or.inr z)
  have v1 : VC (m1 379) x d s V := vx.fr hd hs f1 (fun q q0 q1 z => by omega)
  -- one summand
  have D : ∀ (nn : Nat) (ma : MM) (ls j l Cx : Int) (a : Int → PP), Fc (S2 to d) m ma → ma 378 2 = 0 → (ls = 0 ∨ ls = 1) → (0 ≤ j ∧ j < s) → (0 ≤ l ∧ l < s) → iAnd (iShr C j) 1 = 1 → iAnd C (iXor (iShl 1 j) (-1)) = Cx → Bit Cx l → Rw (ma 379) to a (cof d) → NBs mu a (cof d) → (∀ w m', stepS mu d ls (.ok (V i1 l)) (V i0 j) a = .ok w → Fc (S2 to d) m m' → m' 378 2 = 0 → Rw (m' 379) to w (cof d) → P_X8_minor_73 (R_X8_minor (n + 1)) Q T (nn + 1) r x R C to (cof d) b s i0 (if ls = 0 then 1 else 0) (j + 1) m') → (∀ e m', stepS mu d ls (.ok (V i1 l)) (V i0 j) a = .error e → Fc (S2 to d) m m' → m' 378 2 = e → Q 0 m') → P_X8_minor_73 (R_X8_minor (n + 1)) Q T (nn + 2) r x R C to (cof d) b s i0 ls j ma := by
    intro nn ma ls j l Cx a fa ea hls hj' hl' b1 b2 b3 ra na ok er
    have va : VC (ma 379) x d s V := vx.fr hd hs fa (fun q q0 q1 z => by unfold S2 at z; omega)
    have sub : ∀ q, ((1157580 ≤ q ∧ q < 1157580 + 2 * cof d) ∨ 1157380 ≤ q ∧ q < 1157776 ∨ to ≤ q ∧ q < to + 2 * cof d) → S2 to d q := fun q z => by unfold S2; omega
    refine minor_do (V := V) (rs := .ok (V i1 l)) (Ss := fun q => 1157580 ≤ q ∧ q < 1157580 + 2 * cof d) (small := 1157580) hR (by rw [fa.mu, hmu]) hM ea hls (by omega) hj' hx ht dx dt b1 n3 b2 (Or.inl ⟨n7, rfl⟩) (by omega) va nV ra na (fun q z => by omega) (fun x z => by cases z; exact nV i1 l (by omega) (by omega)) (fun x z => by cases z) (fun Qk hk => ?_) (fun w m' q1 q2 q3 q4 => ok w m' q1 (fa.trans (q2.mono sub)) q3 q4) (fun e m' q1 q2 q3 => er e m' q1 (fa.trans (q2.mono sub)) q3)
    exact c_minor1 hR n4 b3 (by omega) (by omega) hx (by omega) va (fun m' q1 q2 q3 => hk.1 _ m' rfl q1 (by rw [q2, ea]) q3)
  -- both, and what is between
  have step2 : ∀ (nn : Nat) (ma : MM) (w : Int → PP), stepS mu d 0 (.ok (V i1 j1)) (V i0 j0) zr = .ok w → Fc (S2 to d) m ma → ma 378 2 = 0 → Rw (ma 379) to w (cof d) → (∀ m', Q 0 m' → m' 378 2 = 0 → P_X8_minor_73 (R_X8_minor (n + 1)) Q T (nn + 1) r x R C to (cof d) b s i0 0 (j1 + 1) m') → P_X8_minor_73 (R_X8_minor (n + 1)) Q T (nn + 2) r x R C to (cof d) b s i0 1 j1 ma := by
    intro nn ma w hw fa ea ra fin
    rw [hw] at h
    simp only at h
    have nw := stepS_NR hM hd (fun x z => by cases z; exact nV i1 j1 (by omega) (by omega)) (nV i0 j0 (by omega) (by omega)) (fun _ _ _ => NB_zr hM) hw
    refine D nn ma 1 j1 j0 C2 w fa ea (Or.inr rfl) (by omega) (by omega) c4 c5 c6 ra nw.bs (fun w2 m' q1 q2 q3 q4 => ?_) (fun e m' q1 q2 q3 => h.2 e m' q1 q2 q3)
    rw [if_neg (by decide)]
    exact fin m' (h.1 w2 m' q1 q2 q3 q4) q3
  have step1 : ∀ (nn : Nat) (ma : MM), Fc (S2 to d) m ma → ma 378 2 = 0 → Rw (ma 379) to zr (cof d) → (∀ w m', stepS mu d 0 (.ok (V i1 j1)) (V i0 j0) zr = .ok w → Fc (S2 to d) m m' → m' 378 2 = 0 → Rw (m' 379) to w (cof d) → P_X8_minor_73 (R_X8_minor (n + 1)) Q T (nn + 1) r x R C to (cof d) b s i0 1 (j0 + 1) m') → P_X8_minor_73 (R_X8_minor (n + 1)) Q T (nn + 2) r x R C to (cof d) b s i0 0 j0 ma := by
    intro nn ma fa ea ra ok
    refine D nn ma 0 j0 j1 C1 zr fa ea (Or.inl rfl) (by omega) (by omega) c1 c2 c3 ra (fun _ _ _ => NB_zr hM) (fun w m' q1 q2 q3 q4 => ?_) (fun e m' q1 q2 q3 => ?_)
    · rw [if_pos rfl]
      exact ok w m' q1 q2 q3 q4
    · rw [q1] at h
      exact h.2 e m' rfl q2 q3
  have e1' : m1 378 2 = 0 := by rw [e1, he]
  rcases hj with ⟨rfl, rfl, rfl⟩ | ⟨rfl, rfl, rfl⟩ | ⟨rfl, rfl, rfl⟩
  · refine ⟨10, step1 8 m1 f1' e1' r1 (fun w m2 q1 q2 q3 q4 => step2 7 m2 w q1 q2 q3 q4 (fun m' q e => ?_))⟩
    by_cases c : s = 2
    · exact minor_end hs (by omega) q
    · exact minor_skip hs (by omega) e (by decide) (minor_end hs (by omega) q)
  · refine ⟨10, step1 8 m1 f1' e1' r1 (fun w m2 q1 q2 q3 q4 => minor_skip hs (by omega) q3 (by decide) (step2 6 m2 w q1 q2 q3 q4 (fun m' q e => minor_end hs (by omega) q)))⟩
  · refine ⟨10, minor_skip hs (by omega) e1' (by decide) (step1 7 m1 f1' e1' r1 (fun w m2 q1 q2 q3 q4 => step2 6 m2 w q1 q2 q3 q4 (fun m' q e => minor_end hs (by omega) q)))⟩
/-- what a determinant may change -/
def S3 (to d : Int) (q : Int) : Prop := 1157282 ≤ q ∧ q < 1157776 ∨ to ≤ q ∧ q < to + 2 * cof d
theorem c_minor3 {n : Nat} {m : MM} (hR : RG r b d 3) (hmu : muC m b = mu) (hM : MU mu) (he : m 378 2 = 0) (hx : Cl x (VS d 3)) (ht : Cl to (2 * cof d)) (dx : Dj x (VS d 3) 1157282 494) (dt : Dj to (2 * cof d) 1157282 494) (ex : Dj x (VS d 3) to (2 * cof d)) (vx : VC (m 379) x d 3 V) (nV : NV mu d 3 V) (h : OutC (S3 to d) m (det3S mu d V) to (cof d) Q) : R_X8_minor (n + 3) 0 [r, x, 7, 7, to] m Q T := by
  obtain ⟨-, hb, hd, hs⟩ := id hR
  have hc := cof_bd hd
  have hcN : ((cof d).toNat : Int) = cof d := by omega
  have n0 : ∀ i j, in3 i → in3 j → NBs mu (V i j) (cof d) := fun i j hi hj => nV i j hi hj
  show W_X8_minor (R_X8_minor (n + 2)) r x 7 7 to m Q T
  refine c_coef hR (c_base hR (c_size hR (c_ntz (t := 0) (by decide) ?_)))
  rw [show iAnd 7 (7 - 1) = 6 by decide]
  refine ⟨by decide, ?_⟩
  rw [if_neg (by decide)]
  rw [← hcN]
  refine c_X8_clear (by omega) (by omega) (fun m1 f1 e1 r1 => ?_)
  rw [hcN] at f1 r1 ⊢
  have f1' : Fc (S3 to d) m m1 := f1.mono (fun q z => Or.inr z)
  have e1' : m1 378 2 = 0 := by rw [e1, he]
  have D : ∀ (nn : Nat) (ma : MM) (ls j l0 l1 Cx : Int) (a : Int → PP), Fc (S3 to d) m ma → ma 378 2 = 0 → (ls = 0 ∨ ls = 1) → (0 ≤ j ∧ j < 3) → iAnd (iShr 7 j) 1 = 1 → iAnd 7 (iXor (iShl 1 j) (-1)) = Cx → Two Cx l0 l1 → Rw (ma 379) to a (cof d) → NBs mu a (cof d) → (∀ w m', stepS mu d ls (det2S mu d (V 1 l0) (V 1 l1) (V 2 l0) (V 2 l1)) (V 0 j) a = .ok w → Fc (S3 to d) m m' → m' 378 2 = 0 → Rw (m' 379) to w (cof d) → P_X8_minor_73 (R_X8_minor (n + 2)) Q T (nn + 1) r x 7 7 to (cof d) b 3 0 (if ls = 0 then 1 else 0) (j + 1) m') → (∀ e m', stepS mu d ls (det2S mu d (V 1 l0) (V 1 l1) (V 2 l0) (V 2 l1)) (V 0 j) a = .error e → Fc (S3 to d) m m' → m' 378 2 = e → Q 0 m') → P_X8_minor_73 (R_X8_minor (n + 2)) Q T (nn + 2) r x 7 7 to (cof d) b 3 0 ls j ma := by
    intro nn ma ls j l0 l1 Cx a fa ea hls hj' b1 b2 b3 ra na ok er
    have hll := b3.n.2.1
    have va : VC (ma 379) x d 3 V := vx.fr hd hs fa (fun q q0 q1 z => by unfold S3 at z; omega)
    have sub : ∀ q, (S2 1157282 d q ∨ 1157380 ≤ q ∧ q < 1157776 ∨ to ≤ q ∧ q < to + 2 * cof d) → S3 to d q := fun q z => by unfold S3; unfold S2 at z; omega
    refine minor_do (V := V) (rs := det2S mu d (V 1 l0) (V 1 l1) (V 2 l0) (V 2 l1)) (Ss := S2 1157282 d) (small := 1157282) (R1 := 6) hR (by rw [fa.mu, hmu]) hM ea hls (by decide) hj' hx ht dx (by omega) b1 (by decide) b2 (Or.inr ⟨by decide, rfl⟩) (by omega) va nV ra na (fun q z => by unfold S2 at z; omega) (fun x z => (det2S_NR hM hd (n0 _ _ (by decide) (by omega)) (n0 _ _ (by decide) (by omega)) (n0 _ _ (by decide) (by omega)) (n0 _ _ (by decide) (by omega)) z).bs) (fun x z => det2S_err z) (fun Qk hk => ?_) (fun w m' q1 q2 q3 q4 => ok w m' q1 (fa.trans (q2.mono sub)) q3 q4) (fun e m' q1 q2 q3 => er e m' q1 (fa.trans (q2.mono sub)) q3)
    exact c_minor2 hR (by rw [fa.mu, hmu]) hM ea (show Two 6 1 2 by decide) b3 (by decide) (by omega) hx (by omega) dx (by omega) (by omega) va nV hk
  unfold det3S at h
  refine ⟨10, D 8 m1 0 0 1 2 6 zr f1' e1' (Or.inl rfl) (by decide) (by decide) (by decide) (by decide) r1 (fun _ _ _ => NB_zr hM) (fun w1 m2 q1 q2 q3 q4 => ?_) (fun e m' q1 q2 q3 => ?_)⟩
  · rw [q1] at h
    simp only at h
    have nw := stepS_NR hM hd (fun x z => (det2S_NR hM hd (n0 _ _ (by decide) (by decide)) (n0 _ _ (by decide) (by decide)) (n0 _ _ (by decide) (by decide)) (n0 _ _ (by decide) (by decide)) z).bs) (n0 0 0 (by decide) (by decide)) (fun _ _ _ => NB_zr hM) q1
    rw [if_pos rfl]
    refine D 7 m2 1 1 0 2 5 w1 q2 q3 (Or.inr rfl) (by decide) (by decide) (by decide) (by decide) q4 nw.bs (fun w2 m3 p1 p2 p3 p4 => ?_) (fun e m' p1 p2 p3 => ?_)
    · rw [p1] at h
      simp only at h
      have nw2 := stepS_NR hM hd (fun x z => (det2S_NR hM hd (n0 _ _ (by decide) (by decide)) (n0 _ _ (by decide) (by decide)) (n0 _ _ (by decide) (by decide)) (n0 _ _ (by decide) (by decide)) z).bs) (n0 0 1 (by decide) (by decide)) nw.bs p1
      rw [if_neg (by decide)]
      refine D 6 m3 0 2 0 1 3 w2 p2 p3 (Or.inl rfl) (by decide) (by decide) (by decide) (by decide) p4 nw2.bs (fun w3 m4 t1 t2 t3 t4 => ?_) (fun e m' t1 t2 t3 => h.2 e m' t1 t2 t3)
      exact minor_end (by decide) (by decide) (h.1 w3 m4 t1 t2 t3 t4)
    · rw [p1] at h
      exact h.2 e m' rfl p2 p3
  · rw [q1] at h
    exact h.2 e m' rfl q2 q3
theorem c_X8_determinant {m : MM} (hR : RG r b d s) (hs1 : 1 ≤ s) (hmu : muC m b = mu) (hM : MU mu) (he : m 378 2 = 0) (hx : Cl x (VS d s)) (ht : Cl to (2 * cof d)) (dx : Dj x (VS d s) 1157282 494) (dt : Dj to (2 * cof d) 1157282 494) (ex : Dj x (VS d s) to (2 * cof d)) (vx : VC (m 379) x d s V) (nV : NV mu d s V) (h : OutC (S3 to d) m (detS mu d s V) to (cof d) Q) : P_X8_determinant r x to m Q := by
  obtain ⟨-, hb, hd, hs⟩ := id hR
  have hc := cof_bd hd
  refine c_size hR (c_size hR ?_)
  unfold detS at h
  have : s = 1 ∨ s = 2 ∨ s = 3 := by omega
  rcases this with rfl | rfl | rfl
  · rw [show iShl 1 1 - 1 = 1 by decide]
    rw [if_pos rfl] at h
    exact c_minor1 (V := V) hR (show Bit 1 0 by decide) (show Bit 1 0 by decide) (by decide) (by decide) hx ht vx (fun m' f e q => h.1 _ m' rfl (f.mono (fun q z => Or.inr z)) (by rw [e, he]) q)
  · rw [show iShl 1 2 - 1 = 3 by decide]
    rw [if_neg (by decide), if_pos rfl] at h
    exact c_minor2 (V := V) hR hmu hM he (show Two 3 0 1 by decide) (show Two 3 0 1 by decide) (by decide) (by decide) hx ht dx (by omega) ex vx nV ⟨fun w m' a f => h.1 w m' a (f.mono (fun q z => by unfold S2 at z; unfold S3; omega)), fun e m' a f => h.2 e m' a (f.mono (fun q z => by unfold S2 at z; unfold S3; omega))⟩
  · rw [show iShl 1 3 - 1 = 7 by decide]
    rw [if_neg (by decide), if_neg (by decide)] at h
    exact c_minor3 (V := V) hR hmu hM he hx ht dx dt ex vx nV h
end DETC
