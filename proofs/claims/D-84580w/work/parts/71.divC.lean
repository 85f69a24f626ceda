set_option maxRecDepth 100000
/-! quotients of polynomials: the specification; the component -/
def dvR (mu : Int) (v : Int → PP) (c : PP) (e : Int) : Nat → Int → (Int → PP) → EX (Int → PP)
  | 0, _, w => .ok w
  | n + 1, i, w => match mulS mu c (v i) with
    | .error x => .error x
    | .ok t => match addS mu 1 (w (i + e)) t with
      | .error x => .error x
      | .ok z => dvR mu v c e n (i + 1) (setP w (i + e) z)
def dvG (mu : Int) (v : Int → PP) (d : Int) : Nat → (Int → PP) → (Int → PP) → EX ((Int → PP) × (Int → PP))
  | 0, q, w => .ok (q, w)
  | n + 1, q, w => if degS w < d then .ok (q, w) else match divS mu (w (degS w)) (v d) with
    | .error x => .error x
    | .ok c => match dvR mu v c (degS w - d) (d + 1).toNat 0 w with
      | .error x => .error x
      | .ok w' => dvG mu v d n (setP q (degS w - d) c) w'
def dvP (mu : Int) (u v : Int → PP) : EX ((Int → PP) × (Int → PP)) := if degS v < 0 then .error 2 else dvG mu v (degS v) 8 zr u
theorem setP_at {w : Int → PP} {i : Int} {p : PP} : setP w i p i = p := if_pos rfl
theorem setP_ne {w : Int → PP} {i j : Int} {p : PP} (h : j ≠ i) : setP w i p j = w j := if_neg h
theorem NR.set {mu c : Int} {w : Int → PP} {i : Int} {p : PP} (h : NR mu c w) (hi : i < c) (hp : NB mu p) : NR mu c (setP w i p) := by
  refine ⟨fun k => ?_, fun k hk => ?_⟩
  · unfold setP; split
    · exact hp
    · exact h.1 k
  · rw [setP_ne (by omega)]; exact h.2 k hk
theorem dvR_ok {mu : Int} {v : Int → PP} {c : PP} {e : Int} : ∀ (n : Nat) (i : Int) (w w' : Int → PP), dvR mu v c e n i w = .ok w' → (∀ j, ¬ (i + e ≤ j ∧ j < i + e + n) → w' j = w j) ∧ (∀ k, i ≤ k → k < i + n → ∃ t, mulS mu c (v k) = .ok t ∧ addS mu 1 (w (k + e)) t = .ok (w' (k + e))) := by
  intro n
  induction n with
  | zero => intro i w w' h; cases h; exact ⟨fun _ _ => rfl, fun k a b => by omega⟩
  | succ n ih =>
    intro i w w' h
    unfold dvR at h
    split at h
    case h_1 => cases h
    case h_2 t ht =>
      split at h
      case h_1 => cases h
      case h_2 z hz =>
        obtain ⟨h1, h2⟩ := ih _ _ _ h
        refine ⟨fun j hj => ?_, fun k k0 k1 => ?_⟩
        · rw [h1 j (by omega), setP_ne (by omega)]
        · by_cases c : k = i
          · subst c
            refine ⟨t, ht, ?_⟩
            rw [h1 (k + e) (by omega), setP_at]
            exact hz
          · obtain ⟨t2, a, b⟩ := h2 k (by omega) (by omega)
            refine ⟨t2, a, ?_⟩
            rw [setP_ne (by omega)] at b
            exact b
theorem dvR_NR {mu : Int} {v : Int → PP} {c : PP} {e : Int} (hM : MU mu) (nv : NR mu 7 v) (nc : NB mu c) : ∀ (n : Nat) (i : Int) (w w' : Int → PP), i + e + n ≤ 7 → NR mu 7 w → dvR mu v c e n i w = .ok w' → NR mu 7 w' := by
  intro n
  induction n with
  | zero => intro i w w' _ nw h; cases h; exact nw
  | succ n ih =>
    intro i w w' hi nw h
    unfold dvR at h
    split at h
    case h_1 => cases h
    case h_2 t ht =>
      split at h
      case h_1 => cases h
      case h_2 z hz => exact ih _ _ _ (by omega) (nw.set (by omega) (NB.add hM (nw.1 _) (NB.mul hM nc (nv.1 _) ht) hz)) h
theorem dvR_err {mu : Int} {v : Int → PP} {c : PP} {e x : Int} : ∀ (n : Nat) (i : Int) (w : Int → PP), dvR mu v c e n i w = .error x → x = 1 := by
  intro n
  induction n with
  | zero => intro i w h; cases h
  | succ n ih =>
    intro i w h
    unfold dvR at h
    split at h
    case h_1 he => cases h; exact mulS_err he
    case h_2 t ht =>
      split at h
      case h_1 he => cases h; exact addS_err he
      case h_2 z hz => exact ih _ _ h
/-- a step lowers the degree -/
theorem dvR_deg {mu : Int} {v w w' : Int → PP} {c : PP} {d : Int} (hM : MU mu) (hf : FD mu) (nv : NR mu 7 v) (nw : NR mu 7 w) (hd : 0 ≤ d ∧ d ≤ degS w) (hv : (v d).1 ≠ 0) (hc : divS mu (w (degS w)) (v d) = .ok c) (h : dvR mu v c (degS w - d) (d + 1).toNat 0 w = .ok w') : degS w' < degS w := by
  have hb := degS_bd w
  obtain ⟨h1, h2⟩ := dvR_ok _ _ _ _ h
  obtain ⟨t, t1, t2⟩ := h2 d (by omega) (by omega)
  rw [div_mul hM hf (nw.1 _) (nv.1 _) hv hc] at t1
  cases t1
  rw [show d + (degS w - d) = degS w by omega, sub_self hM (nw.1 _)] at t2
  have : degS w' ≤ degS w - 1 := by
    refine degG_le 7 (by omega) (fun j j0 j1 => ?_)
    by_cases cc : j = degS w
    · rw [cc, ← Except.ok.inj t2]
    · rw [h1 j (by omega)]
      exact degG_ab 7 j (show degG w 7 < j by have : degG w 7 = degS w := rfl; omega) j1
  omega
theorem dvG_NR {mu d : Int} {v : Int → PP} (hM : MU mu) (nv : NR mu 7 v) (hd : 0 ≤ d ∧ d ≤ 6) (hv : (v d).1 ≠ 0) : ∀ (n : Nat) (q w q' w' : Int → PP), NR mu 7 q → NR mu 7 w → dvG mu v d n q w = .ok (q', w') → NR mu 7 q' ∧ NR mu 7 w' := by
  intro n
  induction n with
  | zero => intro q w q' w' nq nw h; cases h; exact ⟨nq, nw⟩
  | succ n ih =>
    intro q w q' w' nq nw h
    have hb := degS_bd w
    unfold dvG at h
    split at h
    · cases h; exact ⟨nq, nw⟩
    · split at h
      case h_1 => cases h
      case h_2 c hc =>
        have nc := NB.div hM (nw.1 _) (nv.1 _) hv hc
        split at h
        case h_1 => cases h
        case h_2 w2 hw => exact ih _ _ _ _ (nq.set (by omega) nc) (dvR_NR hM nv nc _ _ _ _ (by omega) nw hw) h
theorem dvG_err {mu d x : Int} {v : Int → PP} : ∀ (n : Nat) (q w : Int → PP), dvG mu v d n q w = .error x → x = 1 := by
  intro n
  induction n with
  | zero => intro q w h; cases h
  | succ n ih =>
    intro q w h
    unfold dvG at h
    split at h
    · cases h
    · split at h
      case h_1 he => cases h; exact divS_err he
      case h_2 c hc =>
        split at h
        case h_1 he => cases h; exact dvR_err _ _ _ he
        case h_2 w2 hw => exact ih _ _ h
theorem degG_v {v : Int → PP} (h : 0 ≤ degS v) : (v (degS v)).1 ≠ 0 := degG_nz 7 h
theorem NR_z {mu : Int} (hM : MU mu) (c : Int) : NR mu c zr := ⟨fun _ => NB_zr hM, fun _ _ => rfl⟩
theorem dvP_err {mu x : Int} {u v : Int → PP} (h : dvP mu u v = .error x) : x = 1 ∨ x = 2 := by
  unfold dvP at h
  split at h
  · cases h; exact Or.inr rfl
  · exact Or.inl (dvG_err _ _ _ h)
theorem dvP_NR {mu : Int} {u v q w : Int → PP} (hM : MU mu) (nu : NR mu 7 u) (nv : NR mu 7 v) (h : dvP mu u v = .ok (q, w)) : NR mu 7 q ∧ NR mu 7 w := by
  unfold dvP at h
  have hb := degS_bd v
  split at h
  · cases h
  · exact dvG_NR hM nv (by omega) (degG_v (by omega)) _ _ _ _ _ (NR_z hM 7) nu h
/-- the rest is lower -/
theorem dvG_low {mu d : Int} {v : Int → PP} (hM : MU mu) (hf : FD mu) (nv : NR mu 7 v) (hd : 0 ≤ d ∧ d ≤ 6) (hv : (v d).1 ≠ 0) : ∀ (n : Nat) (q w q' w' : Int → PP), NR mu 7 w → degS w - d < n → dvG mu v d n q w = .ok (q', w') → degS w' < d := by
  intro n
  induction n with
  | zero => intro q w q' w' nw hn h; cases h; omega
  | succ n ih =>
    intro q w q' w' nw hn h
    have hb := degS_bd w
    unfold dvG at h
    split at h
    · cases h; assumption
    · split at h
      case h_1 => cases h
      case h_2 c hc =>
        have nc := NB.div hM (nw.1 _) (nv.1 _) hv hc
        split at h
        case h_1 => cases h
        case h_2 w2 hw =>
          have := dvR_deg hM hf nv nw (by omega) hv hc hw
          exact ih _ _ _ _ (dvR_NR hM nv nc _ _ _ _ (by omega) nw hw) (by omega) h
theorem dvP_low {mu : Int} {u v q w : Int → PP} (hM : MU mu) (hf : FD mu) (nu : NR mu 7 u) (nv : NR mu 7 v) (h : dvP mu u v = .ok (q, w)) : degS w < degS v := by
  unfold dvP at h
  have hb := degS_bd v
  have hu := degS_bd u
  split at h
  · cases h
  · exact dvG_low hM hf nv (by omega) (degG_v (by omega)) _ _ _ _ _ nu (by omega) h
/-! rows and single numbers -/
theorem Rw.set {m : MM} {a x n k : Int} {w : Int → PP} {z : PP} (h : Rw (m a) x w n) : Rw (pt m a (x + 2 * k) z a) x (setP w k z) n := by
  intro j j0 j1
  by_cases c : j = k
  · subst c
    rw [setP_at]
    have q := pt_at (m := m) (a := a) (x := x + 2 * j) (p := z)
    exact ⟨congrArg Prod.fst q, congrArg Prod.snd q⟩
  · rw [setP_ne c]
    have q := pt_ne (m := m) (a := a) (x := x + 2 * k) (y := x + 2 * j) (p := z) (by omega)
    have o := h j j0 j1
    exact ⟨(congrArg Prod.fst q).trans o.1, (congrArg Prod.snd q).trans o.2⟩
theorem Rw.ofs {m : MM} {a x n y : Int} {w : Int → PP} {z : PP} (h : Rw (m a) x w n) (d : y + 1 < x ∨ x + 2 * n ≤ y) : Rw (pt m a y z a) x w n := by
  intro j j0 j1
  have o := h j j0 j1
  have q : pr (pt m a y z) a (x + 2 * j) = pr m a (x + 2 * j) := by
    unfold pr pt
    rw [up_neI (by omega), up_neI (by omega), up_neI (by omega), up_neI (by omega)]
  exact ⟨(congrArg Prod.fst q).trans o.1, (congrArg Prod.snd q).trans o.2⟩
theorem Rw.oth {m : MM} {a b y i v n x : Int} {w : Int → PP} (h : Rw (m a) x w n) (hb : a ≠ b) : Rw (up m b i v a) x w n := by
  intro j j0 j1
  rw [up_ne (fun z => hb z.1), up_ne (fun z => hb z.1)]
  exact h j j0 j1
section DIVC
variable {Q : Int → MM → Prop} {base mu d x y : Int} {u v : Int → PP}
def SDi (q : Int) : Prop := 1157576 ≤ q ∧ q < 1157578 ∨ 1157776 ≤ q ∧ q < 1157790
def SDc (q : Int) : Prop := 1157576 ≤ q ∧ q < 1157578 ∨ 1157776 ≤ q ∧ q < 1157790 ∨ 1158658 ≤ q ∧ q < 1158672
theorem dvC_89e {K46 : Int → Int → Int → Int → MM → Prop} {m : MM} {n : Nat} {e i : Int} (hi : RI i) (hd : RI d) (he : RI (m 378 2)) (h0 : m 378 2 ≠ 0) (k : P_X8_divide_164 Q K46 base y d m) : P_X8_divide_89 Q K46 (n + 1) base y d e i m := by
  refine ⟨hi, hd, ?_⟩
  by_cases c : d < i
  · rw [if_pos c]; exact k
  · rw [if_neg c]
    refine ⟨he, ?_⟩
    rw [if_neg h0]
    exact k
theorem dvC_89 {K46 : Int → Int → Int → Int → MM → Prop} {e : Int} {c : PP} (hb : RI base) (hM : MU mu) (hd : 0 ≤ d ∧ d ≤ 6) (he : 0 ≤ e ∧ e + d ≤ 6) (hy : Cl y 14) (dy : Dj y 14 1157576 2 ∧ Dj y 14 1157776 14 ∧ Dj y 14 1158658 14) (nv : NR mu 7 v) (nc : NB mu c) : ∀ (n : Nat) (i : Int) (w : Int → PP) (m : MM), 0 ≤ i → i + n = d + 1 → muC m base = mu → m 378 2 = 0 → Rw (m 379) y v 7 → pr m 379 (1158658 + 2 * e) = c → Rw (m 379) 1157776 w 7 → NR mu 7 w → (∀ w' m', dvR mu v c e n i w = .ok w' → Fc SDi m m' → m' 378 2 = 0 → Rw (m' 379) 1157776 w' 7 → P_X8_divide_164 Q K46 base y d m') → (∀ z w' m', dvR mu v c e n i w = .error z → Fc SDi m m' → m' 378 2 = z → Rw (m' 379) 1157776 w' 7 → NR mu 7 w' → P_X8_divide_164 Q K46 base y d m') → P_X8_divide_89 Q K46 (n + 1) base y d e i m := by
  intro n
  induction n with
  | zero =>
    intro i w m i0 i1 hu er0 ry rc rw_ nw ok er
    refine ⟨by constructor <;> omega, by constructor <;> omega, ?_⟩
    rw [if_pos (by omega)]
    exact ok w m rfl (Fc.refl m) er0 rw_
  | succ n ih =>
    intro i w m i0 i1 hu er0 ry rc rw_ nw ok er
    refine ⟨by constructor <;> omega, by constructor <;> omega, ?_⟩
    rw [if_neg (by omega)]
    refine ⟨by rw [er0]; decide, ?_⟩
    rw [if_pos er0]
    unfold dvR at ok er
    have vi : pr m 379 (y + 2 * i) = v i := ry.at i0 (by omega)
    refine c_X8_times hb hu hM (by omega) (by omega) (by decide) (by rw [rc]; exact nc) (by rw [vi]; exact nv.1 i) (fun t ht => ?_) (fun z hz => ?_)
    · rw [rc, vi] at ht
      rw [ht] at ok er
      simp only at ok er
      have nt := NB.mul hM nc (nv.1 i) ht
      refine ⟨by rw [pt_oth (by decide), er0]; decide, ?_⟩
      rw [if_pos (by rw [pt_oth (by decide), er0])]
      have f1 : Fc SDi m (pt m 379 1157576 t) := Fc.ofPt (Or.inl (by decide)) (Or.inl (by decide))
      have rw1 : Rw (pt m 379 1157576 t 379) 1157776 w 7 := rw_.ofs (by decide)
      have wi : pr (pt m 379 1157576 t) 379 (1157776 + 2 * (i + e)) = w (i + e) := rw1.at (by omega) (by omega)
      refine c_X8_add hb (by rw [f1.mu, hu]) hM (by omega) (by decide) (by omega) (by decide) (by rw [wi]; exact nw.1 _) (by rw [pt_at]; exact nt) (fun z hz => ?_) (fun z hz => ?_)
      · rw [wi, pt_at] at hz
        rw [hz] at ok er
        simp only at ok er
        have nz := NB.add hM (nw.1 _) nt hz
        have f2 : Fc SDi m (pt (pt m 379 1157576 t) 379 (1157776 + 2 * (i + e)) z) := f1.trans (Fc.ofPt (Or.inr (by omega)) (Or.inr (by omega)))
        refine ih (i + 1) (setP w (i + e) z) _ (by omega) (by omega) (by rw [f2.mu, hu]) (by rw [pt_oth (by decide), pt_oth (by decide), er0]) (ry.fr f2 (fun q q0 q1 zz => by unfold SDi at zz; omega)) ?_ rw1.set (nw.set (by omega) nz) (fun w' m' a1 a2 a3 a4 => ok w' m' a1 (f2.trans a2) a3 a4) (fun z w' m' a1 a2 a3 a4 a5 => er z w' m' a1 (f2.trans a2) a3 a4 a5)
        rw [pt_ne (by omega), pt_ne (by omega)]
        exact rc
      · rw [wi, pt_at] at hz
        rw [hz] at er
        have := addS_err hz
        refine dvC_89e (by constructor <;> omega) (by constructor <;> omega) (by rw [up_at, this]; decide) (by rw [up_at, this]; decide) (er z w _ rfl (f1.trans Fc.err) (up_at ..) (rw1.oth (y := 0) (by decide)) nw)
    · rw [rc, vi] at hz
      rw [hz] at er
      have := mulS_err hz
      refine ⟨by rw [up_at, this]; decide, ?_⟩
      rw [if_neg (by rw [up_at, this]; decide)]
      refine dvC_89e (by constructor <;> omega) (by constructor <;> omega) (by rw [up_at, this]; decide) (by rw [up_at, this]; decide) (er z w _ rfl Fc.err (up_at ..) (rw_.oth (y := 0) (by decide)) nw)
def OutD (S : Int → Prop) (m : MM) (r : EX ((Int → PP) × (Int → PP))) (Q : Int → MM → Prop) : Prop := (∀ q w m', r = .ok (q, w) → Fc S m m' → m' 378 2 = 0 → Rw (m' 379) 1158658 q 7 → Rw (m' 379) 1157776 w 7 → Q 0 m') ∧ (∀ e m', r = .error e → Fc S m m' → m' 378 2 = e → Q 0 m')
theorem NR.ri {mu c : Int} {w : Int → PP} (h : NR mu c w) (k : Int) : RI (w k).1 := by
  have := (h.1 k).p1
  constructor <;> omega
theorem dvC_46 {m : MM} (hb : RI base) (hmu : muC m base = mu) (hM : MU mu) (hf : FD mu) (hd : 0 ≤ d ∧ d ≤ 6) (hy : Cl y 14) (dy : Dj y 14 1157576 2 ∧ Dj y 14 1157776 14 ∧ Dj y 14 1158658 14) (ry : Rw (m 379) y v 7) (nv : NR mu 7 v) (hv : (v d).1 ≠ 0) (h : OutD SDc m (dvG mu v d 8 zr u) Q) : ∀ (n : Nat) (q w : Int → PP) (m' : MM), Fc SDc m m' → m' 378 2 = 0 → Rw (m' 379) 1158658 q 7 → Rw (m' 379) 1157776 w 7 → NR mu 7 w → degS w - d < n → dvG mu v d n q w = dvG mu v d 8 zr u → P_X8_divide_46 Q (n + 1) base y d (degS w - d) m' := by
  intro n
  induction n with
  | zero =>
    intro q w m' f e rq rw_ nw hn hs
    have hb' := degS_bd w
    refine ⟨by constructor <;> omega, ?_⟩
    rw [if_pos (by omega)]
    exact h.1 q w m' hs.symm f e rq rw_
  | succ n ih =>
    intro q w m' f e rq rw_ nw hn hs
    have hb' := degS_bd w
    refine ⟨by constructor <;> omega, ?_⟩
    unfold dvG at hs
    by_cases c : degS w < d
    · rw [if_pos (by omega)]
      rw [if_pos c] at hs
      exact h.1 q w m' hs.symm f e rq rw_
    rw [if_neg c] at hs
    rw [if_neg (by omega)]
    refine ⟨by rw [e]; decide, ?_⟩
    rw [if_pos e]
    have ry' : Rw (m' 379) y v 7 := ry.fr f (fun q q0 q1 z => by unfold SDc at z; omega)
    have wi : pr m' 379 (1157776 + 2 * (degS w - d + d)) = w (degS w) := by
      rw [show degS w - d + d = degS w by omega]
      exact rw_.at (by omega) (by omega)
    have vi : pr m' 379 (y + 2 * d) = v d := ry'.at (by omega) (by omega)
    -- what follows an error
    have bad : ∀ (m1 : MM) (w1 : Int → PP) (z : Int), dvG mu v d 8 zr u = .error z → Fc SDc m m1 → m1 378 2 = z → z = 1 → Rw (m1 379) 1157776 w1 7 → NR mu 7 w1 → P_X8_divide_164 Q (fun z0 z1 z2 z3 z4 => P_X8_divide_46 Q (n + 1) z0 z1 z2 z3 z4) base y d m1 := by
      intro m1 w1 z hz f1 e1 hz1 r1 n1
      have b1 := degS_bd w1
      refine c_X8_degree (by decide) r1 (fun k _ _ => n1.ri k) ?_
      refine ⟨by constructor <;> omega, ?_⟩
      have q0 := h.2 z m1 hz f1 e1
      by_cases cc : degS w1 - d < 0
      · rw [if_pos cc]; exact q0
      · rw [if_neg cc]
        refine ⟨by rw [e1, hz1]; decide, ?_⟩
        rw [if_neg (by rw [e1, hz1]; decide)]
        exact q0
    refine c_X8_by hb (by rw [f.mu, hmu]) hM hf (by omega) (by omega) (by omega) (by rw [wi]; exact nw.1 _) (by rw [vi]; exact nv.1 _) (by rw [vi]; exact hv) (fun cq hc => ?_) (fun z hz => ?_)
    · rw [wi, vi] at hc
      rw [hc] at hs
      simp only at hs
      have nc := NB.div hM (nw.1 _) (nv.1 _) hv hc
      have f1 : Fc SDc m' (pt m' 379 (1158658 + 2 * (degS w - d)) cq) := Fc.ofPt (Or.inr (Or.inr (by omega))) (Or.inr (Or.inr (by omega)))
      refine ⟨(d + 1).toNat + 1, dvC_89 (v := v) (c := cq) hb hM hd (by omega) hy dy nv nc (d + 1).toNat 0 w _ (by decide) (by omega) (by rw [f1.mu, f.mu, hmu]) (by rw [pt_oth (by decide), e]) (ry'.fr f1 (fun q q0 q1 z => by unfold SDc at z; omega)) pt_at (rw_.ofs (by omega)) nw (fun w' m2 a1 a2 a3 a4 => ?_) (fun z w' m2 a1 a2 a3 a4 a5 => ?_)⟩
      · rw [a1] at hs
        simp only at hs
        have a2' : Fc SDc m' m2 := f1.trans (a2.mono (fun q z => by unfold SDi at z; unfold SDc; omega))
        have low := dvR_deg hM hf nv nw (by omega) hv hc a1
        have nw' := dvR_NR hM nv nc _ _ _ _ (by omega) nw a1
        refine c_X8_degree (by decide) a4 (fun k _ _ => nw'.ri k) ?_
        refine ih (setP q (degS w - d) cq) w' m2 (f.trans a2') a3 ?_ a4 nw' (by omega) hs
        exact (rq.set (k := degS w - d) (z := cq)).fr a2 (fun q q0 q1 z => by unfold SDi at z; omega)
      · rw [a1] at hs
        have := dvR_err _ _ _ a1
        exact bad m2 w' z hs.symm (f.trans (f1.trans (a2.mono (fun q z => by unfold SDi at z; unfold SDc; omega)))) a3 this a4 a5
    · rw [wi, vi] at hz
      rw [hz] at hs
      have := divS_err hz
      refine ⟨1, dvC_89e (by decide) (by constructor <;> omega) (by rw [up_at, this]; decide) (by rw [up_at, this]; decide) (bad _ w z hs.symm (f.trans Fc.err) (up_at ..) this (rw_.oth (y := 0) (by decide)) nw)⟩
theorem c_X8_divide {m : MM} (hb : RI base) (hmu : muC m base = mu) (hM : MU mu) (hf : FD mu) (he : m 378 2 = 0) (hx : Cl x 14) (hy : Cl y 14) (dy : Dj y 14 1157576 2 ∧ Dj y 14 1157776 14 ∧ Dj y 14 1158658 14) (rx : Rw (m 379) x u 7) (ry : Rw (m 379) y v 7) (nu : NR mu 7 u) (nv : NR mu 7 v) (h : OutD SDc m (dvP mu u v) Q) : P_X8_divide base x y m Q := by
  have hbv := degS_bd v
  have hbu := degS_bd u
  refine c_X8_copy (by decide) (by omega) (by decide) (fun m1 f1 e1 cp => ?_)
  have f1' : Fc SDc m m1 := f1.mono (fun q z => by have z1 : 1157776 ≤ q ∧ q < 1157776 + 2 * 7 := z; unfold SDc; omega)
  have ru : Rw (m1 379) 1157776 u 7 := rx.cp cp
  refine c_X8_clear (n := 7) (by decide) (by decide) (fun m2 f2 e2 r2 => ?_)
  have f2' : Fc SDc m m2 := f1'.trans (f2.mono (fun q z => by have z1 : 1158658 ≤ q ∧ q < 1158658 + 2 * 7 := z; unfold SDc; omega))
  have ru2 : Rw (m2 379) 1157776 u 7 := ru.fr f2 (fun q q0 q1 z => by have z1 : 1158658 ≤ q ∧ q < 1158658 + 2 * 7 := z; omega)
  have ry2 : Rw (m2 379) y v 7 := ry.fr f2' (fun q q0 q1 z => by unfold SDc at z; omega)
  have e2' : m2 378 2 = 0 := by rw [e2, e1, he]
  refine c_X8_degree hy ry2 (fun k _ _ => nv.ri k) ?_
  refine ⟨by constructor <;> omega, ?_⟩
  unfold dvP at h
  by_cases c : degS v < 0
  · rw [if_neg (by omega)]
    rw [if_pos c] at h
    rintro _ rfl
    exact h.2 2 _ rfl (f2'.trans Fc.err) (up_at ..)
  · rw [if_pos (by omega)]
    rw [if_neg c] at h
    refine c_X8_degree (by decide) ru2 (fun k _ _ => nu.ri k) ?_
    exact ⟨9, dvC_46 (m := m) (u := u) hb hmu hM hf (by omega) hy dy ry nv (degG_v (by omega)) h 8 zr u m2 f2' e2' r2 ru2 nu (by omega) rfl⟩
end DIVC
