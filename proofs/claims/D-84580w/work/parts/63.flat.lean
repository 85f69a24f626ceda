set_option maxRecDepth 100000
/-! a value as one row (component); sums of values; 0 less each -/
def fl (d s : Int) (V : VV) : Int → PP := fun n => V ((n / cof d) / rws s) ((n / cof d) % rws s) (n % cof d)
theorem fl_at {d s i j c : Int} {V : VV} (hd : 0 ≤ d ∧ d ≤ 2) (hs : 0 ≤ s ∧ s ≤ 3) (hi : 0 ≤ i ∧ i < rws s) (hj : 0 ≤ j ∧ j < rws s) (hc : 0 ≤ c ∧ c < cof d) : fl d s V (cof d * (s * i + j) + c) = V i j c := by
  have e1 : (cof d * (s * i + j) + c) / cof d = s * i + j := by
    rcases cof_cs hd with ⟨-, e⟩ | ⟨-, e⟩ | ⟨-, e⟩ <;> rw [e] at hc ⊢ <;> omega
  have e2 : (cof d * (s * i + j) + c) % cof d = c := by
    rcases cof_cs hd with ⟨-, e⟩ | ⟨-, e⟩ | ⟨-, e⟩ <;> rw [e] at hc ⊢ <;> omega
  have e3 : (s * i + j) / rws s = i ∧ (s * i + j) % rws s = j := by
    rcases enn_cs hs with ⟨rfl, -, e⟩ | ⟨rfl, -, e⟩ | ⟨rfl, -, e⟩ | ⟨rfl, -, e⟩ <;> rw [e] at hi hj ⊢ <;> omega
  unfold fl
  rw [e1, e2, e3.1, e3.2]
theorem fl_ix {d s n : Int} (hd : 0 ≤ d ∧ d ≤ 2) (hs : 0 ≤ s ∧ s ≤ 3) (h0 : 0 ≤ n) (h1 : n < cof d * enn s) : (0 ≤ (n / cof d) / rws s ∧ (n / cof d) / rws s < rws s) ∧ (0 ≤ (n / cof d) % rws s ∧ (n / cof d) % rws s < rws s) ∧ (0 ≤ n % cof d ∧ n % cof d < cof d) ∧ n = cof d * (s * ((n / cof d) / rws s) + (n / cof d) % rws s) + n % cof d := by
  rcases cof_cs hd with ⟨-, e⟩ | ⟨-, e⟩ | ⟨-, e⟩ <;> rw [e] at h1 ⊢ <;> rcases enn_cs hs with ⟨rfl, e1, e2⟩ | ⟨rfl, e1, e2⟩ | ⟨rfl, e1, e2⟩ | ⟨rfl, e1, e2⟩ <;> rw [e1] at h1 <;> rw [e2] <;> omega
theorem VC.row {g : Int → Int} {a d s : Int} {V : VV} (h : VC g a d s V) (hd : 0 ≤ d ∧ d ≤ 2) (hs : 0 ≤ s ∧ s ≤ 3) : Rw g a (fl d s V) (cof d * enn s) := by
  intro n n0 n1
  obtain ⟨hi, hj, hc, e⟩ := fl_ix hd hs n0 n1
  have q := h _ _ hi hj _ hc.1 hc.2
  have e2 : a + EA d s ((n / cof d) / rws s) ((n / cof d) % rws s) + 2 * (n % cof d) = a + 2 * n := by
    unfold EA
    rw [Int.mul_assoc]
    omega
  rw [e2] at q
  exact q
theorem Rw.vc {g : Int → Int} {a d s : Int} {V : VV} {u : Int → PP} (h : Rw g a u (cof d * enn s)) (hd : 0 ≤ d ∧ d ≤ 2) (hs : 0 ≤ s ∧ s ≤ 3) (k : ∀ i j c, (0 ≤ i ∧ i < rws s) → (0 ≤ j ∧ j < rws s) → (0 ≤ c ∧ c < cof d) → u (cof d * (s * i + j) + c) = V i j c) : VC g a d s V := by
  intro i j hi hj c c0 c1
  have b := EA_bd hd hs hi hj
  have e2 : a + EA d s i j + 2 * c = a + 2 * (cof d * (s * i + j) + c) := by
    unfold EA
    rw [Int.mul_assoc]
    omega
  have hb : 0 ≤ cof d * (s * i + j) + c ∧ cof d * (s * i + j) + c < cof d * enn s := by
    unfold EA VS at b
    rw [Int.mul_assoc, Int.mul_assoc] at b
    omega
  have q := h _ hb.1 hb.2
  rw [k i j c hi hj ⟨c0, c1⟩] at q
  rw [e2]
  exact q
theorem VS_eq {d s : Int} : VS d s = 2 * (cof d * enn s) := by unfold VS; rw [Int.mul_assoc]
theorem NV.row {mu d s : Int} {V : VV} (h : NV mu d s V) (hd : 0 ≤ d ∧ d ≤ 2) (hs : 0 ≤ s ∧ s ≤ 3) : NBs mu (fl d s V) (cof d * enn s) := by
  intro n n0 n1
  obtain ⟨hi, hj, hc, e⟩ := fl_ix hd hs n0 n1
  exact h _ _ hi hj _ hc.1 hc.2
theorem colG_errx {f : Int → Int → EX (Int → PP)} {i : Int} : ∀ (n : Nat) (j : Int) (U : VV) (e : Int), colG f i n j U = .error e → ∃ l, j ≤ l ∧ l < j + n ∧ f i l = .error e := by
  intro n
  induction n with
  | zero => intro j U e h; cases h
  | succ n ih =>
    intro j U e h
    unfold colG at h
    split at h
    case h_1 he => cases h; exact ⟨j, by omega, by omega, he⟩
    case h_2 w hw =>
      obtain ⟨l, h1, h2, h3⟩ := ih _ _ _ h
      exact ⟨l, by omega, by omega, h3⟩
theorem rowG_errx {f : Int → Int → EX (Int → PP)} {c : Nat} : ∀ (n : Nat) (i : Int) (U : VV) (e : Int), rowG f c n i U = .error e → ∃ k l : Int, i ≤ k ∧ k < i + n ∧ 0 ≤ l ∧ l < c ∧ f k l = .error e := by
  intro n
  induction n with
  | zero => intro i U e h; cases h
  | succ n ih =>
    intro i U e h
    unfold rowG at h
    split at h
    case h_1 he =>
      cases h
      obtain ⟨l, h1, h2, h3⟩ := colG_errx _ _ _ _ he
      exact ⟨i, l, by omega, by omega, h1, by omega, h3⟩
    case h_2 w hw =>
      obtain ⟨k, l, h1, h2, h3⟩ := ih _ _ _ h
      exact ⟨k, l, by omega, by omega, h3⟩
theorem addV_ok {mu ls d s : Int} {V W U : VV} (h : addV mu ls d s V W = .ok U) (hd : 0 ≤ d ∧ d ≤ 2) : ∀ i j c, (0 ≤ i ∧ i < rws s) → (0 ≤ j ∧ j < rws s) → (0 ≤ c ∧ c < cof d) → addS mu ls (V i j c) (W i j c) = .ok (U i j c) := by
  intro i j c hi hj hc
  have hr : ((rws s).toNat : Int) = rws s := by unfold rws; omega
  exact (addR_ok ((matS_ok h).1 i j (by omega) (by omega))).1 c hc.1 (by omega)
theorem addV_flat {mu ls d s : Int} {V W : VV} (hd : 0 ≤ d ∧ d ≤ 2) (hs : 0 ≤ s ∧ s ≤ 3) : (∀ w, addR mu ls (cof d * enn s).toNat (fl d s V) (fl d s W) = .ok w → ∃ U, addV mu ls d s V W = .ok U ∧ ∀ i j c, (0 ≤ i ∧ i < rws s) → (0 ≤ j ∧ j < rws s) → (0 ≤ c ∧ c < cof d) → w (cof d * (s * i + j) + c) = U i j c) ∧ (∀ e, addR mu ls (cof d * enn s).toNat (fl d s V) (fl d s W) = .error e → addV mu ls d s V W = .error e) := by
  have hr : ((rws s).toNat : Int) = rws s := by unfold rws; omega
  have hcb := cof_bd hd
  have hN : (((cof d * enn s).toNat : Nat) : Int) = cof d * enn s := by
    have := VS_bd hd hs
    rw [VS_eq] at this
    omega
  have ix : ∀ i j c, (0 ≤ i ∧ i < rws s) → (0 ≤ j ∧ j < rws s) → (0 ≤ c ∧ c < cof d) → 0 ≤ cof d * (s * i + j) + c ∧ cof d * (s * i + j) + c < cof d * enn s := by
    intro i j c hi hj hc
    have b := EA_bd hd hs hi hj
    unfold EA VS at b
    rw [Int.mul_assoc, Int.mul_assoc] at b
    omega
  refine ⟨fun w hw => ?_, fun e he => ?_⟩
  · obtain ⟨w1, w2⟩ := addR_ok hw
    rcases hu : addV mu ls d s V W with e | U
    · obtain ⟨k, l, h1, h2, h3, h4, h5⟩ := rowG_errx _ _ _ _ hu
      obtain ⟨c, c0, c1, c2⟩ := seqE_err _ _ _ _ h5
      have q := ix k l c (by omega) (by omega) (by omega)
      have := w1 _ q.1 (by omega)
      rw [fl_at hd hs (by omega) (by omega) (by omega), fl_at hd hs (by omega) (by omega) (by omega)] at this
      rw [this] at c2
      cases c2
    · refine ⟨U, rfl, fun i j c hi hj hc => ?_⟩
      have q := ix i j c hi hj hc
      have := w1 _ q.1 (by omega)
      rw [fl_at hd hs hi hj hc, fl_at hd hs hi hj hc, addV_ok hu hd i j c hi hj hc] at this
      exact (Except.ok.inj this).symm
  · have e1 := addR_err he
    rcases hu : addV mu ls d s V W with e' | U
    · rw [addV_err hu, e1]
    · obtain ⟨n, n0, n1, n2⟩ := seqE_err _ _ _ _ he
      obtain ⟨hi, hj, hc, e2⟩ := fl_ix (d := d) (s := s) hd hs n0 (by omega)
      have := addV_ok hu hd _ _ _ hi hj hc
      have n3 : addS mu ls (fl d s V n) (fl d s W n) = .error e := n2
      unfold fl at n3
      rw [this] at n3
      cases n3
theorem c_X8_addVals {m : MM} {Q : Int → MM → Prop} {base mu x y to ls d s : Int} {V W : VV} (hd : 0 ≤ d ∧ d ≤ 2) (hs : 0 ≤ s ∧ s ≤ 3) (hb : RI base) (hmu : muC m base = mu) (hM : MU mu) (hl : RI ls) (he : m 378 2 = 0) (hx : Cl x (VS d s)) (hy : Cl y (VS d s)) (ht : Cl to (VS d s)) (ax : to = x ∨ Dj to (VS d s) x (VS d s)) (ay : to = y ∨ Dj to (VS d s) y (VS d s)) (vx : VC (m 379) x d s V) (wy : VC (m 379) y d s W) (nV : NV mu d s V) (nW : NV mu d s W) (h : OutV (fun i => to ≤ i ∧ i < to + VS d s) m (addV mu ls d s V W) to d s Q) : P_X8_addAll base x y to (enn s * cof d) ls m Q := by
  have hN : (((cof d * enn s).toNat : Nat) : Int) = cof d * enn s := by
    have := VS_bd hd hs
    rw [VS_eq] at this
    omega
  rw [VS_eq, ← hN] at hx hy ht ax ay h
  rw [Int.mul_comm, ← hN]
  have fs := addV_flat (mu := mu) (ls := ls) (V := V) (W := W) hd hs
  refine c_X8_addAll hb hmu hM hl he hx hy ht ax ay (by rw [hN]; exact vx.row hd hs) (by rw [hN]; exact wy.row hd hs) (by rw [hN]; exact nV.row hd hs) (by rw [hN]; exact nW.row hd hs) ⟨fun w m' hw f e r => ?_, fun e m' hw f e1 => ?_⟩
  · obtain ⟨U, hU, k⟩ := fs.1 w hw
    rw [hN] at r
    exact h.1 U m' hU f e (r.vc hd hs k)
  · exact h.2 e m' (fs.2 e hw) f e1
/-! 0 less each -/
def negN (mu : Int) (p : PP) : PP := (if mu ≤ 1 then -p.1 else if p.1 = 0 then -p.1 else mu - p.1, p.2)
theorem tdiv_one' (a : Int) : Int.tdiv a ((1 : Nat) : Int) = a := Int.tdiv_one a
theorem addS_neg {mu : Int} {p : PP} (hM : MU mu) (h : NB mu p) : addS mu 1 (0, 1) p = .ok (negN mu p) := by
  obtain ⟨h1, h2, h3, h4, h5⟩ := h
  obtain ⟨o1, o2, o3⟩ := h1
  unfold addS negN
  by_cases c : mu = 1
  · rw [if_pos c, if_pos (show mu ≤ 1 by omega), if_neg (show ¬ (1 : Int) = 0 by decide)]
    simp only
    rw [show (0 : Int) * p.2 + -p.1 * 1 = -p.1 by omega, show 1 * p.2 = p.2 by omega]
    have g : Int.gcd (-p.1) p.2 = 1 := by rw [Int.neg_gcd]; exact h4 c
    have ev : nmV 1 (-p.1) p.2 = (-p.1, p.2) := by
      unfold nmV
      rw [if_neg (by decide), if_pos rfl, g, if_neg (by omega), tdiv_one', tdiv_one', show ((p.2.natAbs : Nat) : Int) = p.2 by omega]
    unfold nmS
    rw [ev, if_pos ⟨by show -999999999 ≤ -p.1; omega, by show -p.1 ≤ 999999999; omega, by show p.2 ≤ 999999999; omega⟩]
  · rw [if_neg c, if_neg (show ¬ (1 : Int) = 0 by decide)]
    simp only
    have p2 := h3 c
    by_cases c0 : mu = 0
    · have ev : nmV mu (0 + -p.1) 1 = (-p.1, p.2) := by
        unfold nmV
        rw [if_pos c0, p2, show 0 + -p.1 = -p.1 by omega]
      unfold nmS
      rw [ev, if_pos (show mu ≤ 1 by omega), if_pos ⟨by show -999999999 ≤ -p.1; omega, by show -p.1 ≤ 999999999; omega, by show p.2 ≤ 999999999; omega⟩]
    · have q := h5 (by omega)
      have ev : nmV mu (0 + -p.1) 1 = (if p.1 = 0 then -p.1 else mu - p.1, p.2) := by
        unfold nmV
        rw [if_neg c0, if_neg c, p2]
        split
        case isTrue z => rw [z]; simp
        case isFalse z =>
          have : (0 + -p.1) % mu = mu - p.1 := by
            have := Int.emod_eq_of_lt (a := mu - p.1) (b := mu) (by omega) (by omega)
            rw [← this, show mu - p.1 = 0 + -p.1 + mu by omega, Int.add_emod_right]
          rw [this]
      unfold nmS
      have vb : okP (if p.1 = 0 then -p.1 else mu - p.1, p.2) := by
        refine ⟨?_, ?_, o3⟩ <;> show _ ≤ _ <;> simp only <;> split <;> omega
      rw [ev, if_neg (show ¬ mu ≤ 1 by omega), if_pos vb]
theorem NB.neg {mu : Int} {p : PP} (hM : MU mu) (h : NB mu p) : NB mu (negN mu p) := NB.add hM (NB_zr hM) h (addS_neg hM h)
theorem c_X8_less {m : MM} {Q : Int → MM → Prop} {base mu at_ : Int} {n : Nat} {u : Int → PP} (hb : RI base) (hmu : muC m base = mu) (hM : MU mu) (ha : Cl at_ (2 * n)) (w : Rw (m 379) at_ u n) (nu : NBs mu u n) (h : ∀ m', Fc (fun i => at_ ≤ i ∧ i < at_ + 2 * n) m m' → m' 378 2 = m 378 2 → Rw (m' 379) at_ (fun k => negN mu (u k)) n → Q 0 m') : P_X8_less base at_ n m Q := by
  refine c_X8_modulus hb ?_
  rw [hmu]
  have L : ∀ (r : Nat) (k : Nat) (m' : MM), k + r = n → Fc (fun i => at_ ≤ i ∧ i < at_ + 2 * n) m m' → m' 378 2 = m 378 2 → Rw (m' 379) at_ (fun j => if j < k then negN mu (u j) else u j) n → P_X8_less_10 Q (r + 1) at_ n mu k m' := by
    intro r
    induction r with
    | zero =>
      intro k m' hk f e rw_
      refine ⟨by constructor <;> omega, by constructor <;> omega, ?_⟩
      rw [if_pos (by omega)]
      refine h m' f e (fun j j0 j1 => ?_)
      have := rw_ j j0 j1
      simp only at this
      rw [if_pos (show j < (k : Int) by omega)] at this
      exact this
    | succ r ih =>
      intro k m' hk f e rw_
      have wk := rw_ k (by omega) (by omega)
      simp only at wk
      rw [if_neg (by omega)] at wk
      have nk := nu k (by omega) (by omega)
      have b1 := nk.p1
      have stp : ∀ v : Int, v = (negN mu (u k)).1 → P_X8_less_10 Q (r + 1) at_ n mu ((k : Int) + 1) (up m' 379 (at_ + 2 * (k : Int)) v) := by
        rintro v rfl
        refine ih (k + 1) _ (by omega) (f.trans (Fc.ofUp (by omega))) (by rw [up_ne (fun z => absurd z.1 (by decide))]; exact e) (fun j j0 j1 => ?_)
        by_cases cj : j = k
        · subst cj
          simp only
          rw [if_pos (by omega), up_at, up_neI (by omega)]
          exact ⟨rfl, wk.2⟩
        · have := rw_ j j0 j1
          simp only at this ⊢
          rw [up_neI (by omega), up_neI (by omega)]
          by_cases cj2 : j < (k : Int)
          · rw [if_pos cj2] at this
            rw [if_pos (by omega)]
            exact this
          · rw [if_neg cj2] at this
            rw [if_neg (by omega)]
            exact this
      have s46 : -(u k).1 = (negN mu (u k)).1 → P_X8_less_46 Q (fun z0 z1 z2 z3 z4 => P_X8_less_10 Q (r + 1) z0 z1 z2 z3 z4) at_ n mu k (at_ + 2 * (k : Int)) m' := by
        intro q
        refine ⟨by omega, by omega, ?_⟩
        rintro _ rfl
        rw [wk.1]
        exact stp _ q
      refine ⟨by constructor <;> omega, by constructor <;> omega, ?_⟩
      rw [if_neg (by omega)]
      refine ⟨by constructor <;> omega, ?_⟩
      by_cases c : mu ≤ 1
      · rw [if_pos c]
        exact s46 (by unfold negN; rw [if_pos c])
      · rw [if_neg c]
        refine ⟨by omega, by rw [wk.1]; constructor <;> omega, ?_⟩
        rw [wk.1]
        by_cases c2 : (u k).1 = 0
        · rw [if_pos c2]
          exact s46 (by unfold negN; rw [if_neg c, if_pos c2])
        · rw [if_neg c2]
          rintro _ rfl
          exact stp _ (by unfold negN; rw [if_neg c, if_neg c2])
  exact ⟨n + 1, L n 0 m (by omega) (Fc.refl m) rfl (fun j j0 j1 => by simp only; rw [if_neg (by omega)]; exact w j j0 j1)⟩
