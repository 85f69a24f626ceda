set_option maxRecDepth 100000
/-! all numbers of a value by one number -/
def okv (r : EX PP) : PP := match r with
  | .ok p => p
  | .error _ => (0, 1)
abbrev inV (d s i j k : Int) : Prop := (0 ≤ i ∧ i < rws s) ∧ (0 ≤ j ∧ j < rws s) ∧ (0 ≤ k ∧ k < cof d)
noncomputable def mapE (d s : Int) (f : Int → Int → Int → EX PP) : EX VV := @ite _ (∃ i j k e, inV d s i j k ∧ f i j k = .error e) (Classical.propDecidable _) (.error 1) (.ok (fun i j k => if inV d s i j k then okv (f i j k) else (0, 1)))
theorem mapE_ok {d s : Int} {f : Int → Int → Int → EX PP} (h : ∀ i j k, inV d s i j k → ∃ p, f i j k = .ok p) : mapE d s f = .ok (fun i j k => if inV d s i j k then okv (f i j k) else (0, 1)) := by
  unfold mapE
  refine if_neg ?_
  rintro ⟨i, j, k, e, h1, h2⟩
  obtain ⟨p, hp⟩ := h i j k h1
  rw [hp] at h2
  cases h2
theorem mapE_er {d s i j k e : Int} {f : Int → Int → Int → EX PP} (h1 : inV d s i j k) (h2 : f i j k = .error e) : mapE d s f = .error 1 := if_pos ⟨i, j, k, e, h1, h2⟩
theorem mapE_err {d s e : Int} {f : Int → Int → Int → EX PP} (h : mapE d s f = .error e) : e = 1 := by
  unfold mapE at h
  split at h
  · cases h; rfl
  · cases h
theorem mapE_NN {mu d s : Int} {f : Int → Int → Int → EX PP} {U : VV} (hM : MU mu) (hf : ∀ i j k p, inV d s i j k → f i j k = .ok p → NB mu p) (h : mapE d s f = .ok U) : NN mu d s U := by
  unfold mapE at h
  split at h
  · cases h
  case isFalse hn =>
    cases h
    refine ⟨fun i j k => ?_, fun i j k hk => ?_⟩
    · by_cases c : inV d s i j k
      · simp only [if_pos c]
        rcases hq : f i j k with e | p
        · exact absurd ⟨i, j, k, e, c, hq⟩ hn
        · exact hf i j k p c hq
      · simp only [if_neg c]
        exact NB_zr hM
    · simp only
      rw [if_neg (by omega)]
noncomputable def divV (mu d s : Int) (V : VV) (q : PP) : EX VV := if q.1 = 0 then .error 2 else mapE d s (fun i j k => divS mu (V i j k) q)
theorem divV_err {mu d s e : Int} {V : VV} {q : PP} (h : divV mu d s V q = .error e) : e = 1 ∨ e = 2 := by
  unfold divV at h
  split at h
  · cases h; exact Or.inr rfl
  · exact Or.inl (mapE_err h)
theorem divV_NN {mu d s : Int} {V U : VV} {q : PP} (hM : MU mu) (nV : NN mu d s V) (nq : NB mu q) (h : divV mu d s V q = .ok U) : NN mu d s U := by
  unfold divV at h
  split at h
  · cases h
  case isFalse c => exact mapE_NN hM (fun i j k p _ hp => NB.div hM (nV.1 i j k) nq c hp) h
theorem Rw.push {m : MM} {a x k : Int} {w : Int → PP} {p : PP} (h : Rw (m a) x w k) (hp : w k = p) : Rw (pt m a (x + 2 * k) p a) x w (k + 1) := by
  intro j j0 j1
  by_cases c : j = k
  · subst c
    have q := pt_at (m := m) (a := a) (x := x + 2 * j) (p := p)
    rw [hp]
    exact ⟨congrArg Prod.fst q, congrArg Prod.snd q⟩
  · have q := pt_ne (m := m) (a := a) (x := x + 2 * k) (y := x + 2 * j) (p := p) (by omega)
    have o := h j j0 (by omega)
    exact ⟨(congrArg Prod.fst q).trans o.1, (congrArg Prod.snd q).trans o.2⟩
section DIVBY
variable {Q : Int → MM → Prop} {r b base mu d s x y : Int} {V : VV} {q : PP}
theorem flat_ix (hd : 0 ≤ d ∧ d ≤ 2) (hs : 0 ≤ s ∧ s ≤ 3) {i j k : Int} (h : inV d s i j k) : 0 ≤ cof d * (s * i + j) + k ∧ cof d * (s * i + j) + k < cof d * enn s := by
  have bd := EA_bd hd hs h.1 h.2.1
  unfold EA VS at bd
  rw [Int.mul_assoc, Int.mul_assoc] at bd
  omega
theorem twoC_259 {m : MM} (hR : RG r b d s) (hmu : muC m b = mu) (hM : MU mu) (hf : FD mu) (he : m 378 2 = 0) (bx : 0 ≤ x ∧ x + 882 ≤ 1155420) (by_ : 0 ≤ y ∧ y + 2 ≤ 1155420) (vx : VC (m 379) x d s V) (nV : NN mu d s V) (py : pr m 379 y = q) (nq : NB mu q) (q0 : q.1 ≠ 0) (h : OutV (fun z => 1155420 ≤ z ∧ z < 1156302) m (divV mu d s V q) 1155420 d s (fun _ m' => P_X6_two_309 Q r m')) : ∃ nn, P_X6_two_259 Q nn r x y b 0 m := by
  obtain ⟨-, hb, hd, hs⟩ := id hR
  have vb := VS_bd hd hs
  have v2 : VS d s = 2 * (cof d * enn s) := VS_eq
  have row := vx.row hd hs
  unfold divV at h
  rw [if_neg q0] at h
  have ee : enn s * cof d = cof d * enn s := Int.mul_comm ..
  have L : ∀ (n : Nat) (k : Int) (m' : MM), 0 ≤ k → k + n = cof d * enn s → Fc (fun z => 1155420 ≤ z ∧ z < 1156302) m m' → m' 378 2 = 0 → (∀ j, 0 ≤ j → j < k → ∃ p, divS mu (fl d s V j) q = .ok p) → Rw (m' 379) 1155420 (fun j => okv (divS mu (fl d s V j) q)) k → P_X6_two_259 Q (n + 1) r x y b k m' := by
    intro n
    induction n with
    | zero =>
      intro k m' k0 k1 f e all rk
      refine c_number hR ⟨by constructor <;> omega, by constructor <;> omega, ?_⟩
      rw [if_pos (by omega)]
      have : k = cof d * enn s := by omega
      subst this
      refine h.1 _ m' (mapE_ok (fun i j k hk => ?_)) f e (rk.vc hd hs (fun i j k hi hj hk => ?_))
      · have ix := flat_ix hd hs hk
        have := all _ ix.1 ix.2
        rw [fl_at hd hs hk.1 hk.2.1 hk.2.2] at this
        exact this
      · show okv (divS mu (fl d s V (cof d * (s * i + j) + k)) q) = (if inV d s i j k then okv (divS mu (V i j k) q) else (0, 1))
        rw [fl_at hd hs hi hj hk, if_pos ⟨hi, hj, hk⟩]
    | succ n ih =>
      intro k m' k0 k1 f e all rk
      refine c_number hR ⟨by constructor <;> omega, by constructor <;> omega, ?_⟩
      rw [if_neg (by omega)]
      refine ⟨by rw [e]; decide, ?_⟩
      rw [if_pos e]
      have pk : pr m' 379 (x + 2 * k) = fl d s V k := (row.fr f (fun z z0 z1 zz => by omega)).at k0 (by omega)
      have pq : pr m' 379 y = q := by
        unfold pr
        rw [f.2 _ (by omega), f.2 _ (by omega)]
        exact py
      have ix := fl_ix hd hs k0 (show k < cof d * enn s by omega)
      refine c_X8_by (by constructor <;> omega) (by rw [f.mu, hmu]) hM hf (by omega) (by omega) (by omega) (by rw [pk]; exact nV.1 _ _ _) (by rw [pq]; exact nq) (by rw [pq]; exact q0) (fun p hp => ?_) (fun z hz => ?_)
      · rw [pk, pq] at hp
        refine ih (k + 1) _ (by omega) (by omega) (f.trans (Fc.ofPt (by omega) (by omega))) (by rw [pt_oth (by decide), e]) (fun j j0 j1 => ?_) (rk.push ?_)
        · by_cases c : j = k
          · rw [c]; exact ⟨p, hp⟩
          · exact all j j0 (by omega)
        · show okv (divS mu (fl d s V k) q) = p
          rw [hp]
          rfl
      · rw [pk, pq] at hz
        have := divS_err hz
        have f2 : Fc (fun z => 1155420 ≤ z ∧ z < 1156302) m (up m' 378 2 z) := f.trans Fc.err
        have q1 := h.2 1 _ (mapE_er (f := fun i j k => divS mu (V i j k) q) ⟨ix.1, ix.2.1, ix.2.2.1⟩ hz) f2 (by rw [up_at, this])
        refine c_number hR ⟨by constructor <;> omega, by constructor <;> omega, ?_⟩
        by_cases c : enn s * cof d ≤ k + 1
        · rw [if_pos c]; exact q1
        · rw [if_neg c]
          refine ⟨by rw [up_at, this]; decide, ?_⟩
          rw [if_neg (by rw [up_at, this]; decide)]
          exact q1
  exact ⟨_, L (cof d * enn s).toNat 0 m (by decide) (by omega) (Fc.refl m) he (fun j j0 j1 => by omega) (fun j j0 j1 => by omega)⟩
/-! the model -/
/-- what is done ahead of a number -/
def dnV (d s : Int) (f : Int → Int → Int → EX PP) (V : VV) (i0 j0 k0 : Int) : VV := fun i j k => if inV d s i j k ∧ (i < i0 ∨ i = i0 ∧ (j < j0 ∨ j = j0 ∧ k < k0)) then okv (f i j k) else V i j k
theorem divM_err39 {K3 : Int → Int → Int → Int → Int → Int → MM → Prop} {K16 : Int → Int → Int → Int → Int → Int → Int → MM → Prop} {m : MM} {n : Nat} {i j a k : Int} (hd : 0 ≤ d ∧ d ≤ 2) (hk : RI k) (he : RI (m 582 84)) (h0 : m 582 84 ≠ 0) (q : K16 x y base d s i (j + 1) m) : P_X10_divideBy_39 Q K3 K16 (n + 1) x y base d s i j a k m := by
  have hc := cof_bd hd
  refine c_width hd ⟨hk, by constructor <;> omega, ?_⟩
  by_cases c : 2 * cof d ≤ k
  · rw [if_pos c]; exact q
  · rw [if_neg c]
    refine ⟨he, ?_⟩
    rw [if_neg h0]
    exact q
theorem divM_err16 {K3 : Int → Int → Int → Int → Int → Int → MM → Prop} {m : MM} {i : Int} (hd : 0 ≤ d ∧ d ≤ 2) (hs : 0 ≤ s ∧ s ≤ 3) (he : RI (m 582 84)) (h0 : m 582 84 ≠ 0) (q : K3 x y base d s (i + 1) m) : ∀ (n : Nat) (j : Int), 0 ≤ j → rws s - j ≤ n → j ≤ rws s → P_X10_divideBy_16 Q K3 (n + 1) x y base d s i j m := by
  have hr := rws_bd hs
  intro n
  induction n with
  | zero =>
    intro j j0 j1 j2
    refine c_rows hs ⟨by constructor <;> omega, by constructor <;> omega, ?_⟩
    rw [if_pos (by omega)]
    exact q
  | succ n ih =>
    intro j j0 j1 j2
    refine c_rows hs ⟨by constructor <;> omega, by constructor <;> omega, ?_⟩
    by_cases c : rws s ≤ j
    · rw [if_pos c]; exact q
    · rw [if_neg c]
      exact c_entryAt ⟨1, divM_err39 hd (by decide) he h0 (ih (j + 1) (by omega) (by omega) (by omega))⟩
theorem divM_err3 {m : MM} (hd : 0 ≤ d ∧ d ≤ 2) (hs : 0 ≤ s ∧ s ≤ 3) (he : RI (m 582 84)) (h0 : m 582 84 ≠ 0) (q : Q 0 m) : ∀ (n : Nat) (i : Int), 0 ≤ i → rws s - i ≤ n → i ≤ rws s → P_X10_divideBy_3 Q (n + 1) x y base d s i m := by
  have hr := rws_bd hs
  intro n
  induction n with
  | zero =>
    intro j j0 j1 j2
    refine c_rows hs ⟨by constructor <;> omega, by constructor <;> omega, ?_⟩
    rw [if_pos (by omega)]
    exact q
  | succ n ih =>
    intro j j0 j1 j2
    refine c_rows hs ⟨by constructor <;> omega, by constructor <;> omega, ?_⟩
    by_cases c : rws s ≤ j
    · rw [if_pos c]; exact q
    · rw [if_neg c]
      exact ⟨_, divM_err16 hd hs he h0 (ih (j + 1) (by omega) (by omega) (by omega)) (rws s).toNat 0 (by decide) (by omega) (by omega)⟩
theorem c_X10_divideBy {m : MM} (hd : 0 ≤ d ∧ d ≤ 2) (hs : 0 ≤ s ∧ s ≤ 3) (hB : BM m base mu) (hf : FD mu) (he : m 582 84 = 0) (bx : 0 ≤ x ∧ x + 882 ≤ 1590000) (hy : Pl y 2) (dy : Dj x 882 y 2) (vx : VM (m 635) x V) (nV : NN mu d s V) (py : pr m 635 y = q) (nq : NB mu q) (h : OutW (SX x) m (divV mu d s V q) x Q) : P_X10_divideBy x y base d s m Q := by
  have hM : MU mu := hB.2.2.2.1
  have hr := rws_bd hs
  have hc := cof_bd hd
  by_cases q0 : q.1 = 0
  · -- the first one tells it
    unfold divV at h
    rw [if_pos q0] at h
    have e2 : RI (up m 582 84 2 582 84) := by rw [up_at]; decide
    have e3 : up m 582 84 2 582 84 ≠ 0 := by rw [up_at]; decide
    have fin := h.2 2 _ rfl Fm.err (up_at (m := m) (a := 582) (i := 84) (v := 2))
    refine ⟨4 + 1, c_rows hs ⟨by decide, by constructor <;> omega, ?_⟩⟩
    rw [if_neg (by omega)]
    refine ⟨4 + 1, c_rows hs ⟨by decide, by constructor <;> omega, ?_⟩⟩
    rw [if_neg (by omega)]
    refine c_entryAt ⟨1 + 1, c_width hd ⟨by decide, by constructor <;> omega, ?_⟩⟩
    rw [if_neg (by omega)]
    refine ⟨by rw [he]; decide, ?_⟩
    rw [if_pos he]
    refine c_X10_divideNumbers0 he (by omega) (by rw [py]; exact q0) ⟨e2, ?_⟩
    rw [if_neg e3]
    exact divM_err39 hd (by decide) e2 e3 (divM_err16 hd hs e2 e3 (divM_err3 hd hs e2 e3 fin 3 _ (by decide) (by omega) (by omega)) 3 _ (by decide) (by omega) (by omega))
  unfold divV at h
  rw [if_neg q0] at h
  have fin3 : ∀ (n : Nat) (i : Int) (m' : MM), 0 ≤ i → rws s - i ≤ n → i ≤ rws s → RI (m' 582 84) → m' 582 84 ≠ 0 → Q 0 m' → P_X10_divideBy_3 Q (n + 1) x y base d s i m' := fun n i m' a1 a2 a3 a4 a5 a6 => divM_err3 hd hs a4 a5 a6 n i a1 a2 a3
  -- numbers of one entry
  have L39 : ∀ {K3 : Int → Int → Int → Int → Int → Int → MM → Prop} {K16 : Int → Int → Int → Int → Int → Int → Int → MM → Prop} {i j : Int}, (0 ≤ i ∧ i < rws s) → (0 ≤ j ∧ j < rws s) → (∀ m', Fm (SX x) m m' → m' 582 84 = 0 → VM (m' 635) x (dnV d s (fun i j k => divS mu (V i j k) q) V i j (cof d)) → (∀ k, 0 ≤ k → k < cof d → ∃ p, divS mu (V i j k) q = .ok p) → K16 x y base d s i (j + 1) m') → (∀ m', Fm (SX x) m m' → m' 582 84 = 1 → mapE d s (fun i j k => divS mu (V i j k) q) = .error 1 → K16 x y base d s i (j + 1) m') → ∀ (n : Nat) (k : Int) (m' : MM), 0 ≤ k → k + n = cof d → Fm (SX x) m m' → m' 582 84 = 0 → VM (m' 635) x (dnV d s (fun i j k => divS mu (V i j k) q) V i j k) → (∀ l, 0 ≤ l → l < k → ∃ p, divS mu (V i j l) q = .ok p) → P_X10_divideBy_39 Q K3 K16 (n + 1) x y base d s i j (x + 98 * (3 * i + j)) (2 * k) m' := by
    intro K3 K16 i j hi hj ok er n
    induction n with
    | zero =>
      intro k m' k0 k1 f e v all
      refine c_width hd ⟨by constructor <;> omega, by constructor <;> omega, ?_⟩
      rw [if_pos (by omega)]
      have : k = cof d := by omega
      subst this
      exact ok m' f e v all
    | succ n ih =>
      intro k m' k0 k1 f e v all
      refine c_width hd ⟨by constructor <;> omega, by constructor <;> omega, ?_⟩
      rw [if_neg (by omega)]
      refine ⟨by rw [e]; decide, ?_⟩
      rw [if_pos e]
      have pk : pr m' 635 (x + 98 * (3 * i + j) + 2 * k) = V i j k := by
        have := (v i j (by omega) (by omega)).at k0 (show k < 49 by omega)
        rw [this]
        unfold dnV
        rw [if_neg (by omega)]
      have pq : pr m' 635 y = q := by
        unfold pr
        rw [f.2 _ (by unfold SX; omega), f.2 _ (by unfold SX; omega)]
        exact py
      refine c_X10_divideNumbers e (f.bm hB) hf (by omega) (by omega) (by rw [pk]; exact nV.1 _ _ _) (by rw [pq]; exact nq) (by rw [pq]; exact q0) (fun m1 mn => ?_)
      rw [pk, pq] at mn
      have f1 : Fm (SX x) m m1 := f.trans (Fm.ofMN mn)
      rcases hz : divS mu (V i j k) q with z | p
      · have := divS_err hz
        have e1 := mn.2.2 z hz
        refine ⟨by rw [e1, this]; decide, ?_⟩
        rw [if_neg (by rw [e1, this]; decide)]
        exact divM_err39 hd (by constructor <;> omega) (by rw [e1, this]; decide) (by rw [e1, this]; decide) (er m1 f1 (by rw [e1, this]) (mapE_er (f := fun i j k => divS mu (V i j k) q) ⟨hi, hj, by omega⟩ hz))
      · obtain ⟨e1, p1⟩ := mn.pair hz
        refine ⟨by rw [e1]; decide, ?_⟩
        rw [if_pos e1]
        refine c_put (by omega) ?_
        rw [p1]
        have vm1 : VM (m1 635) x (dnV d s (fun i j k => divS mu (V i j k) q) V i j k) := v.fm (Fm.ofMN (S := fun _ => False) mn) (fun _ _ _ z => z)
        have key := ih (k + 1) (pt m1 635 (x + 98 * (3 * i + j) + 2 * k) p) (by omega) (by omega) (f1.trans (Fm.ofPt (by unfold SX; omega) (by unfold SX; omega))) (by rw [pt_oth (by decide), e1]) (fun i' j' hi' hj' l l0 l1 => ?_) (fun l l0 l1 => ?_)
        · rw [show 2 * (k + 1) = 2 * k + 2 by omega] at key
          exact key
        · have o := vm1 i' j' hi' hj' l l0 l1
          by_cases cc : i' = i ∧ j' = j ∧ l = k
          · obtain ⟨rfl, rfl, rfl⟩ := cc
            have t := pt_at (m := m1) (a := 635) (x := x + 98 * (3 * i' + j') + 2 * l) (p := p)
            have ev : dnV d s (fun i j k => divS mu (V i j k) q) V i' j' (l + 1) i' j' l = p := by
              unfold dnV
              rw [if_pos ⟨⟨hi, hj, by omega⟩, by omega⟩]
              simp only
              rw [hz]
              rfl
            rw [ev]
            exact ⟨congrArg Prod.fst t, congrArg Prod.snd t⟩
          · have t := pt_ne (m := m1) (a := 635) (x := x + 98 * (3 * i + j) + 2 * k) (y := x + 98 * (3 * i' + j') + 2 * l) (p := p) (by omega)
            have ev : dnV d s (fun i j k => divS mu (V i j k) q) V i j (k + 1) i' j' l = dnV d s (fun i j k => divS mu (V i j k) q) V i j k i' j' l := by
              unfold dnV
              by_cases c2 : inV d s i' j' l ∧ (i' < i ∨ i' = i ∧ (j' < j ∨ j' = j ∧ l < k))
              · rw [if_pos c2, if_pos ⟨c2.1, by omega⟩]
              · rw [if_neg c2, if_neg (by omega)]
            rw [ev]
            exact ⟨(congrArg Prod.fst t).trans o.1, (congrArg Prod.snd t).trans o.2⟩
        · by_cases c : l = k
          · rw [c]; exact ⟨p, hz⟩
          · exact all l l0 (by omega)
  have nxt : ∀ i j, (0 ≤ j ∧ j < rws s) → dnV d s (fun i j k => divS mu (V i j k) q) V i j (cof d) = dnV d s (fun i j k => divS mu (V i j k) q) V i (j + 1) 0 := by
    intro i j hj
    funext i' j' l
    unfold dnV
    by_cases c2 : inV d s i' j' l ∧ (i' < i ∨ i' = i ∧ (j' < j ∨ j' = j ∧ l < cof d))
    · rw [if_pos c2, if_pos ⟨c2.1, by omega⟩]
    · rw [if_neg c2, if_neg (by omega)]
  have nxr : ∀ i, dnV d s (fun i j k => divS mu (V i j k) q) V i (rws s) 0 = dnV d s (fun i j k => divS mu (V i j k) q) V (i + 1) 0 0 := by
    intro i
    funext i' j' l
    unfold dnV
    by_cases c2 : inV d s i' j' l ∧ (i' < i ∨ i' = i ∧ (j' < rws s ∨ j' = rws s ∧ l < 0))
    · rw [if_pos c2, if_pos ⟨c2.1, by omega⟩]
    · rw [if_neg c2, if_neg (by omega)]
  have L16 : ∀ {K3 : Int → Int → Int → Int → Int → Int → MM → Prop} {i : Int}, (0 ≤ i ∧ i < rws s) → (∀ m', Fm (SX x) m m' → m' 582 84 = 0 → VM (m' 635) x (dnV d s (fun i j k => divS mu (V i j k) q) V (i + 1) 0 0) → (∀ j k, (0 ≤ j ∧ j < rws s) → 0 ≤ k → k < cof d → ∃ p, divS mu (V i j k) q = .ok p) → K3 x y base d s (i + 1) m') → (∀ m', Fm (SX x) m m' → m' 582 84 = 1 → mapE d s (fun i j k => divS mu (V i j k) q) = .error 1 → K3 x y base d s (i + 1) m') → ∀ (n : Nat) (j : Int) (m' : MM), 0 ≤ j → j + n = rws s → Fm (SX x) m m' → m' 582 84 = 0 → VM (m' 635) x (dnV d s (fun i j k => divS mu (V i j k) q) V i j 0) → (∀ l k, 0 ≤ l → l < j → 0 ≤ k → k < cof d → ∃ p, divS mu (V i l k) q = .ok p) → P_X10_divideBy_16 Q K3 (n + 1) x y base d s i j m' := by
    intro K3 i hi ok er n
    induction n with
    | zero =>
      intro j m' j0 j1 f e v all
      refine c_rows hs ⟨by constructor <;> omega, by constructor <;> omega, ?_⟩
      rw [if_pos (by omega)]
      have : j = rws s := by omega
      subst this
      rw [nxr] at v
      exact ok m' f e v (fun j k hj k0 k1 => all j k hj.1 hj.2 k0 k1)
    | succ n ih =>
      intro j m' j0 j1 f e v all
      refine c_rows hs ⟨by constructor <;> omega, by constructor <;> omega, ?_⟩
      rw [if_neg (by omega)]
      refine c_entryAt ⟨_, L39 hi (by omega) (fun m2 f2 e2 v2 all2 => ?_) (fun m2 f2 e2 hm => ?_) (cof d).toNat 0 m' (by decide) (by omega) f e v (fun l l0 l1 => by omega)⟩
      · rw [nxt i j (by omega)] at v2
        refine ih (j + 1) m2 (by omega) (by omega) f2 e2 v2 (fun l k l0 l1 k0 k1 => ?_)
        by_cases c : l = j
        · rw [c]; exact all2 k k0 k1
        · exact all l k l0 (by omega) k0 k1
      · exact divM_err16 hd hs (by rw [e2]; decide) (by rw [e2]; decide) (er m2 f2 e2 hm) n (j + 1) (by omega) (by omega) (by omega)
  have L3 : ∀ (n : Nat) (i : Int) (m' : MM), 0 ≤ i → i + n = rws s → Fm (SX x) m m' → m' 582 84 = 0 → VM (m' 635) x (dnV d s (fun i j k => divS mu (V i j k) q) V i 0 0) → (∀ l j k, 0 ≤ l → l < i → (0 ≤ j ∧ j < rws s) → 0 ≤ k → k < cof d → ∃ p, divS mu (V l j k) q = .ok p) → P_X10_divideBy_3 Q (n + 1) x y base d s i m' := by
    intro n
    induction n with
    | zero =>
      intro i m' i0 i1 f e v all
      refine c_rows hs ⟨by constructor <;> omega, by constructor <;> omega, ?_⟩
      rw [if_pos (by omega)]
      have : i = rws s := by omega
      subst this
      refine h.1 _ m' (mapE_ok (fun i j k hk => all i j k hk.1.1 hk.1.2 hk.2.1 hk.2.2.1 hk.2.2.2)) f e (fun i j hi hj k k0 k1 => ?_)
      have o := v i j hi hj k k0 k1
      have ev : dnV d s (fun i j k => divS mu (V i j k) q) V (rws s) 0 0 i j k = (if inV d s i j k then okv (divS mu (V i j k) q) else (0, 1)) := by
        unfold dnV
        by_cases c : inV d s i j k
        · rw [if_pos ⟨c, by omega⟩, if_pos c]
        · rw [if_neg (fun z => c z.1), if_neg c]
          exact nV.2 i j k (by omega)
      rw [ev] at o
      exact o
    | succ n ih =>
      intro i m' i0 i1 f e v all
      refine c_rows hs ⟨by constructor <;> omega, by constructor <;> omega, ?_⟩
      rw [if_neg (by omega)]
      refine ⟨_, L16 (by omega) (fun m2 f2 e2 v2 all2 => ?_) (fun m2 f2 e2 hm => ?_) (rws s).toNat 0 m' (by decide) (by omega) f e v (fun l k l0 l1 k0 k1 => by omega)⟩
      · refine ih (i + 1) m2 (by omega) (by omega) f2 e2 v2 (fun l j k l0 l1 hj k0 k1 => ?_)
        by_cases c : l = i
        · rw [c]; exact all2 j k hj k0 k1
        · exact all l j k l0 (by omega) hj k0 k1
      · exact fin3 n (i + 1) m2 (by omega) (by omega) (by omega) (by rw [e2]; decide) (by rw [e2]; decide) (h.2 1 m2 hm f2 e2)
  refine ⟨_, L3 (rws s).toNat 0 m (by decide) (by omega) (Fm.refl m) he (fun i j hi hj k k0 k1 => ?_) (fun l j k l0 l1 hj k0 k1 => by omega)⟩
  have ev : dnV d s (fun i j k => divS mu (V i j k) q) V 0 0 0 i j k = V i j k := by
    unfold dnV
    rw [if_neg (by omega)]
  rw [ev]
  exact vx i j hi hj k k0 k1
end DIVBY
