set_option maxRecDepth 100000
/-! 1 of a ring, adjugates: the model -/
theorem VM.cpy {m m' : MM} {x to : Int} {V : VV} (h : VM (m 635) x V) (k : ∀ i, 0 ≤ i → i < 882 → m' 635 (to + i) = m 635 (x + i)) : VM (m' 635) to V := by
  intro i j hi hj
  refine (h i j hi hj).cp (fun q q0 q1 => ?_)
  have := k (98 * (3 * i + j) + q) (by omega) (by omega)
  rw [← Int.add_assoc, ← Int.add_assoc] at this
  exact this
theorem DM_gen {m m1 : MM} {U V0 : VV} {x i j s : Int} {S : Int → Prop} {w : Int → PP} (hs : 0 ≤ s ∧ s ≤ 3) (hi : 0 ≤ i ∧ i < rws s) (hj : 0 ≤ j ∧ j < rws s) (de : DM (m 635) x s i j U V0) (f : Fm S m m1) (hS : ∀ k l, in3 k → in3 l → ¬ (k = i ∧ l = j) → ∀ q, x + 98 * (3 * k + l) ≤ q → q < x + 98 * (3 * k + l) + 98 → ¬ S q) (r1 : Rw (m1 635) (x + 98 * (3 * i + j)) w 49) : DM (m1 635) x s i (j + 1) (setE U i j w) V0 := by
  intro k l hk hl
  unfold setE
  by_cases c : k = i ∧ l = j
  · rw [if_pos c, c.1, c.2]
    exact ⟨fun _ => r1, fun z => by omega⟩
  · rw [if_neg c]
    exact ⟨fun z => ((de k l hk hl).1 (by omega)).fm f (fun q q0 q1 => hS k l hk hl c q q0 (by omega)), fun z => ((de k l hk hl).2 (by omega)).fm f (fun q q0 q1 => hS k l hk hl c q q0 (by omega))⟩
theorem addR_neg {mu d : Int} {w : Int → PP} (hM : MU mu) (hd : 0 ≤ d ∧ d ≤ 2) (nw : NR mu (cof d) w) : ∃ w', addR mu 1 (cof d).toNat zr w = .ok w' ∧ ∀ k, 0 ≤ k → w' k = negN mu (w k) := by
  have hc := cof_bd hd
  rcases h : addR mu 1 (cof d).toNat zr w with e | w'
  · obtain ⟨j, -, -, hj⟩ := seqE_err _ _ _ _ h
    rw [show zr j = (0, 1) from rfl, addS_neg hM (nw.1 j)] at hj
    cases hj
  · refine ⟨w', rfl, fun k k0 => ?_⟩
    obtain ⟨h1, h2⟩ := addR_ok h
    by_cases c : k < cof d
    · have := h1 k k0 (by omega)
      rw [show zr k = (0, 1) from rfl, addS_neg hM (nw.1 k)] at this
      exact (Except.ok.inj this).symm
    · rw [h2 k (by omega), nw.2 k (by omega), negN_z]
section ADJM
variable {Q : Int → MM → Prop} {base mu d s x to : Int} {V : VV}
theorem c_X10_setOne {m : MM} (hs : 0 ≤ s ∧ s ≤ 3) (hx : Pl x 882) (h : ∀ m', Fm (SX x) m m' → m' 582 84 = m 582 84 → VM (m' 635) x (oneV s) → Q 0 m') : P_X10_setOne x s m Q := by
  have hr := rws_bd hs
  refine c_clear (n := 441) (by omega) (by omega) (fun m1 f1 e1 r1 => ?_)
  have f1' : Fm (SX x) m m1 := f1.mono (fun q z => by have z1 : x ≤ q ∧ q < x + 2 * 441 := z; unfold SX; omega)
  have L : ∀ (n : Nat) (i : Int) (m' : MM), 0 ≤ i → i + n = rws s → Fm (SX x) m m' → m' 582 84 = m 582 84 → VM (m' 635) x (oneK i) → P_X10_setOne_10 Q (n + 1) x s i m' := by
    intro n
    induction n with
    | zero =>
      intro i m' i0 i1 f e v
      refine c_rows hs ⟨by constructor <;> omega, by constructor <;> omega, ?_⟩
      rw [if_pos (by omega)]
      refine h m' f e ?_
      unfold oneV
      rw [show rws s = i by omega]
      exact v
    | succ n ih =>
      intro i m' i0 i1 f e v
      refine c_rows hs ⟨by constructor <;> omega, by constructor <;> omega, ?_⟩
      rw [if_neg (by omega)]
      unfold P_X10_entryAt
      refine c_set (x := x + 98 * (3 * i + i)) (by omega) ?_
      refine ih (i + 1) _ (by omega) (by omega) (f.trans (Fm.ofPt (by unfold SX; omega) (by unfold SX; omega))) (by rw [pt_oth (by decide)]; exact e) (fun k l hk hl c c0 c1 => ?_)
      have old := v k l hk hl c c0 c1
      by_cases cc : k = i ∧ l = i ∧ c = 0
      · obtain ⟨rfl, rfl, rfl⟩ := cc
        have q := pt_at (m := m') (a := 635) (x := x + 98 * (3 * l + l)) (p := (1, 1))
        have o : oneK (l + 1) l l 0 = (1, 1) := by unfold oneK; rw [if_pos ⟨rfl, by omega, by omega, rfl⟩]
        rw [o, show x + 98 * (3 * l + l) + 2 * 0 = x + 98 * (3 * l + l) by omega]
        exact ⟨congrArg Prod.fst q, congrArg Prod.snd q⟩
      · have q := pt_ne (m := m') (a := 635) (x := x + 98 * (3 * i + i)) (y := x + 98 * (3 * k + l) + 2 * c) (p := (1, 1)) (by omega)
        have o : oneK (i + 1) k l c = oneK i k l c := by
          unfold oneK
          by_cases c3 : k = l ∧ 0 ≤ k ∧ k < i ∧ c = 0
          · rw [if_pos c3, if_pos (by omega)]
          · rw [if_neg c3, if_neg (by omega)]
        rw [o]
        exact ⟨(congrArg Prod.fst q).trans old.1, (congrArg Prod.snd q).trans old.2⟩
  refine ⟨(rws s).toNat + 1, L (rws s).toNat 0 m1 (by decide) (by omega) f1' e1 (fun k l hk hl c c0 c1 => ?_)⟩
  have q := r1 (49 * (3 * k + l) + c) (by omega) (by omega)
  have o : oneK 0 k l c = (0, 1) := by unfold oneK; rw [if_neg (by omega)]
  rw [o, show x + 98 * (3 * k + l) + 2 * c = x + 2 * (49 * (3 * k + l) + c) by omega]
  exact q
def SJ (q : Int) : Prop := ST q ∨ 1590500 ≤ q ∧ q < 1590598 ∨ 1592000 ≤ q ∧ q < 1592882
/-- what the walk of one entry may change -/
def SJe (a : Int) (q : Int) : Prop := ST q ∨ 1590500 ≤ q ∧ q < 1590598 ∨ a ≤ q ∧ q < a + 98
theorem adjM_err43 {K27 : Int → Int → Int → Int → Int → Int → MM → Prop} {m : MM} {n : Nat} {i j : Int} (hj : RI j) (hs : RI s) (he : RI (m 582 84)) (h0 : m 582 84 ≠ 0) (k : K27 to x base d s (i + 1) m) : P_X10_adjoin_43 Q K27 (n + 1) to x base d s i j m := by
  refine ⟨hj, hs, ?_⟩
  by_cases c : s ≤ j
  · rw [if_pos c]; exact k
  · rw [if_neg c]
    refine ⟨he, ?_⟩
    rw [if_neg h0]
    exact k
theorem adjM_err27 {m : MM} (hs : 0 ≤ s ∧ s ≤ 3) (he : RI (m 582 84)) (h0 : m 582 84 ≠ 0) (k : Q 0 m) : ∀ (n : Nat) (i : Int), 0 ≤ i → s - i ≤ n → i ≤ s → P_X10_adjoin_27 Q (n + 1) to x base d s i m := by
  have q : P_X10_adjoin_242 Q to m := by
    refine ⟨he, ?_⟩
    rw [if_neg h0]
    exact k
  intro n
  induction n with
  | zero =>
    intro i i0 i1 i2
    refine ⟨by constructor <;> omega, by constructor <;> omega, ?_⟩
    rw [if_pos (by omega)]
    exact q
  | succ n ih =>
    intro i i0 i1 i2
    refine ⟨by constructor <;> omega, by constructor <;> omega, ?_⟩
    by_cases c : s ≤ i
    · rw [if_pos c]; exact q
    · rw [if_neg c]
      by_cases c1 : s ≤ 1
      · rw [if_pos c1]; exact q
      · rw [if_neg c1]
        exact ⟨1, adjM_err43 (by decide) (by constructor <;> omega) he h0 (ih (i + 1) (by omega) (by omega) (by omega))⟩
theorem adjM_189 {K27 : Int → Int → Int → Int → Int → Int → MM → Prop} {K43 : Int → Int → Int → Int → Int → Int → Int → MM → Prop} {m : MM} {w : Int → PP} {i j a : Int} (hd : 0 ≤ d ∧ d ≤ 2) (hB : BM m base mu) (he : m 582 84 = 0) (hi : in3 i) (hj : in3 j) (ha : 1592000 ≤ a ∧ a + 98 ≤ 1592882) (r1 : Rw (m 635) a w 49) (nw : NR mu (cof d) w) (k : ∀ m' w', Fm (fun q => 1590500 ≤ q ∧ q < 1590598 ∨ a ≤ q ∧ q < a + 98) m m' → m' 582 84 = 0 → Rw (m' 635) a w' 49 → (∀ k, 0 ≤ k → w' k = (if (i + j) % 2 = 1 then fun k => negN mu (w k) else w) k) → K43 to x base d s i (j + 1) m') : P_X10_adjoin_189 Q K27 K43 to x base d s i j a m := by
  have hM : MU mu := hB.2.2.2.1
  have hc := cof_bd hd
  refine ⟨by constructor <;> omega, ?_⟩
  rw [tmod_pos (by omega)]
  refine ⟨by constructor <;> omega, ?_⟩
  by_cases c : (i + j) % 2 = 1
  · rw [if_pos c]
    rw [if_pos c] at k
    refine ⟨by rw [he]; decide, ?_⟩
    rw [if_pos he]
    refine c_clear (n := 49) (by decide) (by decide) (fun m1 f1 e1 r0 => ?_)
    have f1' : Fm (fun q => 1590500 ≤ q ∧ q < 1590598 ∨ a ≤ q ∧ q < a + 98) m m1 := f1.mono (fun q z => by have z1 : 1590500 ≤ q ∧ q < 1590500 + 2 * 49 := z; omega)
    have ra : Rw (m1 635) a w 49 := r1.fm f1 (fun q q0 q1 z => by have z1 : 1590500 ≤ q ∧ q < 1590500 + 2 * 49 := z; omega)
    obtain ⟨w', hw, hn⟩ := addR_neg hM hd nw
    refine c_X10_takeBlocks (u := zr) (v := w) hd (f1'.bm hB) (by rw [e1, he]) (by omega) (by omega) (by omega) (Or.inr (by omega)) (Or.inl rfl) (r0.le (show cof d ≤ ((49 : Nat) : Int) by omega)) (ra.le (by omega)) (fun _ _ _ => NB_zr hM) nw.bs ⟨fun w2 m2 h2 f2 e2 r2 => ?_, fun e m2 h2 f2 e2 => ?_⟩
    · rw [hw] at h2
      cases h2
      refine k m2 w' (f1'.trans (f2.mono (fun q z => by omega))) e2 (fun q q0 q1 => ?_) hn
      by_cases cc : q < cof d
      · exact r2 q q0 cc
      · rw [hn q q0, nw.2 q (by omega), negN_z, f2.2 _ (by omega), f2.2 _ (by omega), ← nw.2 q (by omega)]
        exact ra q q0 q1
    · rw [hw] at h2
      cases h2
  · rw [if_neg c]
    rw [if_neg c] at k
    exact k m w (Fm.refl m) he r1 (fun _ _ => rfl)
theorem adjM_189e {K27 : Int → Int → Int → Int → Int → Int → MM → Prop} {K43 : Int → Int → Int → Int → Int → Int → Int → MM → Prop} {m : MM} {i j a : Int} (hi : in3 i) (hj : in3 j) (he : RI (m 582 84)) (h0 : m 582 84 ≠ 0) (k : K43 to x base d s i (j + 1) m) : P_X10_adjoin_189 Q K27 K43 to x base d s i j a m := by
  refine ⟨by constructor <;> omega, ?_⟩
  rw [tmod_pos (by omega)]
  refine ⟨by constructor <;> omega, ?_⟩
  by_cases c : (i + j) % 2 = 1
  · rw [if_pos c]
    refine ⟨he, ?_⟩
    rw [if_neg h0]
    exact k
  · rw [if_neg c]; exact k
theorem adjM_ent {K27 : Int → Int → Int → Int → Int → Int → MM → Prop} {n : Nat} {m : MM} {i j : Int} (hd : 0 ≤ d ∧ d ≤ 2) (hs : 2 ≤ s ∧ s ≤ 3) (hB : BM m base mu) (he : m 582 84 = 0) (hi : 0 ≤ i ∧ i < s) (hj : 0 ≤ j ∧ j < s) (hx : 0 ≤ x ∧ x + 882 ≤ 1590000) (vx : VM (m 635) x V) (nV : NN mu d s V) (ok : ∀ w w' m', adjE mu d s V i j = .ok w → Fm (SJe (1592000 + 98 * (3 * i + j))) m m' → m' 582 84 = 0 → (∀ k, 0 ≤ k → w' k = w k) → Rw (m' 635) (1592000 + 98 * (3 * i + j)) w' 49 → P_X10_adjoin_43 Q K27 n to x base d s i (j + 1) m') (er : ∀ e m', adjE mu d s V i j = .error e → Fm (SJe (1592000 + 98 * (3 * i + j))) m m' → m' 582 84 = e → P_X10_adjoin_43 Q K27 n to x base d s i (j + 1) m') : P_X10_adjoin_43 Q K27 (n + 1) to x base d s i j m := by
  have hM : MU mu := hB.2.2.2.1
  have hc := cof_bd hd
  have hr : rws s = s := by unfold rws; omega
  refine ⟨by constructor <;> omega, by constructor <;> omega, ?_⟩
  rw [if_neg (by omega)]
  refine ⟨by rw [he]; decide, ?_⟩
  rw [if_pos he]
  show (if s = 2 then _ else _)
  have fin : ∀ (w : Int → PP) (m1 : MM), minE mu d s V i j = .ok w → Fm (SJe (1592000 + 98 * (3 * i + j))) m m1 → m1 582 84 = 0 → Rw (m1 635) (1592000 + 98 * (3 * i + j)) w 49 → P_X10_adjoin_189 Q K27 (fun z0 z1 z2 z3 z4 z5 z6 z7 => P_X10_adjoin_43 Q K27 n z0 z1 z2 z3 z4 z5 z6 z7) to x base d s i j (1592000 + 98 * (3 * i + j)) m1 := by
    intro w m1 hw f1 e1 r1
    refine adjM_189 hd (f1.bm hB) e1 (by omega) (by omega) (by omega) r1 (minE_NR hM hd ⟨by omega, hs.2⟩ nV hi hj hw) (fun m' w' f e r' hw' => ok _ w' m' ?_ (f1.trans (f.mono (fun q z => Or.inr z))) e hw' r')
    unfold adjE
    rw [hw]
  have fine : ∀ (e : Int) (m1 : MM), minE mu d s V i j = .error e → Fm (SJe (1592000 + 98 * (3 * i + j))) m m1 → m1 582 84 = e → P_X10_adjoin_189 Q K27 (fun z0 z1 z2 z3 z4 z5 z6 z7 => P_X10_adjoin_43 Q K27 n z0 z1 z2 z3 z4 z5 z6 z7) to x base d s i j (1592000 + 98 * (3 * i + j)) m1 := by
    intro e m1 hw f1 e1
    have := minE_err hw
    refine adjM_189e (by omega) (by omega) (by rw [e1]; constructor <;> omega) (by rw [e1]; omega) (er e m1 ?_ f1 e1)
    unfold adjE
    rw [hw]
  by_cases c2 : s = 2
  · subst c2
    rw [if_pos rfl]
    show P_X10_copy (1592000 + 98 * (3 * i + j)) (x + 98 * (3 * (1 - j) + (1 - i))) 98 m _
    refine c_copy (n := 98) (x := x + 98 * (3 * (1 - j) + (1 - i))) (to := 1592000 + 98 * (3 * i + j)) (by omega) (by omega) (Or.inr (by omega)) (fun m1 f1 e1 cp => ?_)
    refine fin _ m1 (by unfold minE; rw [if_neg (by decide), if_pos rfl]) (f1.mono (fun q z => Or.inr (Or.inr z))) (by rw [e1, he]) ?_
    exact (vx (1 - j) (1 - i) (by omega) (by omega)).cp (n := 49) cp
  · have c3 : s = 3 := by omega
    subst c3
    rw [if_neg (show ¬ (3 : Int) = 2 by decide)]
    refine ⟨by constructor <;> omega, by constructor <;> omega, ?_⟩
    have hm : minE mu d 3 V i j = det2S mu d (V (lo3 j) (lo3 i)) (V (lo3 j) (hi3 i)) (V (hi3 j) (lo3 i)) (V (hi3 j) (hi3 i)) := by unfold minE; rw [if_neg (by decide), if_neg (by decide)]
    have q1 := lo3_in (show in3 j by omega)
    have q2 := lo3_in (show in3 i by omega)
    show P_X10_smallDet (1592000 + 98 * (3 * i + j)) (x + 98 * (3 * lo3 j + lo3 i)) (x + 98 * (3 * lo3 j + hi3 i)) (x + 98 * (3 * hi3 j + lo3 i)) (x + 98 * (3 * hi3 j + hi3 i)) base d m _
    refine c_smallDet (a := V (lo3 j) (lo3 i)) (b := V (lo3 j) (hi3 i)) (c := V (hi3 j) (lo3 i)) (e := V (hi3 j) (hi3 i)) hd hB he (by omega) (by omega) (by omega) (by omega) (by omega) (by omega) (by omega) (by omega) (by omega) (by omega) (vx _ _ q1.1 q2.1) (vx _ _ q1.1 q2.2) (vx _ _ q1.2 q2.1) (vx _ _ q1.2 q2.2) (nV.nv _ _ q1.1 q2.1) (nV.nv _ _ q1.1 q2.2) (nV.nv _ _ q1.2 q2.1) (nV.nv _ _ q1.2 q2.2) ⟨fun w m1 h1 f1 e1 r1 => fin w m1 (by rw [hm]; exact h1) (f1.mono (fun q z => Or.imp id Or.inr z)) e1 r1, fun e m1 h1 f1 e1 => fine e m1 (by rw [hm]; exact h1) (f1.mono (fun q z => Or.imp id Or.inr z)) e1⟩
theorem SJe_S {a q : Int} (h : SJe a q) (ha : 1592000 ≤ a ∧ a + 98 ≤ 1592882) : SJ q := by
  unfold SJe at h
  unfold SJ
  rcases h with h | h | h
  · exact Or.inl h
  · exact Or.inr (Or.inl h)
  · exact Or.inr (Or.inr (by omega))
theorem SJe_n {a q : Int} (h : SJe a q) : (1590000 ≤ q ∧ q < 1590598) ∨ (1594000 ≤ q ∧ q < 1594004) ∨ a ≤ q ∧ q < a + 98 := by
  unfold SJe ST at h
  omega
theorem SJ_n {q : Int} (h : SJ q) : (1590000 ≤ q ∧ q < 1590598) ∨ (1594000 ≤ q ∧ q < 1594004) ∨ 1592000 ≤ q ∧ q < 1592882 := by
  unfold SJ ST at h
  omega
/-- rows that are the same from 0 on -/
theorem Rw.eqv {g : Int → Int} {x n : Int} {u v : Int → PP} (h : Rw g x u n) (k : ∀ q, 0 ≤ q → u q = v q) : Rw g x v n := fun q q0 q1 => by rw [← k q q0]; exact h q q0 q1
theorem adjM_43 {K27 : Int → Int → Int → Int → Int → Int → MM → Prop} {i : Int} (hd : 0 ≤ d ∧ d ≤ 2) (hs : 2 ≤ s ∧ s ≤ 3) (hi : 0 ≤ i ∧ i < s) (hx : 0 ≤ x ∧ x + 882 ≤ 1590000) (nV : NN mu d s V) : ∀ (n : Nat) (j : Int) (U : VV) (m : MM), 0 ≤ j → j + n = s → BM m base mu → m 582 84 = 0 → VM (m 635) x V → DM (m 635) 1592000 s i j U zV → (∀ U' m', colG (adjE mu d s V) i n j U = .ok U' → Fm SJ m m' → m' 582 84 = 0 → DM (m' 635) 1592000 s (i + 1) 0 U' zV → K27 to x base d s (i + 1) m') → (∀ e m', colG (adjE mu d s V) i n j U = .error e → Fm SJ m m' → m' 582 84 = e → K27 to x base d s (i + 1) m') → P_X10_adjoin_43 Q K27 (n + 1) to x base d s i j m := by
  have hr : rws s = s := by unfold rws; omega
  intro n
  induction n with
  | zero =>
    intro j U m j0 j1 hB he vx de ok er
    refine ⟨by constructor <;> omega, by constructor <;> omega, ?_⟩
    rw [if_pos (by omega)]
    exact ok U m rfl (Fm.refl m) he (fun k l hk hl => ⟨fun z => (de k l hk hl).1 (by omega), fun z => (de k l hk hl).2 (by omega)⟩)
  | succ n ih =>
    intro j U m j0 j1 hB he vx de ok er
    unfold colG at ok er
    refine adjM_ent hd hs hB he hi (by omega) hx vx nV (fun w w' m1 hw f1 e1 hw' r1 => ?_) (fun e m1 hw f1 e1 => ?_)
    · rw [hw] at ok er
      simp only at ok er
      have f1' : Fm SJ m m1 := f1.mono (fun q z => SJe_S z (by omega))
      refine ih (j + 1) (setE U i j w) m1 (by omega) (by omega) (f1.bm hB) e1 (vx.fm f1 (fun q q0 q1 z => by have := SJe_n z; omega)) (DM_gen (by omega) (by omega) (by omega) de f1 (fun k l hk hl c q q0 q1 z => by have := SJe_n z; omega) (r1.eqv hw')) (fun U' m' a1 a2 a3 a4 => ok U' m' a1 (f1'.trans a2) a3 a4) (fun e m' a1 a2 a3 => er e m' a1 (f1'.trans a2) a3)
    · rw [hw] at er
      have := adjE_err _ _ _ hw
      exact adjM_err43 (by constructor <;> omega) (by constructor <;> omega) (by rw [e1]; constructor <;> omega) (by rw [e1]; omega) (er e m1 rfl (f1.mono (fun q z => SJe_S z (by omega))) e1)
theorem c_X10_adjoin {m : MM} (hd : 0 ≤ d ∧ d ≤ 2) (hs : 1 ≤ s ∧ s ≤ 3) (hB : BM m base mu) (he : m 582 84 = 0) (hx : 0 ≤ x ∧ x + 882 ≤ 1590000) (ht : Pl to 882) (dt : Dj to 882 1592000 882) (vx : VM (m 635) x V) (nV : NN mu d s V) (h : OutW (fun q => SJ q ∨ SX to q) m (adjS mu d s V) to Q) : P_X10_adjoin to x base d s m Q := by
  have hM : MU mu := hB.2.2.2.1
  have hr : rws s = s := by unfold rws; omega
  have h242 : ∀ (m1 : MM) (U : VV), adjS mu d s V = .ok U → Fm SJ m m1 → m1 582 84 = 0 → VM (m1 635) 1592000 U → P_X10_adjoin_242 Q to m1 := by
    intro m1 U hU f e v
    refine ⟨by rw [e]; decide, ?_⟩
    rw [if_pos e]
    refine c_copy (n := 882) (by decide) ht (Or.inr dt) (fun m2 f2 e2 cp => ?_)
    exact h.1 U m2 hU ((f.mono (fun q z => Or.inl z)).trans (f2.mono (fun q z => Or.inr z))) (by rw [e2, e]) (v.cpy cp)
  refine c_clear (n := 441) (by decide) (by decide) (fun m1 f1 e1 r1 => ?_)
  have f1' : Fm SJ m m1 := f1.mono (fun q z => by have z1 : 1592000 ≤ q ∧ q < 1592000 + 2 * 441 := z; unfold SJ; omega)
  have e1' : m1 582 84 = 0 := by rw [e1, he]
  have v0 : VM (m1 635) 1592000 zV := by
    intro k l hk hl c c0 c1
    have q := r1 (49 * (3 * k + l) + c) (by omega) (by omega)
    rw [show 1592000 + 98 * (3 * k + l) + 2 * c = 1592000 + 2 * (49 * (3 * k + l) + c) by omega]
    exact q
  refine ⟨by constructor <;> omega, ?_⟩
  by_cases c : s = 1
  · subst c
    rw [if_pos rfl]
    refine c_set (by decide) ?_
    refine ⟨1, by decide, by decide, ?_⟩
    rw [if_neg (by decide), if_pos (by decide)]
    refine h242 _ (setE zV 0 0 oneB) rfl (f1'.trans (Fm.ofPt (Or.inr (Or.inr (by decide))) (Or.inr (Or.inr (by decide))))) (by rw [pt_oth (by decide)]; exact e1') (fun k l hk hl q q0 q1 => ?_)
    have old := v0 k l hk hl q q0 q1
    by_cases cc : k = 0 ∧ l = 0 ∧ q = 0
    · obtain ⟨rfl, rfl, rfl⟩ := cc
      have z := pt_at (m := m1) (a := 635) (x := 1592000) (p := (1, 1))
      exact ⟨congrArg Prod.fst z, congrArg Prod.snd z⟩
    · have z := pt_ne (m := m1) (a := 635) (x := 1592000) (y := 1592000 + 98 * (3 * k + l) + 2 * q) (p := (1, 1)) (by omega)
      have o : setE zV 0 0 oneB k l q = (0, 1) := by
        unfold setE
        split
        · unfold oneB
          rw [if_neg (by omega)]
        · rfl
      rw [o]
      exact ⟨(congrArg Prod.fst z).trans old.1, (congrArg Prod.snd z).trans old.2⟩
  · rw [if_neg c]
    have L : ∀ (n : Nat) (i : Int) (U : VV) (m' : MM), 0 ≤ i → i + n = s → Fm SJ m m' → m' 582 84 = 0 → DM (m' 635) 1592000 s i 0 U zV → (∀ k l, ¬ Dn s i 0 k l → U k l = zr) → rowG (adjE mu d s V) (rws s).toNat n i U = adjS mu d s V → P_X10_adjoin_27 Q (n + 1) to x base d s i m' := by
      intro n
      induction n with
      | zero =>
        intro i U m' i0 i1 f e de hz hs'
        refine ⟨by constructor <;> omega, by constructor <;> omega, ?_⟩
        rw [if_pos (by omega)]
        refine h242 m' U hs'.symm f e (fun k l hk hl => ?_)
        by_cases cc : Dn s i 0 k l
        · exact (de k l hk hl).1 cc
        · rw [hz k l cc]
          exact (de k l hk hl).2 cc
      | succ n ih =>
        intro i U m' i0 i1 f e de hz hs'
        refine ⟨by constructor <;> omega, by constructor <;> omega, ?_⟩
        rw [if_neg (by omega), if_neg (by omega)]
        unfold rowG at hs'
        refine ⟨(rws s).toNat + 1, adjM_43 hd (by omega) (by omega) hx nV _ 0 U m' (by decide) (by omega) (f.bm hB) e (vx.fm f (fun q q0 q1 z => by have := SJ_n z; omega)) de (fun U' m2 a1 a2 a3 a4 => ?_) (fun e2 m2 a1 a2 a3 => ?_)⟩
        · rw [a1] at hs'
          refine ih (i + 1) U' m2 (by omega) (by omega) (f.trans a2) a3 a4 (fun k l cc => ?_) hs'
          rw [(colG_ok _ _ _ _ a1).2 k l (by omega)]
          exact hz k l (by omega)
        · rw [a1] at hs'
          have := colG_err (P := fun e => e = 1 ∨ e = 4) (fun i j e => adjE_err i j e) _ _ _ _ a1
          exact adjM_err27 (by omega) (by rw [a3]; constructor <;> omega) (by rw [a3]; omega) (h.2 e2 m2 hs'.symm ((f.trans a2).mono (fun q z => Or.inl z)) a3) _ _ (by omega) (by omega) (by omega)
    exact ⟨s.toNat + 1, L s.toNat 0 zV m1 (by decide) (by omega) f1' e1' (fun k l hk hl => ⟨fun z => by omega, fun _ => v0 k l hk hl⟩) (fun k l _ => rfl) (by unfold adjS matS; rw [hr])⟩
end ADJM
