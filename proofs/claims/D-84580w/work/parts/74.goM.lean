set_option maxRecDepth 100000
/-! values that go to a greater ring: the model -/
section GOM
variable {Q : Int → MM → Prop} {b c d e s t mu x : Int} {V : VV}
theorem goM_55 {m : MM} {W : VV} (hs : 0 ≤ s ∧ s ≤ 3) (ht : 0 ≤ t ∧ t ≤ 3) (hst : s = t ∨ s = 0) (hx : Pl x 882) (vx : VM (m 635) x W) (hW : ∀ i j, ¬ ((0 ≤ i ∧ i < rws s) ∧ (0 ≤ j ∧ j < rws s)) → W i j = zr) (h : ∀ m', Fm (SX x) m m' → m' 582 84 = m 582 84 → VM (m' 635) x (goV 0 0 s t W) → Q 0 m') : P_X10_go_55 Q x s t m := by
  refine ⟨by constructor <;> omega, ?_⟩
  have same : s = t → goV 0 0 s t W = W := by
    intro z
    subst z
    funext i j k
    unfold goV gC
    rw [if_pos rfl, if_pos rfl]
  by_cases c0 : s = 0
  · rw [if_pos c0]
    refine ⟨by constructor <;> omega, ?_⟩
    by_cases ct : t ≤ 0
    · rw [if_pos ct]
      refine h m (Fm.refl m) rfl ?_
      rw [same (by omega)]
      exact vx
    rw [if_neg ct]
    subst c0
    have rt : rws t = t := by unfold rws; omega
    have r0 : rws 0 = 1 := rfl
    have L : ∀ (n : Nat) (k : Int) (m' : MM), 1 ≤ k → k + n = t → Fm (SX x) m m' → m' 582 84 = m 582 84 → VM (m' 635) x (goV 0 0 0 k W) → P_X10_go_68 Q (n + 1) x t k m' := by
      intro n
      induction n with
      | zero =>
        intro k m' k0 k1 f er v
        refine ⟨by constructor <;> omega, by constructor <;> omega, ?_⟩
        rw [if_pos (by omega)]
        have : k = t := by omega
        subst this
        exact h m' f er v
      | succ n ih =>
        intro k m' k0 k1 f er v
        refine ⟨by constructor <;> omega, by constructor <;> omega, ?_⟩
        rw [if_neg (by omega)]
        refine c_copy (n := 98) (to := x + 98 * (3 * k + k)) (by omega) (by omega) (Or.inr (by omega)) (fun m1 f1 e1 cp => ?_)
        refine ih (k + 1) m1 (by omega) (by omega) (f.trans (f1.mono (fun q z => by unfold SX; omega))) (by rw [e1, er]) (fun i j hi hj => ?_)
        have rk : rws k = k := by unfold rws; omega
        have rk1 : rws (k + 1) = k + 1 := by unfold rws; omega
        by_cases cc : i = k ∧ j = k
        · rw [cc.1, cc.2]
          have src := v 0 0 (by decide) (by decide)
          rw [show x + 98 * (3 * 0 + 0) = x by omega] at src
          have ev : goV 0 0 0 (k + 1) W k k = goV 0 0 0 k W 0 0 := by
            unfold goV
            rw [if_neg (by omega), if_pos ⟨rfl, by omega, by omega⟩, if_neg (by omega), if_pos ⟨rfl, by omega, by omega⟩]
          rw [ev]
          exact src.cp (n := 49) cp
        · have old := (v i j hi hj).fm f1 (fun q q0 q1 z => by omega)
          have ev : goV 0 0 0 (k + 1) W i j = goV 0 0 0 k W i j := by
            unfold goV
            rw [if_neg (show ¬ (0 : Int) = k + 1 by omega), if_neg (show ¬ (0 : Int) = k by omega)]
            by_cases c2 : i = j ∧ 0 ≤ i ∧ i < rws k
            · rw [if_pos (show i = j ∧ 0 ≤ i ∧ i < rws (k + 1) by omega), if_pos c2]
            · rw [if_neg (show ¬ (i = j ∧ 0 ≤ i ∧ i < rws (k + 1)) by omega), if_neg c2]
          rw [ev]
          exact old
    refine ⟨_, L (t - 1).toNat 1 m (by decide) (by omega) (Fm.refl m) rfl (fun i j hi hj => ?_)⟩
    have ev : goV 0 0 0 1 W i j = W i j := by
      unfold goV
      rw [if_neg (by decide)]
      have r1 : rws 1 = 1 := rfl
      by_cases c2 : i = j ∧ 0 ≤ i ∧ i < rws 1
      · rw [if_pos c2]
        have i0 : i = 0 := by omega
        have j0 : j = 0 := by omega
        subst i0 j0
        funext k
        unfold gC
        rw [if_pos rfl]
      · rw [if_neg c2, hW i j (by omega)]
    rw [ev]
    exact vx i j hi hj
  · rw [if_neg c0]
    refine h m (Fm.refl m) rfl ?_
    rw [same (by omega)]
    exact vx
theorem goM_15 {m : MM} (hM : 1 < mu ∧ mu ≤ 9973) (hB : BM m c mu) (hx : Pl x 882) (vx : VM (m 635) x V) (nV : ∀ i j k, NB 0 (V i j k)) (h : ∀ m', Fm (SX x) m m' → m' 582 84 = m 582 84 → VM (m' 635) x (fun i j k => gC 1 mu (V i j k)) → P_X10_go_55 Q x s t m') : ∃ nn, P_X10_go_15 Q nn x s c t 0 m := by
  have fv : ∀ k, 0 ≤ k → k < 441 → m 635 (x + 2 * k) = (V (k / 49 / 3) (k / 49 % 3) (k % 49)).1 := by
    intro k k0 k1
    have := (vx (k / 49 / 3) (k / 49 % 3) (by omega) (by omega) (k % 49) (by omega) (by omega)).1
    rw [← this]
    congr 1
    omega
  have gv : ∀ p : PP, gC 1 mu p = (p.1 % mu, 1) := by
    intro p
    unfold gC
    rw [if_neg (by decide), if_pos hM.1]
  have L : ∀ (n : Nat) (k : Int) (m' : MM), 0 ≤ k → k + n = 441 → Fm (SX x) m m' → m' 582 84 = m 582 84 → (∀ j, 0 ≤ j → j < k → m' 635 (x + 2 * j) = m 635 (x + 2 * j) % mu ∧ m' 635 (x + 2 * j + 1) = 1) → (∀ j, k ≤ j → j < 441 → m' 635 (x + 2 * j) = m 635 (x + 2 * j)) → P_X10_go_15 Q (n + 1) x s c t (2 * k) m' := by
    intro n
    induction n with
    | zero =>
      intro k m' k0 k1 f er hr hz
      refine ⟨by constructor <;> omega, ?_⟩
      rw [if_pos (by omega)]
      refine h m' f er (fun i j hi hj q q0 q1 => ?_)
      have := hr (49 * (3 * i + j) + q) (by omega) (by omega)
      show _ = (gC 1 mu (V i j q)).1 ∧ _ = (gC 1 mu (V i j q)).2
      rw [gv, show x + 98 * (3 * i + j) + 2 * q = x + 2 * (49 * (3 * i + j) + q) by omega]
      refine ⟨this.1.trans ?_, this.2⟩
      have := (vx i j hi hj q q0 q1).1
      rw [show x + 98 * (3 * i + j) + 2 * q = x + 2 * (49 * (3 * i + j) + q) by omega] at this
      rw [this]
    | succ n ih =>
      intro k m' k0 k1 f er hr hz
      refine ⟨by constructor <;> omega, ?_⟩
      rw [if_neg (by omega)]
      obtain ⟨b0, b1, b2, b3, b4⟩ := f.bm hB
      have vk := fv k k0 (by omega)
      have nb := (nV (k / 49 / 3) (k / 49 % 3) (k % 49)).p1
      rw [hz k (by omega) (by omega)]
      refine ⟨by omega, c_X10_modulo (by constructor <;> omega) b2 (by constructor <;> omega) (c_floorModL (by rw [vk]; constructor <;> omega) (by constructor <;> omega) (by omega) (c_set (by omega) ?_))⟩
      have key := ih (k + 1) (pt m' 635 (x + 2 * k) (m 635 (x + 2 * k) % mu, 1)) (by omega) (by omega) (f.trans (Fm.ofPt (by unfold SX; omega) (by unfold SX; omega))) (by rw [pt_oth (by decide), er]) (fun j j0 j1 => ?_) (fun j j0 j1 => ?_)
      · rw [show 2 * (k + 1) = 2 * k + 2 by omega] at key
        exact key
      · by_cases cc : j = k
        · subst cc
          have q := pt_at (m := m') (a := 635) (x := x + 2 * j) (p := (m 635 (x + 2 * j) % mu, 1))
          exact ⟨congrArg Prod.fst q, congrArg Prod.snd q⟩
        · have q := pt_ne (m := m') (a := 635) (x := x + 2 * k) (y := x + 2 * j) (p := (m 635 (x + 2 * k) % mu, 1)) (by omega)
          have o := hr j j0 (by omega)
          exact ⟨(congrArg Prod.fst q).trans o.1, (congrArg Prod.snd q).trans o.2⟩
      · have q := pt_ne (m := m') (a := 635) (x := x + 2 * k) (y := x + 2 * j) (p := (m 635 (x + 2 * k) % mu, 1)) (by omega)
        exact (congrArg Prod.fst q).trans (hz j (by omega) j1)
  exact ⟨_, L 441 0 m (by decide) (by decide) (Fm.refl m) rfl (fun j j0 j1 => by omega) (fun j j0 j1 => rfl)⟩
theorem c_X10_go {m : MM} {ch : Int} (hd : 0 ≤ d ∧ d ≤ 2) (hs : 0 ≤ s ∧ s ≤ 3) (ht : 0 ≤ t ∧ t ≤ 3) (hst : s = t ∨ s = 0) (hb : RI b) (hch : ch = if b = c then 0 else 1) (hB : BM m c mu) (hx : Pl x 882) (vx : VM (m 635) x V) (n0 : ch = 0 → NN mu d s V) (n1 : ch ≠ 0 → NN 0 d s V) (h : ∀ m', Fm (SX x) m m' → m' 582 84 = m 582 84 → VM (m' 635) x (goV ch mu s t V) → Q 0 m') : P_X10_go x b d s c e t m Q := by
  have hM : MU mu := hB.2.2.2.1
  have hBo := hB.one
  obtain ⟨b0, b1, b2, b3, b4⟩ := id hB
  have vz : ∀ i j k, ¬ ((0 ≤ i ∧ i < rws s) ∧ (0 ≤ j ∧ j < rws s) ∧ k < cof d) → gC ch mu (V i j k) = (0, 1) := by
    intro i j k hn
    by_cases cc : ch = 0
    · rw [(n0 cc).2 i j k hn, gC_z]
    · rw [(n1 cc).2 i j k hn, gC_z]
  have fin : ∀ m1 : MM, Fm (SX x) m m1 → m1 582 84 = m 582 84 → VM (m1 635) x (fun i j k => gC ch mu (V i j k)) → P_X10_go_55 Q x s t m1 := by
    intro m1 f1 e1 v1
    refine goM_55 hs ht hst hx v1 (fun i j hn => ?_) (fun m2 f2 e2 v2 => h m2 (f1.trans f2) (by rw [e2, e1]) ?_)
    · funext k
      exact vz i j k (by omega)
    · rw [goV_comp] at v2
      exact v2
  refine ⟨hb, by constructor <;> omega, ?_⟩
  by_cases cbc : b = c
  · rw [if_pos cbc]
    rw [if_pos cbc] at hch
    refine fin m (Fm.refl m) rfl ?_
    have : (fun i j k => gC ch mu (V i j k)) = V := by
      funext i j k
      unfold gC
      rw [if_pos hch]
    rw [this]
    exact vx
  · rw [if_neg cbc]
    rw [if_neg cbc] at hch
    by_cases cm : c ≤ 1
    · rw [if_pos cm]
      refine fin m (Fm.refl m) rfl ?_
      have m1 : mu ≤ 1 := by
        unfold muM at b2
        rw [if_neg (by omega), if_neg (by omega)] at b2
        omega
      have : (fun i j k => gC ch mu (V i j k)) = V := by
        funext i j k
        unfold gC
        rw [if_neg (by omega), if_neg (by omega)]
      rw [this]
      exact vx
    · rw [if_neg cm]
      have hm := b4 (by omega)
      refine goM_15 ⟨hm, hM.2⟩ hB hx vx (fun i j k => (n1 (by omega)).1 i j k) (fun m1 f1 e1 v1 => fin m1 f1 e1 ?_)
      rw [hch]
      exact v1
end GOM
