set_option maxRecDepth 100000
/-! values: the model -/
abbrev in3 (i : Int) : Prop := 0 ≤ i ∧ i < 3
/-- a value lies there (model): nine entries of 49 numbers -/
def VM (g : Int → Int) (p : Int) (V : VV) : Prop := ∀ i j, in3 i → in3 j → Rw g (p + 98 * (3 * i + j)) (V i j) 49
theorem VM.fm {S : Int → Prop} {m m' : MM} {x : Int} {V : VV} (h : VM (m 635) x V) (f : Fm S m m') (d : ∀ i, x ≤ i → i < x + 882 → ¬ S i) : VM (m' 635) x V := fun i j hi hj => (h i j hi hj).fm f (fun q q0 q1 => d q (by omega) (by omega))
def OutW (S : Int → Prop) (m : MM) (r : EX VV) (to : Int) (Q : Int → MM → Prop) : Prop := (∀ U m', r = .ok U → Fm S m m' → m' 582 84 = 0 → VM (m' 635) to U → Q 0 m') ∧ (∀ e m', r = .error e → Fm S m m' → m' 582 84 = e → Q 0 m')
theorem Rw.ext49 {g g' : Int → Int} {x c : Int} {v w : Int → PP} (h1 : Rw g' x w c) (h2 : Rw g x v 49) (f : ∀ i, ¬ (x ≤ i ∧ i < x + 2 * c) → g' i = g i) (hv : ∀ k, c ≤ k → v k = (0, 1)) (hw : ∀ k, c ≤ k → w k = (0, 1)) (hc : 0 ≤ c) : Rw g' x w 49 := by
  intro k k0 k1
  by_cases cc : k < c
  · exact h1 k k0 cc
  · rw [f _ (by omega), f _ (by omega), hw k (by omega), ← hv k (by omega)]
    exact h2 k k0 k1
def addV (mu ls d s : Int) (V W : VV) : EX VV := matS (fun i j => addR mu ls (cof d).toNat (V i j) (W i j)) (rws s).toNat
theorem addV_err {mu ls d s e : Int} {V W : VV} (h : addV mu ls d s V W = .error e) : e = 1 := rowG_err (P := fun e => e = 1) (fun _ _ _ h => addR_err h) _ _ _ _ h
theorem rws_bd {s : Int} (hs : 0 ≤ s ∧ s ≤ 3) : 1 ≤ rws s ∧ rws s ≤ 3 := by unfold rws; omega
theorem addV_NN {mu ls d s : Int} {V W U : VV} (hM : MU mu) (hd : 0 ≤ d ∧ d ≤ 2) (hV : NV mu d s V) (hW : NV mu d s W) (h : addV mu ls d s V W = .ok U) : NN mu d s U := by
  obtain ⟨h1, h2⟩ := matS_ok h
  have hr : ((rws s).toNat : Int) = rws s := by unfold rws; omega
  have hc := cof_bd hd
  have hcN : ((cof d).toNat : Int) = cof d := by omega
  refine ⟨fun i j k => ?_, fun i j k hn => ?_⟩
  · by_cases c : (0 ≤ i ∧ i < rws s) ∧ (0 ≤ j ∧ j < rws s)
    · exact addR_NB hM (by rw [hcN]; exact hV i j c.1 c.2) (by rw [hcN]; exact hW i j c.1 c.2) (h1 i j (by omega) (by omega)) k
    · rw [h2 i j (by omega)]; exact NB_zr hM
  · by_cases c : (0 ≤ i ∧ i < rws s) ∧ (0 ≤ j ∧ j < rws s)
    · exact (addR_ok (h1 i j (by omega) (by omega))).2 k (by omega)
    · rw [h2 i j (by omega)]; rfl
section VALM
variable {Q : Int → MM → Prop} {base mu d s x y : Int} {V W : VV}
abbrev Dn (s i j k l : Int) : Prop := 0 ≤ k ∧ 0 ≤ l ∧ k < rws s ∧ l < rws s ∧ (k < i ∨ k = i ∧ l < j)
def DM (g : Int → Int) (x s i j : Int) (U V : VV) : Prop := ∀ k l, in3 k → in3 l → (Dn s i j k l → Rw g (x + 98 * (3 * k + l)) (U k l) 49) ∧ (¬ Dn s i j k l → Rw g (x + 98 * (3 * k + l)) (V k l) 49)
theorem addM_err16 {K3 : Int → Int → Int → Int → Int → Int → Int → Int → MM → Prop} {m : MM} {t ls i : Int} (hl : RI ls) (hd : 0 ≤ d ∧ d ≤ 2) (hs : 0 ≤ s ∧ s ≤ 3) (he : RI (m 582 84)) (h0 : m 582 84 ≠ 0) (k : K3 t x y base d s ls (i + 1) m) : ∀ (r : Nat) (j : Int), 0 ≤ j → rws s - j ≤ r → j ≤ rws s → P_X10_addValues_16 Q K3 (r + 1) t x y base d s ls i j m := by
  have hr := rws_bd hs
  intro r
  induction r with
  | zero =>
    intro j j0 j1 j2
    refine c_rows hs ⟨by constructor <;> omega, by constructor <;> omega, ?_⟩
    rw [if_pos (by omega)]
    exact k
  | succ r ih =>
    intro j j0 j1 j2
    refine c_rows hs ⟨by constructor <;> omega, by constructor <;> omega, ?_⟩
    by_cases c : rws s ≤ j
    · rw [if_pos c]; exact k
    · rw [if_neg c]
      refine ⟨hl, ?_⟩
      split
      · exact c_X10_addBlocks_err hd he h0 (ih (j + 1) (by omega) (by omega) (by omega))
      · exact c_X10_takeBlocks_err hd he h0 (ih (j + 1) (by omega) (by omega) (by omega))
theorem addM_err3 {m : MM} {t ls : Int} (hl : RI ls) (hd : 0 ≤ d ∧ d ≤ 2) (hs : 0 ≤ s ∧ s ≤ 3) (he : RI (m 582 84)) (h0 : m 582 84 ≠ 0) (k : Q 0 m) : ∀ (r : Nat) (i : Int), 0 ≤ i → rws s - i ≤ r → i ≤ rws s → P_X10_addValues_3 Q (r + 1) t x y base d s ls i m := by
  have hr := rws_bd hs
  intro r
  induction r with
  | zero =>
    intro j j0 j1 j2
    refine c_rows hs ⟨by constructor <;> omega, by constructor <;> omega, ?_⟩
    rw [if_pos (by omega)]
    exact k
  | succ r ih =>
    intro j j0 j1 j2
    refine c_rows hs ⟨by constructor <;> omega, by constructor <;> omega, ?_⟩
    by_cases c : rws s ≤ j
    · rw [if_pos c]; exact k
    · rw [if_neg c]
      exact ⟨(rws s).toNat + 1, addM_err16 hl hd hs he h0 (ih (j + 1) (by omega) (by omega) (by omega)) _ 0 (by decide) (by omega) (by omega)⟩
def SX (x : Int) (i : Int) : Prop := x ≤ i ∧ i < x + 882
theorem DM_step {m m1 : MM} {U : VV} {i j : Int} {w : Int → PP} (hs : 0 ≤ s ∧ s ≤ 3) (hd : 0 ≤ d ∧ d ≤ 2) (hi : 0 ≤ i ∧ i < rws s) (hj : 0 ≤ j ∧ j < rws s) (de : DM (m 635) x s i j U V) (nV : NN mu d s V) (f : Fm (fun q => x + 98 * (3 * i + j) ≤ q ∧ q < x + 98 * (3 * i + j) + 2 * cof d) m m1) (r1 : Rw (m1 635) (x + 98 * (3 * i + j)) w (cof d)) (hw : ∀ k, cof d ≤ k → w k = (0, 1)) : DM (m1 635) x s i (j + 1) (setE U i j w) V := by
  have hr := rws_bd hs
  have hc := cof_bd hd
  intro k l hk hl
  by_cases cc : k = i ∧ l = j
  · obtain ⟨rfl, rfl⟩ := cc
    refine ⟨fun _ => ?_, fun z => absurd (show Dn s k (l + 1) k l by omega) z⟩
    unfold setE
    rw [if_pos ⟨rfl, rfl⟩]
    have old := (de k l hk hl).2 (by omega)
    exact r1.ext49 old (fun q hq => f.2 q hq) (fun q hq => nV.2 k l q (by omega)) hw (by omega)
  · have hdj : ∀ q, x + 98 * (3 * k + l) ≤ q → q < x + 98 * (3 * k + l) + 2 * 49 → ¬ (x + 98 * (3 * i + j) ≤ q ∧ q < x + 98 * (3 * i + j) + 2 * cof d) := by omega
    unfold setE
    rw [if_neg cc]
    exact ⟨fun z => ((de k l hk hl).1 (by omega)).fm f hdj, fun z => ((de k l hk hl).2 (by omega)).fm f hdj⟩
theorem c_X10_addValues {m : MM} {ls : Int} (hls : ls = 0 ∨ ls = 1) (hd : 0 ≤ d ∧ d ≤ 2) (hs : 0 ≤ s ∧ s ≤ 3) (hB : BM m base mu) (he : m 582 84 = 0) (hx : Pl x 882) (hy : Pl y 882) (ex : Dj x 882 y 882) (vx : VM (m 635) x V) (wy : VM (m 635) y W) (nV : NN mu d s V) (nW : NN mu d s W) (h : OutW (SX x) m (addV mu ls d s V W) x Q) : P_X10_addValues x x y base d s ls m Q := by
  have hM : MU mu := hB.2.2.2.1
  have hr := rws_bd hs
  have hc := cof_bd hd
  have hcN : ((cof d).toNat : Int) = cof d := by omega
  have hrN : ((rws s).toNat : Int) = rws s := by omega
  have hl : RI ls := by constructor <;> omega
  have L2 : ∀ {K3 : Int → Int → Int → Int → Int → Int → Int → Int → MM → Prop} {i : Int}, (0 ≤ i ∧ i < rws s) → ∀ (r : Nat) (j : Int) (U : VV) (m1 : MM), 0 ≤ j → j + r = rws s → BM m1 base mu → m1 582 84 = 0 → VM (m1 635) y W → DM (m1 635) x s i j U V → (∀ U' m', colG (fun i j => addR mu ls (cof d).toNat (V i j) (W i j)) i r j U = .ok U' → Fm (SX x) m1 m' → m' 582 84 = 0 → DM (m' 635) x s (i + 1) 0 U' V → K3 x x y base d s ls (i + 1) m') → (∀ e m', colG (fun i j => addR mu ls (cof d).toNat (V i j) (W i j)) i r j U = .error e → Fm (SX x) m1 m' → m' 582 84 = e → K3 x x y base d s ls (i + 1) m') → P_X10_addValues_16 Q K3 (r + 1) x x y base d s ls i j m1 := by
    intro K3 i hi r
    induction r with
    | zero =>
      intro j U m1 j0 j1 hB1 he1 wy1 de ok er
      refine c_rows hs ⟨by constructor <;> omega, by constructor <;> omega, ?_⟩
      rw [if_pos (by omega)]
      exact ok U m1 rfl (Fm.refl m1) he1 (fun k l hk hl => ⟨fun z => (de k l hk hl).1 (by omega), fun z => (de k l hk hl).2 (by omega)⟩)
    | succ r ih =>
      intro j U m1 j0 j1 hB1 he1 wy1 de ok er
      refine c_rows hs ⟨by constructor <;> omega, by constructor <;> omega, ?_⟩
      rw [if_neg (by omega)]
      unfold colG at ok er
      have vE : Rw (m1 635) (x + 98 * (3 * i + j)) (V i j) (cof d) := ((de i j (by omega) (by omega)).2 (by omega)).le (by omega)
      have wE : Rw (m1 635) (y + 98 * (3 * i + j)) (W i j) (cof d) := (wy1 i j (by omega) (by omega)).le (by omega)
      have out : OutM (fun q => x + 98 * (3 * i + j) ≤ q ∧ q < x + 98 * (3 * i + j) + 2 * cof d) m1 (addR mu ls (cof d).toNat (V i j) (W i j)) (x + 98 * (3 * i + j)) (cof d) (fun _ m5 => P_X10_addValues_16 Q K3 (r + 1) x x y base d s ls i (j + 1) m5) := by
        refine ⟨fun w m2 hw f2 e2 r2 => ?_, fun e m2 hw f2 e2 => ?_⟩
        · rw [hw] at ok er
          simp only at ok er
          have f2' : Fm (SX x) m1 m2 := f2.mono (fun q z => by unfold SX; omega)
          refine ih (j + 1) (setE U i j w) m2 (by omega) (by omega) (f2.bm hB1) e2 (wy1.fm f2 (fun q q0 q1 => by omega)) (DM_step hs hd hi (by omega) de nV f2 r2 (fun q hq => (addR_ok hw).2 q (by omega))) (fun U' m' a1 a2 a3 a4 => ok U' m' a1 (f2'.trans a2) a3 a4) (fun e m' a1 a2 a3 => er e m' a1 (f2'.trans a2) a3)
        · rw [hw] at er
          have := addR_err hw
          exact addM_err16 hl hd hs (by rw [e2, this]; decide) (by rw [e2, this]; decide) (er e m2 rfl (f2.mono (fun q z => by unfold SX; omega)) e2) _ _ (by omega) (by omega) (by omega)
      refine ⟨hl, ?_⟩
      rcases hls with c | c
      · subst c
        rw [if_pos rfl]
        exact c_X10_addBlocks hd hB1 he1 (by omega) (by omega) (by omega) (Or.inl rfl) (Or.inr (by omega)) vE wE (nV.nv i j hi (by omega)) (nW.nv i j hi (by omega)) out
      · subst c
        rw [if_neg (by decide)]
        exact c_X10_takeBlocks hd hB1 he1 (by omega) (by omega) (by omega) (Or.inl rfl) (Or.inr (by omega)) vE wE (nV.nv i j hi (by omega)) (nW.nv i j hi (by omega)) out
  have L1 : ∀ (r : Nat) (i : Int) (U : VV) (m1 : MM), 0 ≤ i → i + r = rws s → Fm (SX x) m m1 → m1 582 84 = 0 → DM (m1 635) x s i 0 U V → (∀ k l, ¬ Dn s i 0 k l → U k l = zr) → rowG (fun i j => addR mu ls (cof d).toNat (V i j) (W i j)) (rws s).toNat r i U = addV mu ls d s V W → P_X10_addValues_3 Q (r + 1) x x y base d s ls i m1 := by
    intro r
    induction r with
    | zero =>
      intro i U m1 i0 i1 f e de hz hs'
      refine c_rows hs ⟨by constructor <;> omega, by constructor <;> omega, ?_⟩
      rw [if_pos (by omega)]
      refine h.1 U m1 hs'.symm f e (fun k l hk hl => ?_)
      by_cases c : Dn s i 0 k l
      · exact (de k l hk hl).1 c
      · have := (de k l hk hl).2 c
        rw [hz k l c]
        have e0 : V k l = zr := by funext q; exact nV.2 k l q (by omega)
        rw [e0] at this
        exact this
    | succ r ih =>
      intro i U m1 i0 i1 f e de hz hs'
      refine c_rows hs ⟨by constructor <;> omega, by constructor <;> omega, ?_⟩
      rw [if_neg (by omega)]
      unfold rowG at hs'
      refine ⟨(rws s).toNat + 1, L2 (by omega) _ 0 U m1 (by decide) (by omega) (f.bm hB) e (wy.fm f (fun q q0 q1 z => by unfold SX at z; omega)) de (fun U' m' a1 a2 a3 a4 => ?_) (fun e1 m' a1 a2 a3 => ?_)⟩
      · rw [a1] at hs'
        refine ih (i + 1) U' m' (by omega) (by omega) (f.trans a2) a3 a4 (fun k l c => ?_) hs'
        rw [(colG_ok _ _ _ _ a1).2 k l (by omega)]
        exact hz k l (by omega)
      · rw [a1] at hs'
        have := colG_err (P := fun e => e = 1) (fun _ _ _ h => addR_err h) _ _ _ _ a1
        exact addM_err3 hl hd hs (by rw [a3, this]; decide) (by rw [a3, this]; decide) (h.2 e1 m' hs'.symm (f.trans a2) a3) _ _ (by omega) (by omega) (by omega)
  exact ⟨(rws s).toNat + 1, L1 (rws s).toNat 0 zV m (by decide) (by omega) (Fm.refl m) he (fun k l hk hl => ⟨fun z => by omega, fun _ => vx k l hk hl⟩) (fun k l _ => rfl) (by unfold addV matS; rfl)⟩
end VALM
