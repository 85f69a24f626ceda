set_option maxRecDepth 100000
/-! both houses: entries -/
def bE (x3 x8 x4 s0 x5 : Int) : Int := if x3 < 0 then 0 else (if x8 ≤ x3 then 0 else (if x4 < 0 then 0 else (if s0 ≤ 0 then (if 1 ≤ x4 then 0 else (if x5 < 0 then 0 else (if s0 ≤ 1 then (if 1 ≤ x5 then 0 else 1 : Int) else (if 7 ≤ x5 then 0 else 1 : Int) : Int) : Int) : Int) else (if 7 ≤ x4 then 0 else (if x5 < 0 then 0 else (if s0 ≤ 1 then (if 1 ≤ x5 then 0 else 1 : Int) else (if 7 ≤ x5 then 0 else 1 : Int) : Int) : Int) : Int) : Int) : Int) : Int)
def wd (d k : Int) : Int := if d ≤ k then 1 else 7
theorem bE_eq {x3 x8 x4 s0 x5 : Int} : (bE x3 x8 x4 s0 x5 = 1 ∧ ((0 ≤ x3 ∧ x3 < x8) ∧ (0 ≤ x4 ∧ x4 < wd s0 0) ∧ (0 ≤ x5 ∧ x5 < wd s0 1))) ∨ (bE x3 x8 x4 s0 x5 = 0 ∧ ¬ ((0 ≤ x3 ∧ x3 < x8) ∧ (0 ≤ x4 ∧ x4 < wd s0 0) ∧ (0 ≤ x5 ∧ x5 < wd s0 1))) := by
  unfold bE wd
  by_cases a1 : x3 < 0
  · rw [if_pos a1]; exact .inr ⟨rfl, fun z => by omega⟩
  rw [if_neg a1]
  by_cases a2 : x8 ≤ x3
  · rw [if_pos a2]; exact .inr ⟨rfl, fun z => by omega⟩
  rw [if_neg a2]
  by_cases a3 : x4 < 0
  · rw [if_pos a3]; exact .inr ⟨rfl, fun z => by omega⟩
  rw [if_neg a3]
  by_cases a4 : s0 ≤ 0
  · rw [if_pos a4, if_pos a4, if_pos (show s0 ≤ 1 by omega), if_pos (show s0 ≤ 1 by omega)]
    by_cases a5 : 1 ≤ x4
    · rw [if_pos a5]; exact .inr ⟨rfl, fun z => by omega⟩
    rw [if_neg a5]
    by_cases a6 : x5 < 0
    · rw [if_pos a6]; exact .inr ⟨rfl, fun z => by omega⟩
    rw [if_neg a6]
    by_cases a7 : 1 ≤ x5
    · rw [if_pos a7]; exact .inr ⟨rfl, fun z => by omega⟩
    rw [if_neg a7]
    exact .inl ⟨rfl, by omega, by omega, by omega⟩
  rw [if_neg a4, if_neg a4]
  by_cases a5 : 7 ≤ x4
  · rw [if_pos a5]; exact .inr ⟨rfl, fun z => by omega⟩
  rw [if_neg a5]
  by_cases a6 : x5 < 0
  · rw [if_pos a6]; exact .inr ⟨rfl, fun z => by omega⟩
  rw [if_neg a6]
  by_cases a8 : s0 ≤ 1
  · rw [if_pos a8, if_pos a8]
    by_cases a7 : 1 ≤ x5
    · rw [if_pos a7]; exact .inr ⟨rfl, fun z => by omega⟩
    rw [if_neg a7]
    exact .inl ⟨rfl, by omega, by omega, by omega⟩
  · rw [if_neg a8, if_neg a8]
    by_cases a7 : 7 ≤ x5
    · rw [if_pos a7]; exact .inr ⟨rfl, fun z => by omega⟩
    rw [if_neg a7]
    exact .inl ⟨rfl, by omega, by omega, by omega⟩
theorem ifTT {p : Prop} [Decidable p] {b : Prop} (h : b) : if p then True else b := by
  by_cases c : p
  · rw [if_pos c]; trivial
  · rw [if_neg c]; exact h
theorem ifBB {p : Prop} [Decidable p] {a b : Prop} (h1 : a) (h : b) : if p then a else b := by
  by_cases c : p
  · rw [if_pos c]; exact h1
  · rw [if_neg c]; exact h
/-- where an entry lies -/
theorem en_at {d s i j u v : Int} (hd : 0 ≤ d ∧ d ≤ 2) (hs : 0 ≤ s ∧ s ≤ 3) (hi : 0 ≤ i ∧ i < rws s) (hj : 0 ≤ j ∧ j < rws s) (hu : 0 ≤ u ∧ u < wd d 0) (hv : 0 ≤ v ∧ v < wd d 1) : EA d s i j = 2 * (cof d * (rws s * i + j)) ∧ (0 ≤ cof d * (rws s * i + j) ∧ cof d * (rws s * i + j) + cof d ≤ 441) ∧ (0 ≤ 7 * v + u ∧ 7 * v + u < cof d ∧ cof d ≤ 49) ∧ (i < 3 ∧ j < 3) ∧ (1 ≤ rws s ∧ rws s ≤ 3) := by
  have r0 : rws 0 = 1 := rfl
  have r1 : rws 1 = 1 := rfl
  have r2 : rws 2 = 2 := rfl
  have r3 : rws 3 = 3 := rfl
  have c0 : cof 0 = 1 := rfl
  have c1 : cof 1 = 7 := rfl
  have c2 : cof 2 = 49 := rfl
  have w0 : wd 0 0 = 1 := rfl
  have w1 : wd 1 0 = 7 := rfl
  have w2 : wd 2 0 = 7 := rfl
  have x0 : wd 0 1 = 1 := rfl
  have x1 : wd 1 1 = 1 := rfl
  have x2 : wd 2 1 = 7 := rfl
  unfold EA
  have hd' : d = 0 ∨ d = 1 ∨ d = 2 := by omega
  have hs' : s = 0 ∨ s = 1 ∨ s = 2 ∨ s = 3 := by omega
  rcases hd' with e | e | e <;> rcases hs' with e' | e' | e' | e' <;> subst e <;> subst e' <;> simp only [r0, r1, r2, r3, c0, c1, c2, w0, w1, w2, x0, x1, x2] at hi hj hu hv ⊢ <;> omega
section HSB
variable {Q : Int → Int → MM → Prop} {Q1 : Int → MM → Prop} {m m' : MM} {F : Int → FnR} {n nr nv sz x i j u v p : Int} {rR vR : Int → R3} {resV varV : Int → VV} {vN tx : Int → Int} {A : HA}
def inE (y : R3) (i j u v : Int) : Prop := (0 ≤ i ∧ i < rws y.2.2) ∧ (0 ≤ j ∧ j < rws y.2.2) ∧ (0 ≤ u ∧ u < wd y.2.1 0) ∧ (0 ≤ v ∧ v < wd y.2.1 1)
def enP (V : VV) (i j u v p : Int) : Int := if p = 0 then (V i j (7 * v + u)).1 else (V i j (7 * v + u)).2
theorem c_entry156 {y : R3} {x7 s8 : Int} (hx : RI x) (h0 : -nv ≤ x) (h1 : x < nr) (hnr : nr ≤ 200) (hnv : nv ≤ 20) (hp : 0 ≤ p ∧ p ≤ 1) (ey : rgK rR vR x = y) (hy : ok3 y) (hv1 : ∀ k, 0 ≤ k → k < nr → VC (m 374) (882 * k) (rR k).2.1 (rR k).2.2 (resV k)) (hv2 : ∀ k, 0 ≤ k → k < nv → VC (m 375) (882 * k) (vR k).2.1 (vR k).2.2 (varV k)) (hin : inE y i j u v) (e8 : s8 = rws y.2.2) (ec : x7 = cof y.2.1) (K : Q1 (enP (vlK resV varV x) i j u v p) m) : P_X0_entry_156 Q1 x i j u v p s8 2 x7 m := by
  subst e8
  subst ec
  obtain ⟨hd, hs⟩ := ok3_ds hy
  obtain ⟨hi, hj, hu, hv⟩ := hin
  obtain ⟨e1, e2, e3, e4, e5⟩ := en_at hd hs hi hj hu hv
  unfold enP vlK at K
  unfold rgK at ey
  unfold P_X0_entry_156
  refine ⟨hx, ?_⟩
  generalize hw : cof y.2.1 * (rws y.2.2 * i + j) = w at e1 e2 ⊢
  by_cases c : x < 0
  · rw [if_pos c] at K ey
    rw [if_pos c]
    subst ey
    have q := hv2 ((-1) - x) (by omega) (by omega) i j hi hj (7 * v + u) (by omega) (by omega)
    refine ⟨by omega, ?_⟩
    by_cases c2 : p = 0
    · rw [if_pos c2] at K
      rw [show (882 * ((-1) - x)) + ((2 * ((w + (7 * v)) + u)) + p) = 882 * ((-1) - x) + EA (vR ((-1) - x)).2.1 (vR ((-1) - x)).2.2 i j + 2 * (7 * v + u) by omega, q.1]
      exact K
    · rw [if_neg c2] at K
      rw [show (882 * ((-1) - x)) + ((2 * ((w + (7 * v)) + u)) + p) = 882 * ((-1) - x) + EA (vR ((-1) - x)).2.1 (vR ((-1) - x)).2.2 i j + 2 * (7 * v + u) + 1 by omega, q.2]
      exact K
  · rw [if_neg c] at K ey
    rw [if_neg c]
    subst ey
    have q := hv1 x (by omega) (by omega) i j hi hj (7 * v + u) (by omega) (by omega)
    refine ⟨by omega, ?_⟩
    by_cases c2 : p = 0
    · rw [if_pos c2] at K
      rw [show (882 * x) + ((2 * ((w + (7 * v)) + u)) + p) = 882 * x + EA (rR x).2.1 (rR x).2.2 i j + 2 * (7 * v + u) by omega, q.1]
      exact K
    · rw [if_neg c2] at K
      rw [show (882 * x) + ((2 * ((w + (7 * v)) + u)) + p) = 882 * x + EA (rR x).2.1 (rR x).2.2 i j + 2 * (7 * v + u) + 1 by omega, q.2]
      exact K
theorem c_entryC (hx : RI x) (hi : RI i) (hj : RI j) (hu : RI u) (hv : RI v) (hp : RI p) (H : HsC m F n nr rR resV nv vN vR varV) (hB : HsB F n nr rR resV nv vN vR varV) (K0 : ¬ ((-nv ≤ x ∧ x < nr) ∧ (0 ≤ p ∧ p ≤ 1) ∧ inE (rgK rR vR x) i j u v) → Q1 0 m) (K1 : (-nv ≤ x ∧ x < nr) → (0 ≤ p ∧ p ≤ 1) → inE (rgK rR vR x) i j u v → Q1 (enP (vlK resV varV x) i j u v p) m) : P_X0_entry x i j u v p m Q1 := by
  have hR := H.2.2.1
  have hnr := hR.1.2.1
  have hnv := hR.2.2.1
  unfold P_X0_entry
  refine c_thereC hx hR (fun c => ⟨by decide, ?_⟩) (fun c c' => ⟨by decide, ?_⟩)
  · rw [if_pos rfl]; exact K0 (fun z => c z.1)
  rw [if_neg (by decide)]
  refine ⟨hp, ?_⟩
  by_cases p0 : p < 0
  · rw [if_pos p0]; exact K0 (fun z => by omega)
  rw [if_neg p0]
  by_cases p1 : p ≤ 1
  case neg => rw [if_neg p1]; exact K0 (fun z => by omega)
  rw [if_pos p1]
  refine c_ringOf hx hR c c' ?_
  have K1 := K1 ⟨c, c'⟩ (by omega)
  have K0 : ¬ inE (rgK rR vR x) i j u v → Q1 0 m := fun q => K0 (fun z => q z.2.2)
  have oky := (rgK_ok hB c c').1
  generalize ey : rgK rR vR x = y at K0 K1 oky ⊢
  obtain ⟨e1, e2, e3⟩ := encC_bd oky
  obtain ⟨hd, hs⟩ := ok3_ds oky
  have hr8 : 1 ≤ rws y.2.2 ∧ rws y.2.2 ≤ 3 := by unfold rws; omega
  refine ⟨e1, ?_⟩
  have key : ∀ d, d = y.2.1 → P_X0_entry_62 Q1 x i j u v p (encC y) (rws y.2.2) d m := by
    intro d ed
    subst ed
    unfold P_X0_entry_62
    refine ⟨hi, ?_⟩
    by_cases i0 : i < 0
    · rw [if_pos i0]
      unfold P_X0_entry_131
      rw [if_pos rfl]
      exact K0 (fun z => by have := z.1; omega)
    rw [if_neg i0]
    refine ⟨by constructor <;> omega, ?_⟩
    by_cases i1 : rws y.2.2 ≤ i
    · rw [if_pos i1]
      unfold P_X0_entry_131
      rw [if_pos rfl]
      exact K0 (fun z => by have := z.1; omega)
    rw [if_neg i1]
    refine ⟨⟨hj, ifTT (ifTT ⟨hu, ifTT ⟨by constructor <;> omega, ifBB (ifTT hv) (ifTT hv)⟩⟩)⟩, ?_⟩
    show RI (bE j (rws y.2.2) u y.2.1 v) ∧ (if bE j (rws y.2.2) u y.2.1 v = 0 then _ else _)
    rcases bE_eq (x3 := j) (x8 := rws y.2.2) (x4 := u) (s0 := y.2.1) (x5 := v) with ⟨q1, q2, q3, q4⟩ | ⟨q1, q2⟩
    · rw [q1]
      refine ⟨by decide, ?_⟩
      rw [if_neg (by decide)]
      have hin : inE y i j u v := ⟨by omega, q2, q3, q4⟩
      refine ⟨e1, ?_⟩
      by_cases b : y.1 = -2
      · have eb := e2 b
        have d0 : y.2.1 = 0 := by
          rcases oky with h | h
          · exact h.2.1
          · omega
        rw [if_neg (by omega)]
        exact c_entry156 hx c c' hnr.2 hnv.2 (by omega) ey oky H.2.2.2.1 H.2.2.2.2 hin rfl (by rw [d0]; rfl) (K1 hin)
      · rw [if_pos (e3 b)]
        exact c_coef (encC_RG oky b) (c_entry156 hx c c' hnr.2 hnv.2 (by omega) ey oky H.2.2.2.1 H.2.2.2.2 hin rfl rfl (K1 hin))
    · rw [q1]
      refine ⟨by decide, ?_⟩
      rw [if_pos rfl]
      exact K0 (fun z => q2 ⟨z.2.1, z.2.2.1, z.2.2.2⟩)
  by_cases b : y.1 = -2
  · have eb := e2 b
    have d0 : y.2.1 = 0 ∧ y.2.2 = 0 := by
      rcases oky with h | h
      · exact h.2
      · omega
    rw [if_neg (by omega)]
    unfold P_X0_entry_46
    refine ⟨e1, ?_⟩
    rw [if_neg (by omega)]
    have k := key 0 d0.1.symm
    rw [d0.2] at k
    exact k
  · have e0 := e3 b
    rw [if_pos e0]
    refine c_size (encC_RG oky b) (c_max (by decide) (by constructor <;> omega) ?_)
    show P_X0_entry_46 Q1 x i j u v p (encC y) (rws y.2.2) m
    unfold P_X0_entry_46
    refine ⟨e1, ?_⟩
    rw [if_pos e0]
    exact c_depth (encC_RG oky b) (key _ rfl)
theorem c_entryM (hx : RI x) (hi : RI i) (hj : RI j) (hu : RI u) (hv : RI v) (hp : RI p) (H : HsM m F n nr rR resV nv vN vR varV A) (hB : HsB F n nr rR resV nv vN vR varV) (K0 : ¬ ((-nv ≤ x ∧ x < nr) ∧ (0 ≤ p ∧ p ≤ 1) ∧ inE (rgK rR vR x) i j u v) → Q1 0 m) (K1 : (-nv ≤ x ∧ x < nr) → (0 ≤ p ∧ p ≤ 1) → inE (rgK rR vR x) i j u v → Q1 (enP (vlK resV varV x) i j u v p) m) : P_X10_entry x i j u v p m Q1 := by
  obtain ⟨-, ⟨-, hR⟩, -, hv1, hv2⟩ := H
  have hnr := hR.1.2.1
  have hnv := hR.2.2.1
  unfold P_X10_entry
  refine c_thereM hx hR (fun c => ⟨by decide, ?_⟩) (fun c c' => ⟨by decide, ?_⟩)
  · rw [if_pos rfl]; exact K0 (fun z => c z.1)
  rw [if_neg (by decide)]
  refine ⟨hp, ?_⟩
  by_cases p0 : p < 0
  · rw [if_pos p0]; exact K0 (fun z => by omega)
  rw [if_neg p0]
  by_cases p1 : p ≤ 1
  case neg => rw [if_neg p1]; exact K0 (fun z => by omega)
  rw [if_pos p1]
  refine c_ringHM hx (by decide) hR hB (fun z => absurd ⟨c, c'⟩ z) (fun _ _ => ?_)
  have oky := (rgK_ok hB c c').1
  obtain ⟨hd, hs⟩ := ok3_ds oky
  have K1 := K1 ⟨c, c'⟩ (by omega)
  have K0 : ¬ inE (rgK rR vR x) i j u v → Q1 0 m := fun q => K0 (fun z => q z.2.2)
  show P_X10_rows (rgK rR vR x).2.2 m _
  refine c_rows hs ?_
  refine c_ringHM hx (by decide) hR hB (fun z => absurd ⟨c, c'⟩ z) (fun _ _ => ?_)
  have es : shW (rgK rR vR x) 1 = (rgK rR vR x).2.1 := rfl
  rw [es]
  generalize ey : rgK rR vR x = y at K0 K1 oky hd hs ⊢
  have hr8 : 1 ≤ rws y.2.2 ∧ rws y.2.2 ≤ 3 := by unfold rws; omega
  refine ⟨hi, ?_⟩
  by_cases i0 : i < 0
  · rw [if_pos i0]; exact K0 (fun z => by have := z.1; omega)
  rw [if_neg i0]
  refine ⟨by constructor <;> omega, ?_⟩
  by_cases i1 : rws y.2.2 ≤ i
  · rw [if_pos i1]; exact K0 (fun z => by have := z.1; omega)
  rw [if_neg i1]
  refine ⟨hj, ?_⟩
  by_cases j0 : j < 0
  · rw [if_pos j0]; exact K0 (fun z => by have := z.2.1; omega)
  rw [if_neg j0]
  by_cases j1 : rws y.2.2 ≤ j
  · rw [if_pos j1]; exact K0 (fun z => by have := z.2.1; omega)
  rw [if_neg j1]
  refine ⟨hu, ?_⟩
  by_cases u0 : u < 0
  · rw [if_pos u0]; exact K0 (fun z => by have := z.2.2.1; omega)
  rw [if_neg u0]
  have wr : ∀ k, wd y.2.1 k = 1 ∨ wd y.2.1 k = 7 := fun k => by
    unfold wd
    by_cases q : y.2.1 ≤ k
    · rw [if_pos q]; exact .inl rfl
    · rw [if_neg q]; exact .inr rfl
  have w0 := wr 0
  have w1 := wr 1
  refine ⟨by constructor <;> omega, ?_⟩
  show RI (wd y.2.1 0) ∧ (if wd y.2.1 0 ≤ u then _ else _)
  refine ⟨by constructor <;> omega, ?_⟩
  by_cases u1 : wd y.2.1 0 ≤ u
  · rw [if_pos u1]; exact K0 (fun z => by have := z.2.2.1; omega)
  rw [if_neg u1]
  refine ⟨hv, ?_⟩
  by_cases v0 : v < 0
  · rw [if_pos v0]; exact K0 (fun z => by have := z.2.2.2; omega)
  rw [if_neg v0]
  refine ⟨by constructor <;> omega, ?_⟩
  show RI (wd y.2.1 1) ∧ (if v < wd y.2.1 1 then _ else _)
  refine ⟨by constructor <;> omega, ?_⟩
  by_cases v1 : v < wd y.2.1 1
  case neg => rw [if_neg v1]; exact K0 (fun z => by have := z.2.2.2; omega)
  rw [if_pos v1]
  have hin : inE y i j u v := ⟨by omega, by omega, by omega, by omega⟩
  obtain ⟨q1, q2, q3, q4⟩ := id hin
  obtain ⟨e1, e2, e3, e4, e5⟩ := en_at hd hs q1 q2 q3 q4
  have K1 := K1 hin
  unfold enP vlK at K1
  unfold P_X10_entryAt
  refine ⟨hx, ?_⟩
  by_cases cx : x < 0
  · rw [if_pos cx] at K1
    rw [if_pos cx]
    have q := hv2 ((-1) - x) (by omega) (by omega) i j (by unfold in3; omega) (by unfold in3; omega) (7 * v + u) (by omega) (by omega)
    refine ⟨by omega, ?_⟩
    by_cases c2 : p = 0
    · rw [if_pos c2] at K1
      rw [show (882 * ((-1) - x)) + (((0 + (98 * ((3 * i) + j))) + (2 * ((7 * v) + u))) + p) = 882 * ((-1) - x) + 98 * (3 * i + j) + 2 * (7 * v + u) by omega, q.1]
      exact K1
    · rw [if_neg c2] at K1
      rw [show (882 * ((-1) - x)) + (((0 + (98 * ((3 * i) + j))) + (2 * ((7 * v) + u))) + p) = 882 * ((-1) - x) + 98 * (3 * i + j) + 2 * (7 * v + u) + 1 by omega, q.2]
      exact K1
  · rw [if_neg cx] at K1
    rw [if_neg cx]
    have q := hv1 x (by omega) (by omega) i j (by unfold in3; omega) (by unfold in3; omega) (7 * v + u) (by omega) (by omega)
    refine ⟨by omega, ?_⟩
    by_cases c2 : p = 0
    · rw [if_pos c2] at K1
      rw [show (882 * x) + (((0 + (98 * ((3 * i) + j))) + (2 * ((7 * v) + u))) + p) = 882 * x + 98 * (3 * i + j) + 2 * (7 * v + u) by omega, q.1]
      exact K1
    · rw [if_neg c2] at K1
      rw [show (882 * x) + (((0 + (98 * ((3 * i) + j))) + (2 * ((7 * v) + u))) + p) = 882 * x + 98 * (3 * i + j) + 2 * (7 * v + u) + 1 by omega, q.2]
      exact K1
theorem h_entry (hx : RI x) (hi : RI i) (hj : RI j) (hu : RI u) (hv : RI v) (hp : RI p) (H : Hs m F n nr rR resV nv vN vR varV A tx sz) (K : ∀ r, RI r → Q r r m) : P_X0_entry x i j u v p m (fun r1 m1 => P_X10_entry x i j u v p m1 (fun r2 m2 => Q r1 r2 m2)) := by
  have hB := H.2.2.2
  refine c_entryC hx hi hj hu hv hp H.1 hB (fun c => ?_) (fun c1 c2 c3 => ?_)
  · exact c_entryM hx hi hj hu hv hp H.2.1 hB (fun _ => K _ (by decide)) (fun a b d => absurd ⟨a, b, d⟩ c)
  · refine c_entryM hx hi hj hu hv hp H.2.1 hB (fun z => absurd ⟨c1, c2, c3⟩ z) (fun _ _ _ => K _ ?_)
    have nb := (rgK_ok hB c1.1 c1.2).2.2.1.1 i j (7 * v + u)
    have o := nb.1
    have o2 := nb.2.1
    unfold enP
    by_cases z : p = 0
    · rw [if_pos z]; have := o.1; constructor <;> omega
    · rw [if_neg z]; have := o.2; constructor <;> omega
end HSB
