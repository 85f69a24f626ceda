set_option maxRecDepth 100000
/-! both houses: what stands in them; the questions that are asked of them -/
/-- the component's house -/
def HsC (m : MM) (F : Int → FnR) (n nr : Int) (rR : Int → R3) (resV : Int → VV) (nv : Int) (vN : Int → Int) (vR : Int → R3) (varV : Int → VV) : Prop := MsI m F n [] ∧ m 3 1 = n ∧ RSc m nr rR nv vN vR ∧ (∀ k, 0 ≤ k → k < nr → VC (m 374) (882 * k) (rR k).2.1 (rR k).2.2 (resV k)) ∧ ∀ k, 0 ≤ k → k < nv → VC (m 375) (882 * k) (vR k).2.1 (vR k).2.2 (varV k)
/-- where the functions' parts lie, their first parts, how many parts there are -/
abbrev HA : Type := (Int → Int × Int) × (Int → Int) × Int
def sgH (A : HA) : SGm := (A.1, A.2.1, acc0, A.2.2, A.2.2, 0)
/-- the model's house -/
def HsM (m : MM) (F : Int → FnR) (n nr : Int) (rR : Int → R3) (resV : Int → VV) (nv : Int) (vN : Int → Int) (vR : Int → R3) (varV : Int → VV) (A : HA) : Prop := (BKm m F n ∧ BFM m ∧ KYM m) ∧ (m 582 32 = n ∧ RSm m nr rR nv vN vR) ∧ (m 582 15 = A.2.2 ∧ (0 ≤ A.2.2 ∧ A.2.2 ≤ 302 * n) ∧ RgO (sgH A) n ∧ AnA m F n (sgH A) ∧ ∀ f, 0 ≤ f → f < n → TNB m (rootF (F f)) (A.1 f).1 (A.1 f).2 (A.2.1 f)) ∧ (∀ k, 0 ≤ k → k < nr → VM (m 629) (882 * k) (resV k)) ∧ ∀ k, 0 ≤ k → k < nv → VM (m 630) (882 * k) (varV k)
/-- the tape and what was told of the last line, in both -/
def HsT (m : MM) (tx : Int → Int) (sz : Int) : Prop := (m 1 1 = sz ∧ m 582 4 = sz ∧ (0 ≤ sz ∧ sz ≤ 400)) ∧ (∀ i, 0 ≤ i → i < sz → iAnd (m 2 i) 255 = tx i ∧ m 585 i = tx i ∧ (0 ≤ tx i ∧ tx i ≤ 255) ∧ -128 ≤ m 2 i ∧ m 2 i ≤ 127) ∧ (m 582 10 = m 1 9 ∧ RI (m 1 9)) ∧ (m 582 11 = m 1 10 ∧ RI (m 1 10)) ∧ (m 582 90 = m 1 11 ∧ RI (m 1 11)) ∧ (m 582 92 = m 1 12 ∧ RI (m 1 12)) ∧ (m 582 84 = m 1 13 ∧ RI (m 1 13)) ∧ (m 582 111 = m 1 14 ∧ RI (m 1 14))
/-- what is known of the book -/
def HsB (F : Int → FnR) (n nr : Int) (rR : Int → R3) (resV : Int → VV) (nv : Int) (vN : Int → Int) (vR : Int → R3) (varV : Int → VV) : Prop := EvO F n (JEl F n nr rR nv vN vR, 0, 0, varV, resV) ∧ FsM F n ∧ (∀ v, 0 ≤ v → v < nr → ok3 (rR v) ∧ (rR v).1 < 20000 ∧ VR 0 (rR v) (resV v)) ∧ ∀ v, 0 ≤ v → v < nv → ok3 (vR v) ∧ (vR v).1 < 20000 ∧ VR 0 (vR v) (varV v)
def Hs (m : MM) (F : Int → FnR) (n nr : Int) (rR : Int → R3) (resV : Int → VV) (nv : Int) (vN : Int → Int) (vR : Int → R3) (varV : Int → VV) (A : HA) (tx : Int → Int) (sz : Int) : Prop := HsC m F n nr rR resV nv vN vR varV ∧ HsM m F n nr rR resV nv vN vR varV A ∧ HsT m tx sz ∧ HsB F n nr rR resV nv vN vR varV
def HsI (m : MM) : Prop := ∃ F n nr rR resV nv vN vR varV A tx sz, Hs m F n nr rR resV nv vN vR varV A tx sz
section HSA
variable {Q : Int → Int → MM → Prop} {Q1 : Int → MM → Prop} {m m' : MM} {F : Int → FnR} {n nr nv sz x : Int} {rR vR : Int → R3} {resV varV : Int → VV} {vN tx : Int → Int} {A : HA}
theorem h_told (hx : RI x) (H : HsT m tx sz) (K : ∀ r, RI r → Q r r m) : P_X0_told x m (fun r1 m1 => P_X10_told x m1 (fun r2 m2 => Q r1 r2 m2)) := by
  obtain ⟨-, -, t0, t1, t2, t3, t4, t5⟩ := H
  unfold P_X0_told
  refine ⟨hx, ?_⟩
  by_cases c0 : x = 0
  · rw [if_pos c0]
    unfold P_X10_told
    refine ⟨hx, ?_⟩
    rw [if_pos c0, t0.1]
    exact K _ t0.2
  rw [if_neg c0]
  by_cases c1 : x = 1
  · rw [if_pos c1]
    unfold P_X10_told
    refine ⟨hx, ?_⟩
    rw [if_neg c0, if_pos c1, t1.1]
    exact K _ t1.2
  rw [if_neg c1]
  by_cases c2 : x = 2
  · rw [if_pos c2]
    unfold P_X10_told
    refine ⟨hx, ?_⟩
    rw [if_neg c0, if_neg c1, if_pos c2, t2.1]
    exact K _ t2.2
  rw [if_neg c2]
  by_cases c3 : x = 3
  · rw [if_pos c3]
    unfold P_X10_told
    refine ⟨hx, ?_⟩
    rw [if_neg c0, if_neg c1, if_neg c2, if_pos c3, t3.1]
    exact K _ t3.2
  rw [if_neg c3]
  by_cases c4 : x = 4
  · rw [if_pos c4]
    unfold P_X10_told
    refine ⟨hx, ?_⟩
    rw [if_neg c0, if_neg c1, if_neg c2, if_neg c3, if_pos c4, t4.1]
    exact K _ t4.2
  rw [if_neg c4]
  by_cases c5 : x = 5
  · rw [if_pos c5]
    unfold P_X10_told
    refine ⟨hx, ?_⟩
    rw [if_neg c0, if_neg c1, if_neg c2, if_neg c3, if_neg c4, if_pos c5, t5.1]
    exact K _ t5.2
  rw [if_neg c5]
  unfold P_X10_told
  refine ⟨hx, ?_⟩
  rw [if_neg c0, if_neg c1, if_neg c2, if_neg c3, if_neg c4, if_neg c5]
  exact K _ (by decide)
theorem h_count (hx : RI x) (H : Hs m F n nr rR resV nv vN vR varV A tx sz) (K : ∀ r, RI r → Q r r m) : P_X0_count x m (fun r1 m1 => P_X10_count x m1 (fun r2 m2 => Q r1 r2 m2)) := by
  obtain ⟨⟨hI, h1, hR, -⟩, ⟨-, ⟨g1, gR⟩, -⟩, ⟨⟨s1, s2, s3⟩, -⟩, -⟩ := H
  have nb := hI.2.2.2.2.2.1.1
  have r1 := hR.1
  have r2 := hR.2
  have q1 := gR.1.1
  have q2 := gR.2.1
  have k1 : RI nr := by constructor <;> omega
  have k2 : RI nv := by constructor <;> omega
  have k3 : RI n := by constructor <;> omega
  have k4 : RI sz := by constructor <;> omega
  unfold P_X0_count
  refine ⟨hx, ?_⟩
  by_cases c0 : x = 0
  · rw [if_pos c0]
    unfold P_X10_count
    refine ⟨hx, ?_⟩
    rw [if_pos c0, q1, r1.1]
    exact K _ k1
  rw [if_neg c0]
  by_cases c1 : x = 1
  · rw [if_pos c1]
    unfold P_X10_count
    refine ⟨hx, ?_⟩
    rw [if_neg c0, if_pos c1, q2, r2.1]
    exact K _ k2
  rw [if_neg c1]
  by_cases c2 : x = 2
  · rw [if_pos c2]
    unfold P_X10_count
    refine ⟨hx, ?_⟩
    rw [if_neg c0, if_neg c1, if_pos c2, g1, h1]
    exact K _ k3
  rw [if_neg c2]
  by_cases c3 : x = 3
  · rw [if_pos c3]
    unfold P_X10_count
    refine ⟨hx, ?_⟩
    rw [if_neg c0, if_neg c1, if_neg c2, if_pos c3, s2, s1]
    exact K _ k4
  rw [if_neg c3]
  unfold P_X10_count
  refine ⟨hx, ?_⟩
  rw [if_neg c0, if_neg c1, if_neg c2, if_neg c3]
  exact K _ (by decide)
/-- whether it is there -/
theorem c_thereC (hx : RI x) (hR : RSc m nr rR nv vN vR) (K0 : ¬ (-nv ≤ x ∧ x < nr) → Q1 0 m) (K1 : -nv ≤ x → x < nr → Q1 1 m) : P_X0_isThere x m Q1 := by
  have r1 := hR.1
  have r2 := hR.2
  unfold P_X0_isThere
  refine ⟨hx, ?_⟩
  by_cases c : x < 0
  · rw [if_pos c, r2.1]
    refine ⟨by constructor <;> omega, by constructor <;> omega, ?_⟩
    by_cases c2 : nv ≤ (-1) - x
    · rw [if_pos c2]; exact K0 (by omega)
    · rw [if_neg c2]; exact K1 (by omega) (by omega)
  · rw [if_neg c, r1.1]
    refine ⟨by constructor <;> omega, ?_⟩
    by_cases c2 : nr ≤ x
    · rw [if_pos c2]; exact K0 (by omega)
    · rw [if_neg c2]; exact K1 (by omega) (by omega)
theorem c_thereM (hx : RI x) (hR : RSm m nr rR nv vN vR) (K0 : ¬ (-nv ≤ x ∧ x < nr) → Q1 0 m) (K1 : -nv ≤ x → x < nr → Q1 1 m) : P_X10_isThere x m Q1 := by
  have r1 := hR.1
  have r2 := hR.2
  unfold P_X10_isThere
  refine ⟨hx, ?_⟩
  by_cases c : x < 0
  · rw [if_pos c, r2.1]
    refine ⟨by constructor <;> omega, by constructor <;> omega, by constructor <;> omega, ?_⟩
    by_cases c2 : nv ≤ (-1) - x
    · rw [if_pos c2]; exact K0 (by omega)
    · rw [if_neg c2]; exact K1 (by omega) (by omega)
  · rw [if_neg c, r1.1]
    refine ⟨by constructor <;> omega, ?_⟩
    by_cases c2 : nr ≤ x
    · rw [if_pos c2]; exact K0 (by omega)
    · rw [if_neg c2]; exact K1 (by omega) (by omega)
/-- the ring of a result or of a variable -/
def rgK (rR vR : Int → R3) (x : Int) : R3 := if x < 0 then vR ((-1) - x) else rR x
def vlK (resV varV : Int → VV) (x : Int) : VV := if x < 0 then varV ((-1) - x) else resV x
theorem rgK_ok (H : HsB F n nr rR resV nv vN vR varV) (h0 : -nv ≤ x) (h1 : x < nr) : ok3 (rgK rR vR x) ∧ (rgK rR vR x).1 < 20000 ∧ VR 0 (rgK rR vR x) (vlK resV varV x) := by
  unfold rgK vlK
  by_cases c : x < 0
  · rw [if_pos c, if_pos c]; exact H.2.2.2 _ (by omega) (by omega)
  · rw [if_neg c, if_neg c]; exact H.2.2.1 _ (by omega) (by omega)
theorem c_ringOf (hx : RI x) (hR : RSc m nr rR nv vN vR) (h0 : -nv ≤ x) (h1 : x < nr) (K : Q1 (encC (rgK rR vR x)) m) : P_X0_ringOf x m Q1 := by
  have r1 := hR.1
  have r2 := hR.2
  unfold rgK at K
  unfold P_X0_ringOf
  refine ⟨hx, ?_⟩
  by_cases c : x < 0
  · rw [if_pos c] at K
    rw [if_pos c, (r2.2.2 ((-1) - x) (by omega) (by omega)).2.1]
    exact ⟨by omega, K⟩
  · rw [if_neg c] at K
    rw [if_neg c, (r1.2.2 x (by omega) (by omega)).1]
    exact ⟨by omega, K⟩
/-- base, depth, size -/
def shW (y : R3) (w : Int) : Int := if w = 0 then y.1 else if w = 1 then y.2.1 else if w = 2 then y.2.2 else -1
theorem shW_ri {y : R3} {w : Int} (hy : ok3 y) : RI (shW y w) := by
  unfold shW
  rcases hy with h | h
  · by_cases c0 : w = 0
    · rw [if_pos c0]; constructor <;> omega
    rw [if_neg c0]
    by_cases c1 : w = 1
    · rw [if_pos c1]; constructor <;> omega
    rw [if_neg c1]
    by_cases c2 : w = 2
    · rw [if_pos c2]; constructor <;> omega
    rw [if_neg c2]; decide
  · obtain ⟨h1, h2, h3⟩ := h
    by_cases c0 : w = 0
    · rw [if_pos c0]; constructor <;> omega
    rw [if_neg c0]
    by_cases c1 : w = 1
    · rw [if_pos c1]; constructor <;> omega
    rw [if_neg c1]
    by_cases c2 : w = 2
    · rw [if_pos c2]; constructor <;> omega
    rw [if_neg c2]; decide
theorem c_shown {y : R3} {w : Int} (hw : RI w) (hy : ok3 y) (K : Q1 (shW y w) m) : P_X0_shown (encC y) w m Q1 := by
  obtain ⟨e1, e2, e3⟩ := encC_bd hy
  unfold shW at K
  unfold P_X0_shown
  refine ⟨hw, ?_⟩
  by_cases b : y.1 = -2
  · have eb := e2 b
    have d0 : y.2.1 = 0 ∧ y.2.2 = 0 := by
      rcases hy with h | h
      · exact h.2
      · omega
    by_cases c0 : w = 0
    · rw [if_pos c0] at K ⊢
      rw [eb]
      refine ⟨by decide, ?_⟩
      rw [if_pos rfl]; rw [b] at K; exact K
    rw [if_neg c0] at K ⊢
    by_cases c1 : w = 1
    · rw [if_pos c1] at K ⊢
      rw [eb]
      refine ⟨by decide, ?_⟩
      rw [if_neg (by decide)]; rw [d0.1] at K; exact K
    rw [if_neg c1] at K ⊢
    by_cases c2 : w = 2
    · rw [if_pos c2] at K ⊢
      rw [eb]
      refine ⟨by decide, ?_⟩
      rw [if_neg (by decide)]; rw [d0.2] at K; exact K
    rw [if_neg c2] at K ⊢
    exact K
  · have rg := encC_RG hy b
    have e0 := e3 b
    by_cases c0 : w = 0
    · rw [if_pos c0] at K ⊢
      refine ⟨e1, ?_⟩
      rw [if_neg (by omega)]
      exact c_base rg K
    rw [if_neg c0] at K ⊢
    by_cases c1 : w = 1
    · rw [if_pos c1] at K ⊢
      refine ⟨e1, ?_⟩
      rw [if_pos e0]
      exact c_depth rg K
    rw [if_neg c1] at K ⊢
    by_cases c2 : w = 2
    · rw [if_pos c2] at K ⊢
      refine ⟨e1, ?_⟩
      rw [if_pos e0]
      exact c_size rg K
    rw [if_neg c2] at K ⊢
    exact K
theorem c_ringHC {w : Int} (hx : RI x) (hw : RI w) (hR : RSc m nr rR nv vN vR) (hB : HsB F n nr rR resV nv vN vR varV) (K0 : ¬ (-nv ≤ x ∧ x < nr) → Q1 (-1) m) (K1 : -nv ≤ x → x < nr → Q1 (shW (rgK rR vR x) w) m) : P_X0_ring x w m Q1 := by
  unfold P_X0_ring
  refine c_thereC hx hR (fun c => ⟨by decide, ?_⟩) (fun c c' => ⟨by decide, ?_⟩)
  · rw [if_pos rfl]; exact K0 c
  · rw [if_neg (by decide)]
    exact c_ringOf hx hR c c' (c_shown hw (rgK_ok hB c c').1 (K1 c c'))
theorem bM_lt {b : Int} (h : b < 20000) : bM b = b := by
  unfold bM
  rw [if_neg (by omega), if_neg (by omega)]
theorem c_ringHM {w : Int} (hx : RI x) (hw : RI w) (hR : RSm m nr rR nv vN vR) (hB : HsB F n nr rR resV nv vN vR varV) (K0 : ¬ (-nv ≤ x ∧ x < nr) → Q1 (-1) m) (K1 : -nv ≤ x → x < nr → Q1 (shW (rgK rR vR x) w) m) : P_X10_ring x w m Q1 := by
  unfold P_X10_ring
  refine c_thereM hx hR (fun c => ⟨by decide, ?_⟩) (fun c c' => ⟨by decide, ?_⟩)
  · rw [if_pos rfl]; exact K0 c
  have K := K1 c c'
  have lt := (rgK_ok hB c c').2.1
  unfold shW at K
  rw [if_neg (by decide)]
  refine ⟨hw, ?_⟩
  by_cases w0 : w < 0
  · rw [if_pos w0]
    rw [if_neg (by omega), if_neg (by omega), if_neg (by omega)] at K
    exact K
  rw [if_neg w0]
  by_cases w2 : w ≤ 2
  · rw [if_pos w2]
    refine ⟨hx, hx, ?_⟩
    unfold rgK at K lt
    by_cases cx : x < 0
    · rw [if_pos cx]
      rw [if_pos cx] at K lt
      have r2 := hR.2
      have q := (r2.2.2 ((-1) - x) (by omega) (by omega)).2.1
      by_cases c0 : w = 0
      · rw [if_pos c0] at K
        rw [if_pos c0, if_pos cx, q.1, bM_lt lt]; exact ⟨by omega, K⟩
      rw [if_neg c0] at K
      rw [if_neg c0]
      by_cases c1 : w = 1
      · rw [if_pos c1] at K
        rw [if_pos c1, if_pos cx, q.2.1]; exact ⟨by omega, K⟩
      rw [if_neg c1, if_pos (by omega)] at K
      rw [if_neg c1, if_pos cx, q.2.2]; exact ⟨by omega, K⟩
    · rw [if_neg cx]
      rw [if_neg cx] at K lt
      have r1 := hR.1
      have q := (r1.2.2 x (by omega) (by omega)).1
      by_cases c0 : w = 0
      · rw [if_pos c0] at K
        rw [if_pos c0, if_neg cx, q.1, bM_lt lt]; exact ⟨by omega, K⟩
      rw [if_neg c0] at K
      rw [if_neg c0]
      by_cases c1 : w = 1
      · rw [if_pos c1] at K
        rw [if_pos c1, if_neg cx, q.2.1]; exact ⟨by omega, K⟩
      rw [if_neg c1, if_pos (by omega)] at K
      rw [if_neg c1, if_neg cx, q.2.2]; exact ⟨by omega, K⟩
  · rw [if_neg w2]
    rw [if_neg (by omega), if_neg (by omega), if_neg (by omega)] at K
    exact K
theorem h_ring {w : Int} (hx : RI x) (hw : RI w) (H : Hs m F n nr rR resV nv vN vR varV A tx sz) (K : ∀ r, RI r → Q r r m) : P_X0_ring x w m (fun r1 m1 => P_X10_ring x w m1 (fun r2 m2 => Q r1 r2 m2)) := by
  have hB := H.2.2.2
  refine c_ringHC hx hw H.1.2.2.1 hB (fun c => ?_) (fun c c' => ?_)
  · exact c_ringHM hx hw H.2.1.2.1.2 hB (fun _ => K _ (by decide)) (fun a b => absurd ⟨a, b⟩ c)
  · exact c_ringHM hx hw H.2.1.2.1.2 hB (fun a => absurd ⟨c, c'⟩ a) (fun _ _ => K _ (shW_ri (rgK_ok hB c c').1))
end HSA
