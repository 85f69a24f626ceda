set_option maxRecDepth 100000
/-! functions that are told: what is read of one, what is wrong with its head, its expression -/
/-- name, its place, parameters, sort of R, where for stands, where the expression begins; the parameters' names, places; the written rings (0: what it answers); the expression -/
abbrev DFN : Type := Int × Int × Int × Int × Int × Int × (Int → Int) × (Int → Int) × (Int → TT) × ND × TT
abbrev dNm (D : DFN) : Int := D.1
abbrev dCp (D : DFN) : Int := D.2.1
abbrev dNp (D : DFN) : Int := D.2.2.1
abbrev dRu (D : DFN) : Int := D.2.2.2.1
abbrev dFp (D : DFN) : Int := D.2.2.2.2.1
abbrev dFi (D : DFN) : Int := D.2.2.2.2.2.1
abbrev dPn (D : DFN) : Int → Int := D.2.2.2.2.2.2.1
abbrev dPp (D : DFN) : Int → Int := D.2.2.2.2.2.2.2.1
abbrev dTy (D : DFN) : Int → TT := D.2.2.2.2.2.2.2.2.1
abbrev dRd (D : DFN) : ND := D.2.2.2.2.2.2.2.2.2.1
abbrev dRc (D : DFN) : TT := D.2.2.2.2.2.2.2.2.2.2
def hasRT : TT → Int
  | .leaf => 0
  | .inner _ d _ c _ => if d.1 = 34 ∨ d.1 = 35 then hasRT c else if d.1 = 32 then 1 else 0
theorem hasRT_cs : ∀ (t : TT), hasRT t = 0 ∨ hasRT t = 1 := by
  intro t
  induction t with
  | leaf => exact Or.inl rfl
  | inner z d u c s ihc ihs =>
    unfold hasRT
    split
    · exact ihc
    · split
      · exact Or.inr rfl
      · exact Or.inl rfl
def shp : TT → Int → Int → Int × Int
  | .leaf, o, a => (o, a)
  | .inner _ d _ c _, o, a => if d.1 = 34 then shp c (o + 1) a else if d.1 = 35 then shp c o d.2.2.1 else (o, a)
/-- places of a written ring lie ahead of one -/
def pup : TT → Int → Prop
  | .leaf, _ => True
  | .inner _ d _ c _, hi => d.2.1 < hi ∧ (d.1 = 33 ∨ d.1 = 35 → d.2.2.2 < hi) ∧ pup c hi
/-- R in a head -/
def hdR (D : DFN) : Option R3 := if dRu D = 0 then none else some (0, 0, 0)
noncomputable def hdO (D : DFN) (k : Int) : Option R3 × Nte := tyO (hdR D) (dTy D k)
noncomputable def hdF (D : DFN) : FnR := (dNm D, dNp D, dRu D, dPn D, fun k => hasRT (dTy D k), fun k => (hdO D k).1.getD (0, 0, 0), nd (dRd D) (dRc D) lf)
def okD (D : DFN) : Prop := (1 ≤ dNp D ∧ dNp D ≤ 3) ∧ (0 ≤ dRu D ∧ dRu D ≤ 3) ∧ RL (dNm D) ∧ (0 ≤ dCp D ∧ dCp D ≤ 400) ∧ (dRu D ≠ 0 → 0 ≤ dFp D ∧ dFp D ≤ 400) ∧ (0 ≤ dFi D ∧ dFi D ≤ 400) ∧
  (∀ k, 1 ≤ k → k ≤ dNp D → RL (dPn D k) ∧ (0 ≤ dPp D k ∧ dPp D k ≤ 400)) ∧ (∀ k, 0 ≤ k → k ≤ dNp D → wfT (dTy D k) ∧ isTy (dTy D k) ∧ htT (dTy D k) ≤ 16) ∧ (dRu D ≠ 0 → ∀ k, 1 ≤ k → k ≤ dNp D → pup (dTy D k) (dFp D)) ∧ (dRd D).1 < 30 ∧ wfT (nd (dRd D) (dRc D) lf)
def dupP (D : DFN) (k : Int) : Prop := ∃ j, 1 ≤ j ∧ j < k ∧ dPn D j = dPn D k
noncomputable def dupN (D : DFN) (k : Int) : Nte := @ite _ (dupP D k) (Classical.propDecidable _) (some (dPp D k, 5)) none
noncomputable def hdP (D : DFN) : Nat → Nte
  | 0 => none
  | k + 1 => mn (hdP D k) (mn (hdO D ((k : Int) + 1)).2 (dupN D ((k : Int) + 1)))
def allO (D : DFN) : Prop := ∀ k, 1 ≤ k → k ≤ dNp D → (hdO D k).1 ≠ none
def anyR (D : DFN) : Prop := ∃ k, 1 ≤ k ∧ k ≤ dNp D ∧ hasRT (dTy D k) = 1
def twinS (f g : FnR) : Prop := g.1 = f.1 ∧ g.2.1 = f.2.1 ∧ ∀ k, 1 ≤ k → k ≤ f.2.1 → g.2.2.2.2.1 k = f.2.2.2.2.1 k ∧ g.2.2.2.2.2.1 k = f.2.2.2.2.2.1 k
noncomputable def hdN (F : Int → FnR) (n : Int) (D : DFN) : Nte := mn (mn (mn (hdP D (dNp D).toNat) (hdO D 0).2) (@ite _ (dRu D ≠ 0 ∧ allO D ∧ ¬ anyR D) (Classical.propDecidable _) (some (dFp D, 4)) none)) (@ite _ (allO D ∧ ∃ g, 0 ≤ g ∧ g < n ∧ twinS (hdF D) (F g)) (Classical.propDecidable _) (some (dCp D, 5)) none)
/-- with one function more -/
def setF (F : Int → FnR) (n : Int) (f : FnR) : Int → FnR := fun k => if k = n then f else F k
noncomputable def goalN (F : Int → FnR) (f : Int) (D : DFN) (R : Option R3) : Nte := match rgS (JEf F f R) (dRd D) (dRc D), instS (F f) 0 R with
  | some x, some z => if jn x z = some z then ntS (JEf F f R) (dRd D) (dRc D) else mn (ntS (JEf F f R) (dRd D) (dRc D)) (some (dFi D, 4))
  | _, _ => ntS (JEf F f R) (dRd D) (dRc D)
/-- the rings for which an expression is looked at, one behind another -/
def bs4 (q : Int) : Int := if q = 0 then 0 else if q = 1 then 1 else if q = 2 then 20000 else 20001
def r48 (k : Int) : R3 := (bs4 (k / 12), k / 4 % 3, k % 4)
noncomputable def bodG (F : Int → FnR) (f : Int) (D : DFN) : Nat → Int → Nte
  | 0, _ => none
  | n + 1, k => @ite _ (canS (F f) (r48 k)) (Classical.propDecidable _) (match goalN F f D (some (r48 k)) with
    | none => bodG F f D n (k + 1)
    | some q => some q) (bodG F f D n (k + 1))
noncomputable def bodN (F : Int → FnR) (f : Int) (D : DFN) : Nte := if dRu D = 0 then goalN F f D none else bodG F f D 48 0
/-- what is wrong with a function that is told -/
noncomputable def defN (F : Int → FnR) (n : Int) (D : DFN) : Nte := match hdN F n D with
  | some q => some q
  | none => match bodN (setF F n (hdF D)) n D with
    | some q => some q
    | none => if n = 20 then some (0, 6) else none
theorem mn_idem {a b : Nte} : mn (mn a b) b = mn a b := by
  rw [mn_assoc]
  congr 1
  rcases b with - | q
  · rfl
  · unfold mn
    simp only
    rw [if_neg (by omega)]
theorem r48_ok {k : Int} (h : 0 ≤ k ∧ k < 48) : ok3 (r48 k) ∧ (r48 k).1 ≠ -2 := by
  unfold r48 bs4 ok3
  simp only
  split
  · omega
  · split
    · omega
    · split <;> omega
theorem shp_R : ∀ (t : TT), wfT t → isTy t → ∀ (x : R3) (o a : Int), (tyO (some (0, 0, 0)) t).1 = some x → hasRT t = 1 → shp t o a = (o + x.2.1, if x.2.2 = 0 then a else x.2.2) ∧ x.1 = 0 := by
  intro t
  induction t with
  | leaf => intro _ h; exact h.elim
  | inner z d u c s ihc ihs =>
    intro w h x o a hx hr
    have hk := h.1
    obtain ⟨w0, wc, -⟩ := w
    unfold hasRT at hr
    unfold shp
    unfold tyO at hx
    split at hx
    case isTrue k => rw [if_neg (by omega), if_neg (by omega)] at hr; cases hr
    split at hx
    case isTrue k => rw [if_neg (by omega), if_neg (by omega)] at hr; cases hr
    split at hx
    case isTrue k =>
      cases hx
      rw [if_neg (by omega), if_neg (by omega)]
      exact ⟨by rw [if_pos rfl]; show (o, a) = (o + 0, a); rw [Int.add_zero], rfl⟩
    split at hx
    case isTrue k => rw [if_neg (by omega), if_neg (by omega)] at hr; cases hr
    · have hc : isTy c := by
        rcases w0.2.2.2.2.2.2.2.2 with q | q | q | q
        · exfalso; have := q.1; unfold arT at this; omega
        · exfalso; omega
        · exfalso; omega
        · exact q.2
      rw [if_pos (by omega)] at hr
      unfold overO at hx
      simp only at hx
      split at hx
      · cases hx
      case h_2 y hy =>
        split at hx
        · cases hx
        case isFalse hy2 =>
          split at hx
          case isTrue k34 =>
            split at hx
            · cases hx
            · cases hx
              rw [if_pos k34]
              obtain ⟨i1, i2⟩ := ihc wc hc y (o + 1) a hy hr
              rw [i1]
              refine ⟨?_, i2⟩
              show (o + 1 + y.2.1, _) = (o + (y.2.1 + 1), _)
              rw [show o + 1 + y.2.1 = o + (y.2.1 + 1) by omega]
          case isFalse k34 =>
            split at hx
            · cases hx
            case isFalse hb =>
              cases hx
              rw [if_neg k34, if_pos (by omega)]
              obtain ⟨i1, i2⟩ := ihc wc hc y o d.2.2.1 hy hr
              rw [i1]
              refine ⟨?_, i2⟩
              have y2 : y.2.2 = 0 := by omega
              have v0 : d.2.2.1 ≠ 0 := fun q => hb ⟨by omega, by omega⟩
              rw [if_pos y2]
              show (o + y.2.1, d.2.2.1) = (o + y.2.1, if d.2.2.1 = 0 then a else d.2.2.1)
              rw [if_neg v0]
theorem tyO_noR {t : TT} : ∀ (w : wfT t) (h : isTy t) (x : R3), (tyO none t).1 = some x → hasRT t = 0 := by
  induction t with
  | leaf => intro _ h; exact h.elim
  | inner z d u c s ihc ihs =>
    intro w h x hx
    have hk := h.1
    obtain ⟨w0, wc, -⟩ := w
    unfold hasRT
    unfold tyO at hx
    split at hx
    · rw [if_neg (by omega), if_neg (by omega)]
    split at hx
    · rw [if_neg (by omega), if_neg (by omega)]
    split at hx
    · cases hx
    split at hx
    · rw [if_neg (by omega), if_neg (by omega)]
    · have hc : isTy c := by
        rcases w0.2.2.2.2.2.2.2.2 with q | q | q | q
        · exfalso; have := q.1; unfold arT at this; omega
        · exfalso; omega
        · exfalso; omega
        · exact q.2
      rw [if_pos (by omega)]
      unfold overO at hx
      simp only at hx
      split at hx
      · cases hx
      case h_2 y hy => exact ihc wc hc y hy
theorem hdR_ok {D : DFN} : ∀ x, hdR D = some x → ok3 x ∧ x.1 ≠ -2 := by
  intro x hx
  unfold hdR at hx
  split at hx
  · cases hx
  · cases hx; exact ⟨ok3_n (by decide), by decide⟩
/-- the head's rings are rings -/
theorem hdF_ok {D : DFN} (hD : okD D) (h0 : (hdO D 0).1 ≠ none) (ha : allO D) : okF (hdF D) := by
  obtain ⟨d1, d2, d3, d4, d5, d6, d7, d8, d9, d10⟩ := hD
  refine ⟨d1, d2, d3, fun k k0 k1 => ?_, fun k k0 k1 => (d7 k k0 k1).1⟩
  have k1' : k ≤ dNp D := k1
  obtain ⟨w, ty, -⟩ := d8 k k0 k1'
  have hn : (hdO D k).1 ≠ none := by
    by_cases q : k = 0
    · rw [q]; exact h0
    · exact ha k (by omega) k1'
  rcases hx : (hdO D k).1 with - | x
  · exact absurd hx hn
  have er : (hdF D).2.2.2.2.2.1 k = x := by show (hdO D k).1.getD (0, 0, 0) = x; rw [hx]; rfl
  have eh : (hdF D).2.2.2.2.1 k = hasRT (dTy D k) := rfl
  rw [er, eh]
  refine ⟨tyO_ok (fun y hy => (hdR_ok y hy).1) _ w ty x hx, hasRT_cs _, fun q => ?_, fun q => ?_⟩
  · unfold hdO hdR at hx
    split at hx
    · exact absurd (tyO_noR w ty x hx) q
    · exact (shp_R _ w ty x 0 0 hx (by have := hasRT_cs (dTy D k); omega)).2
  · have q' : dRu D = 0 := q
    unfold hdO hdR at hx
    rw [if_pos q'] at hx
    exact tyO_noR w ty x hx
