set_option maxRecDepth 100000
/-! the model: heads of functions, all of them -/
theorem tyO_pup {R : Option R3} : ∀ (t : TT) (hi : Int), pup t hi → ∀ q, (tyO R t).2 = some q → q.1 < hi := by
  intro t
  induction t with
  | leaf => intro hi _ q h; cases h
  | inner z d u c s ihc ihs =>
    intro hi hp q h
    obtain ⟨p1, p2, p3⟩ := hp
    unfold tyO at h
    split at h
    · cases h
    split at h
    · cases h
    split at h
    · rcases R with - | x
      · cases h; exact p1
      · cases h
    split at h
    case isTrue k33 =>
      split at h
      · cases h; exact p2 (Or.inl k33)
      · cases h
    case isFalse k33 =>
      have pc : c = .leaf ∨ plT c < hi := by
        cases c with
        | leaf => exact Or.inl rfl
        | inner zc dc uc cc sc => exact Or.inr p3.1
      have n0 : ∀ q, (@ite _ (badM d) (Classical.propDecidable _) (some (d.2.2.2, 4)) none : Nte) = some q → q.1 < hi := by
        intro q hq
        split at hq
        case isTrue hb => cases hq; exact p2 (Or.inr hb.1)
        · cases hq
      unfold overO at h
      simp only at h
      split at h
      · rcases mn_some h with h | h
        · exact n0 q h
        · exact ihc hi p3 q h
      case h_2 y hy =>
        have pc' : plT c < hi := by
          rcases pc with rfl | pc
          · cases hy
          · exact pc
        split at h
        · rcases mn_some h with h | h
          · exact n0 q h
          · rcases mn_some h with h | h
            · exact ihc hi p3 q h
            · cases h; exact pc'
        · split at h
          · split at h
            · rcases mn_some h with h | h
              · exact ihc hi p3 q h
              · cases h; exact p1
            · exact ihc hi p3 q h
          · split at h
            case isTrue hb =>
              rcases mn_some h with h | h
              · cases h; exact p2 (Or.inr hb.1)
              · exact ihc hi p3 q h
            · exact ihc hi p3 q h
theorem mn_low {a b : Nte} {q : Int × Int} {h : Int} (k : a = some q ∨ b = some q) (hq : q.1 < h) : ∃ r, mn a b = some r ∧ r.1 < h := by
  rcases a with - | x
  · rcases k with k | k
    · cases k
    · exact ⟨q, k, hq⟩
  · rcases b with - | y
    · rcases k with k | k
      · cases k; exact ⟨_, rfl, hq⟩
      · cases k
    · unfold mn
      simp only
      by_cases c : y.1 < x.1 ∨ y.1 = x.1 ∧ y.2 < x.2
      · rw [if_pos c]
        refine ⟨y, rfl, ?_⟩
        rcases k with k | k
        · cases k; omega
        · cases k; exact hq
      · rw [if_neg c]
        refine ⟨x, rfl, ?_⟩
        rcases k with k | k
        · cases k; exact hq
        · cases k; omega
theorem mn_abs {a : Nte} {r : Int × Int} {p k : Int} (ha : a = some r) (h : r.1 < p) : mn a (some (p, k)) = a := by
  rw [ha]
  unfold mn
  simp only
  rw [if_neg (by omega)]
section HEAD2M
variable {Q : Int → MM → Prop} {D : DFN} {n b0 : Int}
theorem hdP_low : ∀ (k : Nat), (∃ j : Int, 1 ≤ j ∧ j ≤ k ∧ ∃ q, (hdO D j).2 = some q ∧ q.1 < dFp D) → ∃ r, hdP D k = some r ∧ r.1 < dFp D := by
  intro k
  induction k with
  | zero => rintro ⟨j, j0, j1, -⟩; omega
  | succ k ih =>
    rintro ⟨j, j0, j1, q, hq, hl⟩
    show ∃ r, mn (hdP D k) (mn (hdO D ((k : Int) + 1)).2 (dupN D ((k : Int) + 1))) = some r ∧ _
    by_cases e : j = (k : Int) + 1
    · rw [e] at hq
      obtain ⟨r, hr, hl'⟩ := mn_low (a := (hdO D ((k : Int) + 1)).2) (b := dupN D ((k : Int) + 1)) (Or.inl hq) hl
      exact mn_low (Or.inr hr) hl'
    · obtain ⟨r, hr, hl'⟩ := ih ⟨j, j0, by omega, q, hq, hl⟩
      exact mn_low (Or.inl hr) hl'
/-- the note at for: where a parameter's ring is wrong it doesn't matter -/
theorem for_note (hD : okD D) : mn (mn (hdP D (dNp D).toNat) (hdO D 0).2) (@ite _ (dRu D ≠ 0 ∧ allO D ∧ ¬ anyR D) (Classical.propDecidable _) (some (dFp D, 4)) none) = mn (mn (hdP D (dNp D).toNat) (hdO D 0).2) (@ite _ (dRu D ≠ 0 ∧ ¬ anyR D) (Classical.propDecidable _) (some (dFp D, 4)) none) := by
  by_cases al : allO D
  · by_cases q : dRu D ≠ 0 ∧ ¬ anyR D
    · rw [if_pos q, if_pos ⟨q.1, al, q.2⟩]
    · rw [if_neg q, if_neg (fun z => q ⟨z.1, z.2.2⟩)]
  · rw [if_neg (fun z => al z.2.1), mn_none]
    by_cases q : dRu D ≠ 0 ∧ ¬ anyR D
    · rw [if_pos q]
      have np := hD.1
      obtain ⟨k, hk⟩ : ∃ k, 1 ≤ k ∧ k ≤ dNp D ∧ (hdO D k).1 = none := by
        by_cases z : ∃ k, 1 ≤ k ∧ k ≤ dNp D ∧ (hdO D k).1 = none
        · exact z
        · exact absurd (fun k k0 k1 y => z ⟨k, k0, k1, y⟩) al
      obtain ⟨w, ty, -⟩ := hD.2.2.2.2.2.2.2.1 k (by omega) hk.2.1
      have n0 := (tyO_note (R := hdR D) _ w ty).1 hk.2.2
      rcases hq : (hdO D k).2 with - | y
      · exact absurd hq n0
      · have pl := tyO_pup _ _ (hD.2.2.2.2.2.2.2.2.1 q.1 k hk.1 hk.2.1) y hq
        obtain ⟨r, hr, hl⟩ := hdP_low (D := D) (dNp D).toNat ⟨k, hk.1, by omega, y, hq, pl⟩
        obtain ⟨r', hr', hl'⟩ := mn_low (b := (hdO D 0).2) (Or.inl hr) hl
        exact (mn_abs hr' hl').symm
    · rw [if_neg q, mn_none]
/-- a head's ring goes into the tables -/
theorem c_headM {m : MM} {F : Int → FnR} {k : Int} (hD : okD D) (hc : DFm m n b0 D) (hn : 0 ≤ n ∧ n ≤ 20) (hB : BKm m F n) (h0 : NN' m none) (h : ∀ m', FHm n b0 m m' → m' 582 61 = n → NN' m' (hdN F n D) → (hdN F n D = none → FXM m' n (hdF D)) → P_X10_judgeDefinition_313 Q k n m') : P_X10_judgeDefinition k m Q := by
  have np := hD.1
  have ru := hD.2.1
  have okt : ∀ k, 0 ≤ k → k ≤ dNp D → ∀ x, (hdO D k).1 = some x → ok3 x := fun k k0 k1 x hx => tyO_ok (R := hdR D) (fun x hx => (hdR_ok x hx).1) _ (hD.2.2.2.2.2.2.2.1 k k0 k1).1 (hD.2.2.2.2.2.2.2.1 k k0 k1).2.1 x hx
  have d7 := hD.2.2.2.2.2.2.1
  have bk : ∀ m', FHm n b0 m m' → BKm m' F n := by
    intro m' f
    refine ⟨hB.1, fun g g0 g1 => ⟨(hB.2 g g0 g1).1, ?_⟩⟩
    obtain ⟨ok, h1, h2, h3, ⟨h4, h5⟩, h6⟩ := hB.2 g g0 g1
    have npg := ok.1
    refine ⟨by rw [f _ _ (by omega) (by omega) (by omega) (by omega)]; exact h1, by rw [f _ _ (by omega) (by omega) (by omega) (by omega)]; exact h2, by rw [f _ _ (by omega) (by omega) (by omega) (by omega)]; exact h3, ⟨by rw [f _ _ (by omega) (by omega) (by omega) (by omega)]; exact h4, h5.fr (fun c z => f _ _ (by omega) (by omega) (by omega) (by omega))⟩, fun j j0 j1 => ?_⟩
    obtain ⟨a, b, c⟩ := h6 j j0 j1
    exact ⟨by rw [f _ _ (by omega) (by omega) (by omega) (by omega)]; exact a, by rw [f _ _ (by omega) (by omega) (by omega) (by omega)]; exact b, c.fr (fun c z => f _ _ (by omega) (by omega) (by omega) (by omega))⟩
  -- twins
  have l280 : ∀ (r : Nat) (g : Int) (m2 : MM), 0 ≤ g → g + r = n → FHm n b0 m m2 → m2 582 61 = n → (∀ k, 1 ≤ k → k ≤ dNp D → HMk m2 n D k) → (m2 621 n = hasRT (dTy D 0) ∧ ∀ x, (hdO D 0).1 = some x → r3M m2 612 613 614 n x) → NN' m2 (mn (mn (mn (hdP D (dNp D).toNat) (hdO D 0).2) (@ite _ (dRu D ≠ 0 ∧ allO D ∧ ¬ anyR D) (Classical.propDecidable _) (some (dFp D, 4)) none)) (@ite _ (allO D ∧ ∃ i, 0 ≤ i ∧ i < g ∧ twinS (hdF D) (F i)) (Classical.propDecidable _) (some (dCp D, 5)) none)) → P_X10_judgeDefinition_280 Q (r + 1) k n g m2 := by
    intro r
    induction r with
    | zero =>
      intro g m2 g0 g1 f2 e61 hh h0' n2
      have eg : g = n := by omega
      rw [eg] at n2
      refine ⟨by constructor <;> omega, by constructor <;> omega, ?_⟩
      rw [if_pos (by omega)]
      refine h m2 f2 e61 n2 (fun q => ?_)
      obtain ⟨x0, xa, -⟩ := hdN_none hD q
      have hc2 := hc.fr f2
      refine ⟨hc2.1.2.1, hc2.1.2.2.1, hc2.1.2.2.2.1, ⟨h0'.1, ?_⟩, fun j j0 j1 => ?_⟩
      · rcases hx : (hdO D 0).1 with - | x
        · exact absurd hx x0
        · have er : (hdF D).2.2.2.2.2.1 0 = x := by show (hdO D 0).1.getD (0, 0, 0) = x; rw [hx]; rfl
          rw [er]
          exact h0'.2 x hx
      · have j1' : j ≤ dNp D := j1
        obtain ⟨y1, y2⟩ := hh j j0 j1'
        refine ⟨(hc2.2.1 j j0 j1').1, y1, ?_⟩
        rcases hx : (hdO D j).1 with - | x
        · exact absurd hx (xa j j0 j1')
        · rw [hx] at y2
          have er : (hdF D).2.2.2.2.2.1 j = x := by show (hdO D j).1.getD (0, 0, 0) = x; rw [hx]; rfl
          rw [er]
          exact y2
    | succ r ih =>
      intro g m2 g0 g1 f2 e61 hh h0' n2
      have hc2 := hc.fr f2
      refine ⟨by constructor <;> omega, by constructor <;> omega, ?_⟩
      rw [if_neg (by omega)]
      refine c_isTwinM hD hn ⟨g0, by omega⟩ (bk m2 f2) hc2.1.2.1 hc2.1.2.2.1 hh ?_
      by_cases tw : allO D ∧ twinS (hdF D) (F g)
      · rw [show twM F (hdF D) g (allO D) = 1 from if_pos tw]
        refine ⟨by decide, ?_⟩
        rw [if_neg (by decide), hc2.1.2.2.2.2.1]
        refine c_noteM n2 (by decide) hD.2.2.2.1 (fun m3 f3 n3 => ?_)
        refine ih (g + 1) m3 (by omega) (by omega) (fun c i z1 z2 z3 z4 => by rw [f3 c i (fun q => z1 ⟨q.1, by omega⟩)]; exact f2 c i z1 z2 z3 z4) (by rw [f3 _ _ (by omega)]; exact e61) (fun k k0 k1 => (hh k k0 k1).fr (fun c _ => f3 _ _ (by omega))) ⟨by rw [f3 _ _ (by omega)]; exact h0'.1, fun x hx => (h0'.2 x hx).fr (fun c _ => f3 _ _ (by omega))⟩ ?_
        rw [if_pos (show allO D ∧ ∃ i, 0 ≤ i ∧ i < g + 1 ∧ twinS (hdF D) (F i) from ⟨tw.1, g, g0, by omega, tw.2⟩)]
        by_cases q : allO D ∧ ∃ i, 0 ≤ i ∧ i < g ∧ twinS (hdF D) (F i)
        · rw [if_pos q, mn_idem] at n3; exact n3
        · rw [if_neg q, mn_none] at n3; exact n3
      · rw [show twM F (hdF D) g (allO D) = 0 from if_neg tw]
        refine ⟨by decide, ?_⟩
        rw [if_pos rfl]
        refine ih (g + 1) m2 (by omega) (by omega) f2 e61 hh h0' ?_
        by_cases q : allO D ∧ ∃ i, 0 ≤ i ∧ i < g ∧ twinS (hdF D) (F i)
        · rw [if_pos q] at n2
          obtain ⟨q1, i, i0, i1, i2⟩ := q
          rw [if_pos (show allO D ∧ ∃ i, 0 ≤ i ∧ i < g + 1 ∧ twinS (hdF D) (F i) from ⟨q1, i, i0, by omega, i2⟩)]
          exact n2
        · rw [if_neg q] at n2
          have nq : ¬ (allO D ∧ ∃ i, 0 ≤ i ∧ i < g + 1 ∧ twinS (hdF D) (F i)) := by
            rintro ⟨q1, i, i0, i1, i2⟩
            by_cases e : i = g
            · rw [e] at i2; exact tw ⟨q1, i2⟩
            · exact q ⟨q1, i, i0, by omega, i2⟩
          rw [if_neg nq]
          exact n2
  have t280 : ∀ (m2 : MM), FHm n b0 m m2 → m2 582 61 = n → (∀ k, 1 ≤ k → k ≤ dNp D → HMk m2 n D k) → (m2 621 n = hasRT (dTy D 0) ∧ ∀ x, (hdO D 0).1 = some x → r3M m2 612 613 614 n x) → NN' m2 (mn (mn (hdP D (dNp D).toNat) (hdO D 0).2) (@ite _ (dRu D ≠ 0 ∧ ¬ anyR D) (Classical.propDecidable _) (some (dFp D, 4)) none)) → ∃ nn, P_X10_judgeDefinition_280 Q nn k n 0 m2 := by
    intro m2 f2 e61 hh h0' n2
    refine ⟨_, l280 n.toNat 0 m2 (by decide) (by omega) f2 e61 hh h0' ?_⟩
    rw [if_neg (fun q : allO D ∧ ∃ i, 0 ≤ i ∧ i < 0 ∧ _ => by obtain ⟨-, i, i0, i1, -⟩ := q; omega), mn_none, for_note hD]
    exact n2
  -- what it answers
  have l185 : ∀ (m2 : MM) (x3 : Int), FHm n b0 m m2 → m2 582 61 = n → (∀ k, 1 ≤ k → k ≤ dNp D → HMk m2 n D k) → NN' m2 (hdP D (dNp D).toNat) → (x3 = 0 ∧ ¬ anyR D ∨ x3 = 1 ∧ anyR D) → P_X10_judgeDefinition_185 Q k n x3 m2 := by
    intro m2 x3 f2 e61 hh n2 hx3
    have hc2 := hc.fr f2
    obtain ⟨lo, hi, hlo, hT⟩ := hc2.2.2
    obtain ⟨w, ty, ht⟩ := hD.2.2.2.2.2.2.2.1 0 (by decide) (by omega)
    refine c_judgeHeadM hD hc2 hn ⟨by decide, by omega⟩ hlo hT n2 (fun m3 f3 g3 n3 r3 kb => ?_)
    have f23 := f2.trans f3
    have hc3 := hc.fr f23
    have e112 : m3 582 112 = m2 582 112 := f3 582 112 (by omega) (by omega) (by omega) (by omega)
    rw [e112]
    refine c_hasRM _ w ty (by omega) (f3.tm hT) ⟨by omega, hasRT_cs _, ?_⟩
    rintro m4 rfl
    rw [show up m3 621 n (hasRT (dTy D 0)) 582 112 = m2 582 112 by rw [up_ne (by omega)]; exact e112]
    refine ⟨kb, ?_⟩
    rintro m5 rfl
    rw [show up (up m3 621 n (hasRT (dTy D 0))) 612 n (up m3 621 n (hasRT (dTy D 0)) 598 (m2 582 112)) 582 112 = m2 582 112 by rw [up_ne (by omega), up_ne (by omega)]; exact e112]
    refine ⟨kb, ?_⟩
    rintro m6 rfl
    obtain ⟨B, hB'⟩ : ∃ B, B = up m3 621 n (hasRT (dTy D 0)) 598 (m2 582 112) := ⟨_, rfl⟩
    rw [← hB']
    obtain ⟨E, hE'⟩ : ∃ E, E = up (up m3 621 n (hasRT (dTy D 0))) 612 n B 599 (m2 582 112) := ⟨_, rfl⟩
    rw [← hE']
    rw [show up (up (up m3 621 n (hasRT (dTy D 0))) 612 n B) 613 n E 582 112 = m2 582 112 by rw [up_ne (by omega), up_ne (by omega), up_ne (by omega)]; exact e112]
    refine ⟨kb, ?_⟩
    rintro m7 rfl
    obtain ⟨S, hS'⟩ : ∃ S, S = up (up (up m3 621 n (hasRT (dTy D 0))) 612 n B) 613 n E 600 (m2 582 112) := ⟨_, rfl⟩
    rw [← hS']
    obtain ⟨m7, hm7⟩ : ∃ m7, m7 = up (up (up (up m3 621 n (hasRT (dTy D 0))) 612 n B) 613 n E) 614 n S := ⟨_, rfl⟩
    rw [← hm7]
    have g7 : ∀ c i, ¬ ((c = 612 ∨ c = 613 ∨ c = 614 ∨ c = 621) ∧ i = n) → m7 c i = m3 c i := fun c i z => by rw [hm7, up_ne (fun q => z ⟨by omega, q.2⟩), up_ne (fun q => z ⟨by omega, q.2⟩), up_ne (fun q => z ⟨by omega, q.2⟩), up_ne (fun q => z ⟨by omega, q.2⟩)]
    have f7 : FHm n b0 m m7 := fun c i z1 z2 z3 z4 => by rw [g7 c i z3]; exact f23 c i z1 z2 z3 z4
    have hc7 := hc.fr f7
    have e617 : m7 582 61 = n := by rw [g7 _ _ (by omega), g3 582 61 (by omega)]; exact e61
    have hh7 : ∀ k, 1 ≤ k → k ≤ dNp D → HMk m7 n D k := fun k k0 k1 => (hh k k0 k1).fr (fun c z => by rw [g7 _ _ (by omega)]; exact g3 _ _ (by omega))
    have n7 : NN' m7 (mn (hdP D (dNp D).toNat) (hdO D 0).2) := n3.congr (g7 _ _ (by omega)) (g7 _ _ (by omega))
    have t7 : m7 621 n = hasRT (dTy D 0) ∧ ∀ x, (hdO D 0).1 = some x → r3M m7 612 613 614 n x := by
      refine ⟨by rw [hm7, up_ne (by omega), up_ne (by omega), up_ne (by omega), up_at], fun x hx => ?_⟩
      rw [hx] at r3
      obtain ⟨v1, v2, v3⟩ := r3
      refine ⟨?_, ?_, ?_⟩
      · rw [hm7, up_ne (by omega), up_ne (by omega), up_at, hB', up_ne (by omega)]; exact v1
      · rw [hm7, up_ne (by omega), up_at, hE', up_ne (by omega), up_ne (by omega)]; exact v2
      · rw [hm7, up_at, hS', up_ne (by omega), up_ne (by omega), up_ne (by omega)]; exact v3
    by_cases r0 : dRu D = 0
    · rw [hc7.1.2.2.2.2.2.2.1 r0]
      refine ⟨by decide, ?_⟩
      rw [if_pos (by decide)]
      refine t280 m7 f7 e617 hh7 t7 ?_
      rw [if_neg (fun q : dRu D ≠ 0 ∧ _ => q.1 r0), mn_none]
      exact n7
    · obtain ⟨p1, p2⟩ := hc7.1.2.2.2.2.2.2.2 r0
      refine ⟨by constructor <;> omega, ?_⟩
      rw [if_neg (by omega)]
      refine ⟨by constructor <;> omega, ?_⟩
      rcases hx3 with ⟨rfl, na⟩ | ⟨rfl, ya⟩
      · rw [if_pos rfl, p2]
        refine ⟨p1, c_noteM n7 (by decide) (hD.2.2.2.2.1 r0) (fun m8 f8 n8 => ?_)⟩
        refine t280 m8 (fun c i z1 z2 z3 z4 => by rw [f8 c i (fun q => z1 ⟨q.1, by omega⟩)]; exact f7 c i z1 z2 z3 z4) (by rw [f8 _ _ (by omega)]; exact e617) (fun k k0 k1 => (hh7 k k0 k1).fr (fun c _ => f8 _ _ (by omega))) ⟨by rw [f8 _ _ (by omega)]; exact t7.1, fun x hx => (t7.2 x hx).fr (fun c _ => f8 _ _ (by omega))⟩ ?_
        rw [if_pos (show dRu D ≠ 0 ∧ ¬ anyR D from ⟨r0, na⟩)]
        exact n8
      · rw [if_neg (by decide)]
        refine t280 m7 f7 e617 hh7 t7 ?_
        rw [if_neg (fun q : dRu D ≠ 0 ∧ ¬ anyR D => q.2 ya), mn_none]
        exact n7
  -- the parameters
  have L : ∀ (r : Nat) (j : Nat) (x3 : Int) (m2 : MM), (j : Int) + r = dNp D → FHm n b0 m m2 → m2 582 61 = n → NN' m2 (hdP D j) → (∀ i, 1 ≤ i → i ≤ (j : Int) → HMk m2 n D i) → (x3 = 0 ∧ (¬ ∃ i, 1 ≤ i ∧ i ≤ (j : Int) ∧ hasRT (dTy D i) = 1) ∨ x3 = 1 ∧ ∃ i, 1 ≤ i ∧ i ≤ (j : Int) ∧ hasRT (dTy D i) = 1) → P_X10_judgeDefinition_15 Q (r + 1) k n x3 (j : Int) m2 := by
    intro r
    induction r with
    | zero =>
      intro j x3 m2 jr f2 e61 n2 hh hx
      have hc2 := hc.fr f2
      have ej : (dNp D).toNat = j := by omega
      have ej' : (j : Int) = dNp D := by omega
      unfold P_X10_judgeDefinition_15
      rw [hc2.1.2.2.1]
      refine ⟨by omega, by constructor <;> omega, by constructor <;> omega, ?_⟩
      rw [if_pos (by omega)]
      rw [ej'] at hh hx
      exact l185 m2 x3 f2 e61 hh (by rw [ej]; exact n2) hx
    | succ r ih =>
      intro j x3 m2 jr f2 e61 n2 hh hx
      have hc2 := hc.fr f2
      obtain ⟨w, ty, ht⟩ := hD.2.2.2.2.2.2.2.1 ((j : Int) + 1) (by omega) (by omega)
      obtain ⟨pn, -, lo, hi, hlo, hT⟩ := hc2.2.1 ((j : Int) + 1) (by omega) (by omega)
      rw [show (j : Int) + 1 - 1 = (j : Int) by omega] at pn hT
      show P_X10_judgeDefinition_15 Q (r + 1 + 1) k n x3 (j : Int) m2
      unfold P_X10_judgeDefinition_15
      rw [hc2.1.2.2.1]
      refine ⟨by omega, by constructor <;> omega, by constructor <;> omega, ?_⟩
      rw [if_neg (by omega)]
      refine ⟨by omega, c_judgeHeadM hD hc2 hn ⟨by omega, by omega⟩ hlo hT n2 (fun m3 f3 g3 n3 r3 kb => ?_)⟩
      have f23 := f2.trans f3
      have hcs := hasRT_cs (dTy D ((j : Int) + 1))
      refine c_hasRM _ w ty (by omega) (f3.tm hT) ⟨by omega, hcs, ?_⟩
      rintro m4 rfl
      refine ⟨kb, ?_⟩
      rintro m5 rfl m6 rfl m7 rfl
      obtain ⟨B, hB'⟩ : ∃ B, B = up m3 622 (3 * n + (j : Int)) (hasRT (dTy D ((j : Int) + 1))) 598 (m2 652 (j : Int)) := ⟨_, rfl⟩
      rw [← hB']
      obtain ⟨E, hE'⟩ : ∃ E, E = up (up m3 622 (3 * n + (j : Int)) (hasRT (dTy D ((j : Int) + 1)))) 615 (3 * n + (j : Int)) B 599 (m2 652 (j : Int)) := ⟨_, rfl⟩
      rw [← hE']
      obtain ⟨S, hS'⟩ : ∃ S, S = up (up (up m3 622 (3 * n + (j : Int)) (hasRT (dTy D ((j : Int) + 1)))) 615 (3 * n + (j : Int)) B) 616 (3 * n + (j : Int)) E 600 (m2 652 (j : Int)) := ⟨_, rfl⟩
      rw [← hS']
      obtain ⟨m7, hm7⟩ : ∃ m7, m7 = up (up (up (up m3 622 (3 * n + (j : Int)) (hasRT (dTy D ((j : Int) + 1)))) 615 (3 * n + (j : Int)) B) 616 (3 * n + (j : Int)) E) 617 (3 * n + (j : Int)) S := ⟨_, rfl⟩
      rw [← hm7]
      have g7 : ∀ c i, ¬ (((615 ≤ c ∧ c ≤ 617) ∨ c = 622) ∧ i = 3 * n + (j : Int)) → m7 c i = m3 c i := fun c i z => by rw [hm7, up_ne (fun q => z ⟨by omega, q.2⟩), up_ne (fun q => z ⟨by omega, q.2⟩), up_ne (fun q => z ⟨by omega, q.2⟩), up_ne (fun q => z ⟨by omega, q.2⟩)]
      have f7 : FHm n b0 m m7 := fun c i z1 z2 z3 z4 => by rw [g7 c i (fun q => z4 ⟨q.1, by omega, by omega⟩)]; exact f23 c i z1 z2 z3 z4
      have hc7 := hc.fr f7
      have e617 : m7 582 61 = n := by rw [g7 _ _ (by omega), g3 582 61 (by omega)]; exact e61
      have n7 : NN' m7 (mn (hdP D j) (hdO D ((j : Int) + 1)).2) := n3.congr (g7 _ _ (by omega)) (g7 _ _ (by omega))
      have v22 : m7 622 (3 * n + (j : Int)) = hasRT (dTy D ((j : Int) + 1)) := by rw [hm7, up_ne (by omega), up_ne (by omega), up_ne (by omega), up_at]
      have hh7 : ∀ i, 1 ≤ i → i ≤ (j : Int) + 1 → HMk m7 n D i := by
        intro i i0 i1
        by_cases e : i = (j : Int) + 1
        · subst e
          unfold HMk
          rw [show (j : Int) + 1 - 1 = (j : Int) by omega]
          refine ⟨v22, ?_⟩
          generalize (hdO D ((j : Int) + 1)).1 = o at r3 ⊢
          rcases o with - | x
          · show m7 615 (3 * n + (j : Int)) = -9
            rw [hm7, up_ne (by omega), up_ne (by omega), up_at, hB', up_ne (by omega)]
            exact r3
          · obtain ⟨v1, v2, v3⟩ := r3
            refine ⟨?_, ?_, ?_⟩
            · rw [hm7, up_ne (by omega), up_ne (by omega), up_at, hB', up_ne (by omega)]; exact v1
            · rw [hm7, up_ne (by omega), up_at, hE', up_ne (by omega), up_ne (by omega)]; exact v2
            · rw [hm7, up_at, hS', up_ne (by omega), up_ne (by omega), up_ne (by omega)]; exact v3
        · exact (hh i i0 (by omega)).fr (fun c z => by rw [g7 _ _ (by omega)]; exact g3 _ _ (by omega))
      -- names that are told twice
      have L2 : ∀ (x3' : Int), (x3' = 0 ∧ (¬ ∃ i, 1 ≤ i ∧ i ≤ (j : Int) + 1 ∧ hasRT (dTy D i) = 1) ∨ x3' = 1 ∧ ∃ i, 1 ≤ i ∧ i ≤ (j : Int) + 1 ∧ hasRT (dTy D i) = 1) → ∀ (s : Nat) (i : Int) (m8 : MM), 1 ≤ i → i + s = (j : Int) + 1 → Fnm m7 m8 → NN' m8 (mn (mn (hdP D j) (hdO D ((j : Int) + 1)).2) (@ite _ (∃ l, 1 ≤ l ∧ l < i ∧ dPn D l = dPn D ((j : Int) + 1)) (Classical.propDecidable _) (some (dPp D ((j : Int) + 1), 5)) none)) → P_X10_judgeDefinition_127 Q (fun z0 z1 z2 z3 z4 => P_X10_judgeDefinition_15 Q (r + 1) z0 z1 z2 z3 z4) (s + 1) k n x3' (j : Int) (3 * n + (j : Int)) (i - 1) m8 := by
        intro x3' hx' s
        induction s with
        | zero =>
          intro i m8 i0 i1 f8 n8
          refine ⟨by constructor <;> omega, by constructor <;> omega, ?_⟩
          rw [if_pos (by omega)]
          have := ih (j + 1) x3' m8 (by omega) (fun c i z1 z2 z3 z4 => by rw [f8 c i (fun q => z1 ⟨q.1, by omega⟩)]; exact f7 c i z1 z2 z3 z4) (by rw [f8 _ _ (by omega)]; exact e617) (by
            show NN' m8 (mn (hdP D j) (mn (hdO D ((j : Int) + 1)).2 (dupN D ((j : Int) + 1))))
            rw [← mn_assoc]
            have ei : i = (j : Int) + 1 := by omega
            rw [ei] at n8
            exact n8) (fun l l0 l1 => (hh7 l l0 (by omega)).fr (fun c _ => f8 _ _ (by omega))) (by
              have e : ((j + 1 : Nat) : Int) = (j : Int) + 1 := by omega
              rw [e]
              exact hx')
          exact this
        | succ s ih2 =>
          intro i m8 i0 i1 f8 n8
          have f8' : FHm n b0 m m8 := fun c i z1 z2 z3 z4 => by rw [f8 c i (fun q => z1 ⟨q.1, by omega⟩)]; exact f7 c i z1 z2 z3 z4
          have hc8 := hc.fr f8'
          obtain ⟨q1, -, -⟩ := hc8.2.1 i i0 (by omega)
          obtain ⟨p1, ⟨p2, p3⟩, -⟩ := hc8.2.1 ((j : Int) + 1) (by omega) (by omega)
          rw [show (j : Int) + 1 - 1 = (j : Int) by omega] at p1 p2 p3
          show P_X10_judgeDefinition_127 Q _ (s + 1 + 1) k n x3' (j : Int) (3 * n + (j : Int)) (i - 1) m8
          unfold P_X10_judgeDefinition_127
          rw [q1, p1, p3]
          refine ⟨by constructor <;> omega, by constructor <;> omega, ?_⟩
          rw [if_neg (by omega)]
          refine ⟨by omega, by omega, (d7 i i0 (by omega)).1, (d7 _ (by omega) (by omega)).1, ?_⟩
          by_cases same : dPn D i = dPn D ((j : Int) + 1)
          · rw [if_pos same]
            refine ⟨by omega, p2, c_noteM n8 (by decide) (d7 _ (by omega) (by omega)).2 (fun m9 f9 n9 => ?_)⟩
            have := ih2 (i + 1) m9 (by omega) (by omega) (fun c i z => (f9 c i z).trans (f8 c i z)) (by
              rw [dupN_step, if_pos (show 1 ≤ i ∧ dPn D i = dPn D ((j : Int) + 1) from ⟨i0, same⟩), ← mn_assoc]
              exact n9)
            rw [show i + 1 - 1 = i - 1 + 1 by omega] at this
            exact this
          · rw [if_neg same]
            have := ih2 (i + 1) m8 (by omega) (by omega) f8 (by
              rw [dupN_step, if_neg (fun q : 1 ≤ i ∧ _ => same q.2), mn_none]
              exact n8)
            rw [show i + 1 - 1 = i - 1 + 1 by omega] at this
            exact this
      have start : ∀ (x3' : Int), (x3' = 0 ∧ (¬ ∃ i, 1 ≤ i ∧ i ≤ (j : Int) + 1 ∧ hasRT (dTy D i) = 1) ∨ x3' = 1 ∧ ∃ i, 1 ≤ i ∧ i ≤ (j : Int) + 1 ∧ hasRT (dTy D i) = 1) → ∃ nn, P_X10_judgeDefinition_127 Q (fun z0 z1 z2 z3 z4 => P_X10_judgeDefinition_15 Q (r + 1) z0 z1 z2 z3 z4) nn k n x3' (j : Int) (3 * n + (j : Int)) 0 m7 := by
        intro x3' hx'
        refine ⟨_, L2 x3' hx' j 1 m7 (by decide) (by omega) (fun _ _ _ => rfl) ?_⟩
        rw [if_neg (fun q : ∃ i, 1 ≤ i ∧ i < 1 ∧ _ => by obtain ⟨i, i0, i1, -⟩ := q; omega), mn_none]
        exact n7
      refine ⟨by rcases hx with q | q <;> (constructor <;> omega), ?_⟩
      rcases hx with ⟨rfl, na⟩ | ⟨rfl, i, i0, i1, i2⟩
      · rw [if_pos rfl, v22]
        refine ⟨by constructor <;> omega, ?_⟩
        rcases hcs with q | q
        · rw [if_pos q]
          refine start 0 (Or.inl ⟨rfl, ?_⟩)
          rintro ⟨i, i0, i1, i2⟩
          by_cases e : i = (j : Int) + 1
          · rw [e, q] at i2; cases i2
          · exact na ⟨i, i0, by omega, i2⟩
        · rw [if_neg (by omega)]
          exact start 1 (Or.inr ⟨rfl, (j : Int) + 1, by omega, by omega, q⟩)
      · rw [if_neg (by decide)]
        exact start 1 (Or.inr ⟨rfl, i, i0, by omega, i2⟩)
  rintro m1 rfl
  rw [hc.1.1]
  refine ⟨_, L (dNp D).toNat 0 0 (up m 582 61 n) (by omega) (fun c i z1 _ _ _ => up_ne (fun q => z1 ⟨q.1, by omega⟩)) (up_at ..) (h0.congr (up_ne (by omega)) (up_ne (by omega))) (fun i i0 i1 => by omega) (Or.inl ⟨rfl, fun ⟨i, i0, i1, _⟩ => by omega⟩)⟩
end HEAD2M
