set_option maxRecDepth 100000
/-! the model's parser: items, rows -/
def lstI (m : MM) : Int → List Int → Int
  | i, [] => i
  | i, [_] => i
  | i, _ :: c :: cs => lstI m (m 594 i) (c :: cs)
/-- trees with items behind them -/
def ChG (m : MM) : List PT → List Int → Int → Int → Int → Prop
  | [], [], lo, hi, i => i = -1 ∧ lo ≤ hi
  | a :: ps, n :: ns, lo, hi, i => ∃ h, TNB m a lo h n ∧ (h ≤ i ∧ i < hi) ∧ m 591 i = n ∧ ChG m ps ns (i + 1) hi (m 594 i)
  | _, _, _, _, _ => False
/-- rows -/
def RwG (m : MM) : List (List PT) → List (List Int) → Int → Int → Int → Prop
  | [], [], lo, hi, i => i = -1 ∧ lo ≤ hi
  | r :: rs, ns :: nss, lo, hi, i => ChG m r ns lo i (m 591 i) ∧ i < hi ∧ 1 ≤ ns.length ∧ RwG m rs nss (i + 1) hi (m 594 i)
  | _, _, _, _, _ => False
section ITEMM
variable {m m' : MM} {hi r : Int} {a : PT}
theorem ChG.le : ∀ {ps : List PT} {ns : List Int} {lo i : Int}, ChG m ps ns lo hi i → lo ≤ hi := by
  intro ps
  induction ps with
  | nil => intro ns lo i h; cases ns with
    | nil => exact h.2
    | cons n ns => exact h.elim
  | cons a ps ih => intro ns lo i h; cases ns with
    | nil => exact h.elim
    | cons n ns =>
      obtain ⟨h', t, h1, h2, h3⟩ := h
      have := t.rng
      omega
theorem ChG.len : ∀ {ps : List PT} {ns : List Int} {lo hi i : Int}, ChG m ps ns lo hi i → ns.length = ps.length := by
  intro ps
  induction ps with
  | nil => intro ns lo hi i h; cases ns with
    | nil => rfl
    | cons n ns => exact h.elim
  | cons a ps ih => intro ns lo hi i h; cases ns with
    | nil => exact h.elim
    | cons n ns =>
      obtain ⟨h', t, h1, h2, h3⟩ := h
      rw [List.length_cons, List.length_cons, ih h3]
theorem ChG.tb (hb : hi ≤ 12000) : ∀ {ps : List PT} {ns : List Int} {lo i : Int}, ChG m ps ns lo hi i → TB m (chT ps) lo hi ns := by
  intro ps
  induction ps with
  | nil => intro ns lo i h; cases ns with
    | nil => exact ⟨rfl, h.2⟩
    | cons n ns => exact h.elim
  | cons a ps ih => intro ns lo i h; cases ns with
    | nil => exact h.elim
    | cons n ns =>
      obtain ⟨h', t, h1, h2, h3⟩ := h
      have tr := t.rng
      exact ⟨n, ns, i + 1, rfl, by omega, t.fr AgM.refl tr.1 (Int.le_refl _) (by omega) (by omega), ih h3⟩
theorem ChG.it : ∀ {ps : List PT} {ns : List Int} {lo i : Int}, ChG m ps ns lo hi i → ITB m hi lo i ns := by
  intro ps
  induction ps with
  | nil => intro ns lo i h; cases ns with
    | nil => exact h.1
    | cons n ns => exact h.elim
  | cons a ps ih => intro ns lo i h; cases ns with
    | nil => exact h.elim
    | cons n ns =>
      obtain ⟨h', t, h1, h2, h3⟩ := h
      have tr := t.rng
      exact ⟨by omega, h2, ih h3⟩
theorem ChG.fr {hi' : Int} (hh : hi ≤ hi') : ∀ {ps : List PT} {ns : List Int} {lo i : Int}, AgM lo hi m m' → ChG m ps ns lo hi i → ChG m' ps ns lo hi' i := by
  intro ps
  induction ps with
  | nil => intro ns lo i f h; cases ns with
    | nil => exact ⟨h.1, by have := h.2; omega⟩
    | cons n ns => exact h.elim
  | cons a ps ih => intro ns lo i f h; cases ns with
    | nil => exact h.elim
    | cons n ns =>
      obtain ⟨h', t, h1, h2, h3⟩ := h
      have tr := t.rng
      refine ⟨h', t.fr (fun c j z z1 z2 => f c j z z1 (by omega)) tr.1 (Int.le_refl _) (Int.le_refl _) tr.2.2.2, by omega, by rw [f _ _ (by decide) (by omega) (by omega)]; exact h2, ?_⟩
      rw [f _ _ (by decide) (by omega) (by omega)]
      exact ih (fun c j z z1 z2 => f c j z (by omega) z2) h3
theorem ChG.lst : ∀ {ps : List PT} {ns : List Int} {lo i : Int}, ns ≠ [] → ChG m ps ns lo hi i → lo ≤ lstI m i ns ∧ lstI m i ns < hi := by
  intro ps
  induction ps with
  | nil => intro ns lo i hn h; cases ns with
    | nil => exact absurd rfl hn
    | cons n ns => exact h.elim
  | cons a ps ih => intro ns lo i hn h; cases ns with
    | nil => exact h.elim
    | cons n ns =>
      obtain ⟨h', t, h1, h2, h3⟩ := h
      have tr := t.rng
      cases ns with
      | nil => show lo ≤ i ∧ i < hi; omega
      | cons n' ns =>
        have := ih (by simp) h3
        show lo ≤ lstI m (m 594 i) (n' :: ns) ∧ lstI m (m 594 i) (n' :: ns) < hi
        omega
/-- one item more: it is hung on the last -/
theorem ChG.app {k1 : Int} (t : TNB m' a hi k1 r) (e1 : m' 591 k1 = r) (e4 : m' 594 k1 = -1) : ∀ {ps : List PT} {ns : List Int} {lo i : Int}, ns ≠ [] → ChG m ps ns lo hi i → (∀ c j, 590 ≤ c ∧ c ≤ 605 → lo ≤ j → j < hi → ¬ (c = 594 ∧ j = lstI m i ns) → m' c j = m c j) → m' 594 (lstI m i ns) = k1 → ChG m' (ps ++ [a]) (ns ++ [r]) lo (k1 + 1) i ∧ lstI m' i (ns ++ [r]) = k1 := by
  have tr := t.rng
  intro ps
  induction ps with
  | nil => intro ns lo i hn h; cases ns with
    | nil => exact absurd rfl hn
    | cons n ns => exact h.elim
  | cons a0 ps ih => intro ns lo i hn h f e; cases ns with
    | nil => exact h.elim
    | cons n ns =>
      obtain ⟨h', t0, h1, h2, h3⟩ := h
      have t0r := t0.rng
      cases ns with
      | nil =>
        have e' : m' 594 i = k1 := e
        have f' : ∀ c j, 590 ≤ c ∧ c ≤ 605 → lo ≤ j → j < hi → ¬ (c = 594 ∧ j = i) → m' c j = m c j := f
        cases ps with
        | cons _ _ => exact h3.elim
        | nil =>
          refine ⟨⟨h', t0.fr (fun c j z z1 z2 => f' c j z z1 (by omega) (by omega)) t0r.1 (Int.le_refl _) (Int.le_refl _) t0r.2.2.2, by omega, by rw [f' _ _ (by decide) (by omega) (by omega) (by omega)]; exact h2, ?_⟩, e'⟩
          rw [e']
          exact ⟨k1, t.fr AgM.refl (by omega) (by omega) (Int.le_refl _) tr.2.2.2, by omega, e1, e4, Int.le_refl _⟩
      | cons n' ns =>
        have lr := h3.lst (by simp)
        have f' : ∀ c j, 590 ≤ c ∧ c ≤ 605 → lo ≤ j → j < hi → ¬ (c = 594 ∧ j = lstI m (m 594 i) (n' :: ns)) → m' c j = m c j := f
        have ei : m' 594 i = m 594 i := f' _ _ (by decide) (by omega) (by omega) (by omega)
        have w := ih (lo := i + 1) (i := m 594 i) (by simp) h3 (fun c j z z1 z2 z3 => f' c j z (by omega) z2 z3) e
        refine ⟨⟨h', t0.fr (fun c j z z1 z2 => f' c j z z1 (by omega) (by omega)) t0r.1 (Int.le_refl _) (Int.le_refl _) t0r.2.2.2, by omega, by rw [f' _ _ (by decide) (by omega) (by omega) (by omega)]; exact h2, ?_⟩, ?_⟩
        · rw [ei]; exact w.1
        · show lstI m' (m' 594 i) (n' :: ns ++ [r]) = k1
          rw [ei]; exact w.2
/-- items that were read -/
def ChI (m : MM) (acc : List PT) (ns : List Int) (lo k first last : Int) : Prop := ChG m acc ns lo k first ∧ ((ns = [] ∧ acc = [] ∧ first = -1) ∨ (ns ≠ [] ∧ (0 ≤ first) ∧ last = lstI m first ns))
theorem ChI.add {acc : List PT} {ns : List Int} {m1 m2 : MM} {lo k k1 first last : Int} (h : ChI m acc ns lo k first last) (l0 : 0 ≤ lo) (ag : AgM lo k m m1) (t : TNB m1 a k k1 r) (kb : k1 < 12000) (f2 : ∀ c i, ¬ (c = 582 ∧ i = 15) → ¬ (590 ≤ c ∧ c ≤ 605 ∧ i = k1) → m2 c i = m1 c i) (e1 : m2 591 k1 = r) (e4 : m2 594 k1 = -1) : RI first ∧ (¬ (0 ≤ first) → ChI m2 (acc ++ [a]) (ns ++ [r]) lo (k1 + 1) k1 k1) ∧ (0 ≤ first → (lo ≤ last ∧ last < k) ∧ ChI (up m2 594 last k1) (acc ++ [a]) (ns ++ [r]) lo (k1 + 1) first k1) := by
  have le := h.1.le
  have tr := t.rng
  obtain ⟨h1, h3⟩ := h
  have ag2 : AgM lo k m m2 := fun c i z z1 z2 => (f2 c i (by omega) (by omega)).trans (ag c i z z1 z2)
  have t2 : TNB m2 a k k1 r := t.fr (fun c i z z1 z2 => f2 c i (by omega) (by omega)) tr.1 (Int.le_refl _) (Int.le_refl _) tr.2.2.2
  rcases h3 with ⟨hn, ha, hf⟩ | ⟨hn, hf, hl⟩
  · subst hn ha hf
    refine ⟨by decide, fun _ => ⟨⟨k1, t2.fr AgM.refl l0 le (Int.le_refl _) tr.2.2.2, by omega, e1, e4, Int.le_refl _⟩, .inr ⟨by simp, by omega, rfl⟩⟩, fun z => absurd z (by decide)⟩
  · have lr := h1.lst hn
    rw [← hl] at lr
    have fb : first < 12000 := by
      cases acc with
      | nil => cases ns with
        | nil => exact absurd rfl hn
        | cons _ _ => exact h1.elim
      | cons a0 ps => cases ns with
        | nil => exact absurd rfl hn
        | cons n ns =>
          obtain ⟨h', t0, q1, q2, q3⟩ := h1
          omega
    refine ⟨by constructor <;> omega, fun z => absurd hf z, fun _ => ⟨lr, ?_⟩⟩
    have t3 : TNB (up m2 594 last k1) a k k1 r := t2.fr (fun c i z z1 z2 => up_ne (by omega)) tr.1 (Int.le_refl _) (Int.le_refl _) tr.2.2.2
    have w := ChG.app (m := m) (m' := up m2 594 last k1) t3 (by rw [up_ne (by omega)]; exact e1) (by rw [up_ne (by omega)]; exact e4) hn h1 (fun c j z z1 z2 z3 => by rw [up_ne (by rw [← hl] at z3; omega)]; exact ag2 c j z z1 z2) (by rw [← hl]; exact up_at ..)
    exact ⟨w.1, .inr ⟨by simp, hf, w.2.symm⟩⟩
/-! rows -/
theorem RwG.le : ∀ {rs : List (List PT)} {nss : List (List Int)} {lo i : Int}, RwG m rs nss lo hi i → lo ≤ hi := by
  intro rs
  induction rs with
  | nil => intro nss lo i h; cases nss with
    | nil => exact h.2
    | cons n ns => exact h.elim
  | cons a ps ih => intro nss lo i h; cases nss with
    | nil => exact h.elim
    | cons n ns =>
      obtain ⟨h1, h2, h3, h4⟩ := h
      have := h1.le
      omega
theorem RwG.lens : ∀ {rs : List (List PT)} {nss : List (List Int)} {lo i : Int}, RwG m rs nss lo hi i → nss.map List.length = rs.map List.length := by
  intro rs
  induction rs with
  | nil => intro nss lo i h; cases nss with
    | nil => rfl
    | cons n ns => exact h.elim
  | cons a ps ih => intro nss lo i h; cases nss with
    | nil => exact h.elim
    | cons n ns =>
      obtain ⟨h1, h2, h3, h4⟩ := h
      rw [List.map_cons, List.map_cons, ih h4, h1.len]
theorem RwG.tb (hb : hi ≤ 12000) : ∀ {rs : List (List PT)} {nss : List (List Int)} {lo i : Int}, 0 ≤ lo → RwG m rs nss lo hi i → TB m (chT rs.flatten) lo hi nss.flatten := by
  intro rs
  induction rs with
  | nil => intro nss lo i _ h; cases nss with
    | nil => exact ⟨rfl, h.2⟩
    | cons n ns => exact h.elim
  | cons a ps ih => intro nss lo i l0 h; cases nss with
    | nil => exact h.elim
    | cons n ns =>
      obtain ⟨h1, h2, h3, h4⟩ := h
      have le := h1.le
      rw [List.flatten_cons, List.flatten_cons]
      have h1' : ChG m a n lo (i + 1) (m 591 i) := h1.fr (by omega) AgM.refl
      exact TB.app (ih (by omega) h4) l0 (h1'.tb (by omega))
theorem RwG.rw : ∀ {rs : List (List PT)} {nss : List (List Int)} {lo i : Int}, RwG m rs nss lo hi i → RWB m hi lo i nss := by
  intro rs
  induction rs with
  | nil => intro nss lo i h; cases nss with
    | nil => exact h.1
    | cons n ns => exact h.elim
  | cons a ps ih => intro nss lo i h; cases nss with
    | nil => exact h.elim
    | cons n ns =>
      obtain ⟨h1, h2, h3, h4⟩ := h
      have le := h1.le
      exact ⟨by omega, h1.it, h3, ih h4⟩
theorem RwG.fr {hi' : Int} (hh : hi ≤ hi') : ∀ {rs : List (List PT)} {nss : List (List Int)} {lo i : Int}, AgM lo hi m m' → RwG m rs nss lo hi i → RwG m' rs nss lo hi' i := by
  intro rs
  induction rs with
  | nil => intro nss lo i f h; cases nss with
    | nil => exact ⟨h.1, by have := h.2; omega⟩
    | cons n ns => exact h.elim
  | cons a ps ih => intro nss lo i f h; cases nss with
    | nil => exact h.elim
    | cons n ns =>
      obtain ⟨h1, h2, h3, h4⟩ := h
      have le := h1.le
      refine ⟨?_, by omega, h3, ?_⟩
      · rw [f _ _ (by decide) (by omega) (by omega)]; exact h1.fr (Int.le_refl _) (fun c j z z1 z2 => f c j z z1 (by omega))
      · rw [f _ _ (by decide) (by omega) (by omega)]; exact ih (fun c j z z1 z2 => f c j z (by omega) z2) h4
def lstR (m : MM) : Int → List (List Int) → Int
  | i, [] => i
  | i, [_] => i
  | i, _ :: c :: cs => lstR m (m 594 i) (c :: cs)
theorem RwG.lst : ∀ {rs : List (List PT)} {nss : List (List Int)} {lo i : Int}, nss ≠ [] → RwG m rs nss lo hi i → lo ≤ lstR m i nss ∧ lstR m i nss < hi := by
  intro rs
  induction rs with
  | nil => intro nss lo i hn h; cases nss with
    | nil => exact absurd rfl hn
    | cons n ns => exact h.elim
  | cons a ps ih => intro nss lo i hn h; cases nss with
    | nil => exact h.elim
    | cons n ns =>
      obtain ⟨h1, h2, h3, h4⟩ := h
      have le := h1.le
      cases ns with
      | nil => show lo ≤ i ∧ i < hi; omega
      | cons n' ns =>
        have := ih (by simp) h4
        show lo ≤ lstR m (m 594 i) (n' :: ns) ∧ lstR m (m 594 i) (n' :: ns) < hi
        omega
/-- one row more -/
theorem RwG.app {k1 : Int} {row : List PT} {ns0 : List Int} (t : ChG m' row ns0 hi k1 (m' 591 k1)) (l1 : 1 ≤ ns0.length) (e4 : m' 594 k1 = -1) : ∀ {rs : List (List PT)} {nss : List (List Int)} {lo i : Int}, 0 ≤ lo → nss ≠ [] → RwG m rs nss lo hi i → (∀ c j, 590 ≤ c ∧ c ≤ 605 → lo ≤ j → j < hi → ¬ (c = 594 ∧ j = lstR m i nss) → m' c j = m c j) → m' 594 (lstR m i nss) = k1 → RwG m' (rs ++ [row]) (nss ++ [ns0]) lo (k1 + 1) i ∧ lstR m' i (nss ++ [ns0]) = k1 := by
  have tr := t.le
  intro rs
  induction rs with
  | nil => intro nss lo i l0 hn h; cases nss with
    | nil => exact absurd rfl hn
    | cons n ns => exact h.elim
  | cons a0 ps ih => intro nss lo i l0 hn h f e; cases nss with
    | nil => exact h.elim
    | cons n ns =>
      obtain ⟨h1, h2, h3, h4⟩ := h
      have le := h1.le
      cases ns with
      | nil =>
        have e' : m' 594 i = k1 := e
        have f' : ∀ c j, 590 ≤ c ∧ c ≤ 605 → lo ≤ j → j < hi → ¬ (c = 594 ∧ j = i) → m' c j = m c j := f
        cases ps with
        | cons _ _ => exact h4.elim
        | nil =>
          refine ⟨⟨?_, by omega, h3, ?_⟩, e'⟩
          · rw [f' _ _ (by decide) (by omega) (by omega) (by omega)]
            exact h1.fr (Int.le_refl _) (fun c j z z1 z2 => f' c j z z1 (by omega) (by omega))
          · rw [e']
            refine ⟨?_, by omega, l1, e4, Int.le_refl _⟩
            have lw : i + 1 ≤ hi := by omega
            cases row with
            | nil => cases ns0 with
              | nil => exact ⟨t.1, by omega⟩
              | cons _ _ => exact t.elim
            | cons b bs => cases ns0 with
              | nil => exact t.elim
              | cons n0 ns0 =>
                obtain ⟨h', u, u1, u2, u3⟩ := t
                have ur := u.rng
                exact ⟨h', u.fr AgM.refl (by omega) lw (Int.le_refl _) ur.2.2.2, u1, u2, u3⟩
      | cons n' ns =>
        have lr := h4.lst (by simp)
        have f' : ∀ c j, 590 ≤ c ∧ c ≤ 605 → lo ≤ j → j < hi → ¬ (c = 594 ∧ j = lstR m (m 594 i) (n' :: ns)) → m' c j = m c j := f
        have ei : m' 594 i = m 594 i := f' _ _ (by decide) (by omega) (by omega) (by omega)
        have w := ih (lo := i + 1) (i := m 594 i) (by omega) (by simp) h4 (fun c j z z1 z2 z3 => f' c j z (by omega) z2 z3) e
        refine ⟨⟨?_, by omega, h3, ?_⟩, ?_⟩
        · rw [f' _ _ (by decide) (by omega) (by omega) (by omega)]
          exact h1.fr (Int.le_refl _) (fun c j z z1 z2 => f' c j z z1 (by omega) (by omega))
        · rw [ei]; exact w.1
        · show lstR m' (m' 594 i) (n' :: ns ++ [ns0]) = k1
          rw [ei]; exact w.2
end ITEMM
