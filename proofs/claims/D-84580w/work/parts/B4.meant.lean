set_option maxRecDepth 100000
/-! the component: whom a call means -/
theorem inI_row {a i : Int} (ha : a = 373 ∨ a = 581) (hi : 0 ≤ i ∧ i < 3) : inI a i := by
  rcases ha with rfl | rfl
  · exact ⟨3, by decide +kernel, hi⟩
  · exact ⟨3, by decide +kernel, hi⟩
def rowR (m : MM) (a : Int) : Int → List R3 → Prop
  | _, [] => True
  | k, x :: l => m a k = encC x ∧ ok3 x ∧ rowR m a (k + 1) l
section MEANT
variable {Q : Int → MM → Prop} {b a : Int} {f : FnR}
theorem askS_ok {k : Int} {x : R3} (hf : okF f) (hk : 0 ≤ k ∧ k ≤ f.2.1) (hx : ok3 x) (hB : x.1 ≠ -2) : ok3 (askS f k x) ∧ (askS f k x).1 ≠ -2 := by
  have o := (hf.2.2.2.1 k hk.1 hk.2).1
  refine ⟨?_, hB⟩
  unfold askS
  unfold ok3 at hx o ⊢
  simp only
  split <;> omega
theorem jn_nB {x y z : R3} (hx : x.1 ≠ -2) (h : jn x y = some z) : z.1 ≠ -2 := by
  unfold jn at h
  split at h
  · cases h; exact hx
  · split at h
    · cases h
    · split at h
      · cases h
        simp only
        split <;> omega
      · cases h
theorem fndS_ok (hf : okF f) : ∀ (l : List R3) (k : Int) (acc : Option R3), 1 ≤ k → k + (l.length : Int) = f.2.1 + 1 → (∀ x, x ∈ l → ok3 x) → (∀ x, acc = some x → ok3 x ∧ x.1 ≠ -2) → ∀ z, fndS f k acc l = some z → ok3 z ∧ z.1 ≠ -2 := by
  intro l
  induction l with
  | nil => intro k acc _ _ _ h z hz; exact h z hz
  | cons x l ih =>
    intro k acc k1 k2 hl ha z hz
    rw [show ((x :: l).length : Int) = (l.length : Int) + 1 from rfl] at k2
    have hl' : ∀ y, y ∈ l → ok3 y := fun y hy => hl y (List.mem_cons_of_mem _ hy)
    unfold fndS at hz
    split at hz
    · exact ih (k + 1) acc (by omega) (by omega) hl' ha z hz
    · split at hz
      · cases hz
      case isFalse hB =>
        have q := askS_ok hf ⟨by omega, by omega⟩ (hl x (List.mem_cons_self ..)) hB (k := k)
        rcases acc with - | r
        · simp only at hz
          exact ih (k + 1) _ (by omega) (by omega) hl' (fun y hy => by cases hy; exact q) z hz
        · simp only at hz
          split at hz
          · cases hz
          case h_2 j hj =>
            exact ih (k + 1) _ (by omega) (by omega) hl' (fun y hy => by cases hy; exact ⟨jn_ok (ha r rfl).1 q.1 hj, jn_nB (ha r rfl).2 hj⟩) z hz
theorem fldQ_ok {r : R3} (h : ok3 r ∧ r.1 ≠ -2) : ok3 (fldQ f r) ∧ (fldQ f r).1 ≠ -2 := by
  unfold fldQ
  split
  · exact ⟨by unfold ok3; simp only; omega, by decide⟩
  · exact h
theorem foundS_ok (hf : okF f) {l : List R3} (hl : (l.length : Int) = f.2.1) (ho : ∀ x, x ∈ l → ok3 x) {z : R3} (h : foundS f l = some z) : ok3 z ∧ z.1 ≠ -2 := by
  unfold foundS at h
  split at h
  · cases h
  case h_2 r hr =>
    have q := fldQ_ok (f := f) (fndS_ok hf l 1 none (by omega) (by omega) ho (fun x hx => by cases hx) r hr)
    split at h
    · cases h; exact q
    · cases h
theorem rowR_ok {m : MM} : ∀ {l : List R3} {k : Int}, rowR m a k l → ∀ x, x ∈ l → ok3 x := by
  intro l
  induction l with
  | nil => intro k _ x hx; cases hx
  | cons y l ih =>
    intro k h x hx
    rcases List.mem_cons.1 hx with e | e
    · rw [e]; exact h.2.1
    · exact ih h.2.2 x e
theorem c_foundC {m : MM} {l : List R3} (hb : isTx b) (ha : a = 373 ∨ a = 581) (hf : okF f) (hx : TXh m b f) (hl : (l.length : Int) = f.2.1) (hr : rowR m a 0 l) (h : Q (encO (foundS f l)) m) : P_X1_found b a m Q := by
  have np := hf.1
  have ru := hf.2.1
  unfold foundS at h
  obtain ⟨fd, hfd⟩ : ∃ fd, fd = fndS f 1 none l := ⟨_, rfl⟩
  rw [← hfd] at h
  have L : ∀ (l' : List R3) (k : Int) (acc : Option R3), 1 ≤ k → k + (l'.length : Int) = f.2.1 + 1 → rowR m a (k - 1) l' → (∀ x, acc = some x → ok3 x ∧ x.1 ≠ -2) → fd = fndS f k acc l' → P_X1_found_4 Q (l'.length + 1) b a (encO acc) k m := by
    intro l'
    induction l' with
    | nil =>
      intro k acc k1 k2 hr' hacc e
      rw [show (([] : List R3).length : Int) = 0 from rfl] at k2
      have e' : fd = acc := e
      unfold P_X1_found_4
      rw [hx.2.1]
      refine ⟨hb, by constructor <;> omega, by constructor <;> omega, ?_⟩
      rw [if_pos (by omega)]
      unfold P_X1_found_133
      rw [hx.2.2.1]
      refine ⟨hb, by constructor <;> omega, ?_⟩
      rw [e'] at h
      rcases acc with - | r
      · have nope : P_X1_found_158 Q b (-1) m := by
          refine ⟨by decide, ?_⟩
          rw [if_pos (by decide)]
          refine ⟨by decide, ?_⟩
          rw [if_pos rfl]
          exact h
        by_cases c3 : f.2.2.1 = 3
        · rw [if_pos c3]
          refine of_enc (x := (0, 0, 0)) (by unfold ok3; simp only; omega) (by decide) ⟨by decide, by decide, ?_⟩
          rw [if_neg (by decide)]
          exact nope
        · rw [if_neg c3]; exact nope
      · have q := hacc r rfl
        simp only at h
        have z0 : ok3 ((0, 0, 0) : R3) := by unfold ok3; simp only; omega
        have z1 : ok3 ((1, 0, 0) : R3) := by unfold ok3; simp only; omega
        have fin : ∀ r', r' = fldQ f r → P_X1_found_158 Q b (encC r') m := by
          intro r' er
          have oq := fldQ_ok (f := f) q
          refine c_canC hb hf hx (by rw [er]; exact oq.1) ?_
          by_cases c : canS f (fldQ f r)
          · rw [er, canN_1 c]
            rw [if_pos c] at h
            refine ⟨by decide, ?_⟩
            rw [if_neg (by decide)]
            exact h
          · rw [er, canN_0 c]
            rw [if_neg c] at h
            refine ⟨by decide, ?_⟩
            rw [if_pos rfl]
            exact h
        by_cases c3 : f.2.2.1 = 3
        · rw [if_pos c3]
          refine of_enc (x := (0, 0, 0)) z0 (by decide) ⟨(encC_bd q.1).1, by decide, ?_⟩
          by_cases c : r = (0, 0, 0)
          · rw [show encO (some r) = encC r from rfl, if_pos (by rw [c])]
            exact of_enc (x := (1, 0, 0)) z1 (by decide) (fin (1, 0, 0) (by unfold fldQ; rw [if_pos ⟨c3, c⟩]))
          · rw [show encO (some r) = encC r from rfl, if_neg (fun w => c (encC_inj q.1 z0 w))]
            exact fin r (by unfold fldQ; rw [if_neg (fun w => c w.2)])
        · rw [if_neg c3]
          exact fin r (by unfold fldQ; rw [if_neg (fun w => c3 w.1)])
    | cons x l' ih =>
      intro k acc k1 k2 hr' hacc e
      rw [show ((x :: l').length : Int) = (l'.length : Int) + 1 from rfl] at k2
      obtain ⟨r1, r2, r3⟩ := hr'
      rw [show k - 1 + 1 = (k + 1) - 1 by omega] at r3
      have h4 := hf.2.2.2.1 k (by omega) (by omega)
      obtain ⟨x1, x2, x3⟩ := hx.2.2.2.1 k (by omega) (by omega)
      have o := h4.1
      have t2 : (0 ≤ (f.2.2.2.2.2.1 k).2.1 ∧ (f.2.2.2.2.2.1 k).2.1 ≤ 2) ∧ (0 ≤ (f.2.2.2.2.2.1 k).2.2 ∧ (f.2.2.2.2.2.1 k).2.2 ≤ 3) := by unfold ok3 at o; omega
      show P_X1_found_4 Q (l'.length + 1 + 1) b a (encO acc) k m
      unfold P_X1_found_4
      rw [hx.2.1, x1]
      refine ⟨hb, by constructor <;> omega, by constructor <;> omega, ?_⟩
      rw [if_neg (by omega)]
      refine ⟨by omega, by have := h4.2.1; constructor <;> omega, ?_⟩
      unfold fndS at e
      by_cases c0 : f.2.2.2.2.1 k = 0
      · rw [if_pos c0] at e ⊢
        exact ih (k + 1) acc (by omega) (by omega) r3 hacc e
      rw [if_neg c0] at e ⊢
      obtain ⟨x4, x5⟩ := x3 c0
      have ex := encC_bd r2
      rw [r1]
      refine ⟨inI_row ha (by omega), ex.1, ?_⟩
      by_cases xB : x.1 = -2
      · rw [if_neg (by rw [ex.2.1 xB]; decide)]
        rw [if_pos xB] at e
        rw [e] at h
        exact h
      rw [if_pos (ex.2.2 xB)]
      rw [if_neg xB] at e
      have gx := encC_RG r2 xB
      obtain ⟨-, gb, gd, gs⟩ := id gx
      have q := askS_ok hf ⟨by omega, by omega⟩ r2 xB (k := k)
      rw [x4, x5]
      refine ⟨⟨by constructor <;> omega, by split; constructor <;> omega; trivial⟩, c_base gx (c_depth gx ?_)⟩
      rw [x4]
      refine c_max (by decide) (by constructor <;> omega) ?_
      have l98 : ∀ s', s' = (askS f k x).2.2 → P_X1_found_98 Q (fun z0 z1 z2 z3 z4 => P_X1_found_4 Q (l'.length + 1) z0 z1 z2 z3 z4) b a (encO acc) k x.1 (max 0 (x.2.1 - (f.2.2.2.2.2.1 k).2.1)) s' m := by
        intro s' es
        refine of_enc (x := askS f k x) q.1 q.2 (Q := fun r1 m1 => _) ?_ |> fun z => by rw [es]; exact z
        have ra : RI (encO acc) := encO_ri (fun y hy => (hacc y hy).1)
        refine ⟨ra, ?_⟩
        rcases acc with - | r
        · rw [if_pos (show encO none = -1 from rfl)]
          have e0 := (encC_bd q.1).2.2 q.2
          refine ⟨(encC_bd q.1).1, ?_⟩
          rw [if_neg (by omega)]
          exact ih (k + 1) (some (askS f k x)) (by omega) (by omega) r3 (fun y hy => by cases hy; exact q) e
        · have qr := hacc r rfl
          have e0 := (encC_bd qr.1).2.2 qr.2
          rw [if_neg (show ¬ encO (some r) = -1 from fun w => by have w' : encC r = -1 := w; omega)]
          refine c_join qr.1 q.1 ?_
          simp only at e
          rcases hj : jn r (askS f k x) with - | j
          · refine ⟨by decide, ?_⟩
            rw [if_pos (show encO none = -1 from rfl)]
            rw [hj] at e
            rw [e] at h
            exact h
          · have qj : ok3 j ∧ j.1 ≠ -2 := ⟨jn_ok qr.1 q.1 hj, jn_nB qr.2 hj⟩
            have e0 := (encC_bd qj.1).2.2 qj.2
            refine ⟨(encC_bd qj.1).1, ?_⟩
            rw [if_neg (show ¬ encO (some j) = -1 from fun w => by have w' : encC j = -1 := w; omega)]
            rw [hj] at e
            exact ih (k + 1) (some j) (by omega) (by omega) r3 (fun y hy => by cases hy; exact qj) e
      by_cases c2 : (f.2.2.2.2.2.1 k).2.1 = 0 ∧ (f.2.2.2.2.2.1 k).2.2 = 0
      · simp only [if_pos c2.1, if_pos c2.2]
        refine ⟨by decide, ?_⟩
        rw [if_neg (by decide)]
        have := l98 x.2.2 (by unfold askS; rw [if_pos c2])
        simp only [c2.1] at this ⊢
        exact c_size gx this
      · have e1 : (if (f.2.2.2.2.2.1 k).2.1 = 0 then (if (f.2.2.2.2.2.1 k).2.2 = 0 then (1 : Int) else 0) else 0) = 0 := by
          split
          · rw [if_neg (by omega)]
          · rfl
        rw [e1]
        refine ⟨by decide, ?_⟩
        rw [if_pos rfl]
        exact l98 0 (by unfold askS; rw [if_neg c2])
  exact ⟨_, L l 1 none (by decide) (by omega) hr (fun x hx => by cases hx) hfd⟩
end MEANT
