set_option maxRecDepth 100000
/-! the model: functions that are told; whom a call means -/
def r3M (m : MM) (a1 a2 a3 i : Int) (x : R3) : Prop := m a1 i = bM x.1 ∧ m a2 i = x.2.1 ∧ m a3 i = x.2.2
def FXM (m : MM) (f : Int) (F : FnR) : Prop := m 606 f = F.1 ∧ m 609 f = F.2.1 ∧ m 611 f = F.2.2.1 ∧ (m 621 f = F.2.2.2.2.1 0 ∧ r3M m 612 613 614 f (F.2.2.2.2.2.1 0)) ∧ ∀ k, 1 ≤ k → k ≤ F.2.1 → m 608 (3 * f + (k - 1)) = F.2.2.2.1 k ∧ m 622 (3 * f + (k - 1)) = F.2.2.2.2.1 k ∧ r3M m 615 616 617 (3 * f + (k - 1)) (F.2.2.2.2.2.1 k)
def BKm (m : MM) (F : Int → FnR) (n : Int) : Prop := (0 ≤ n ∧ n ≤ 21) ∧ ∀ k, 0 ≤ k → k < n → okF (F k) ∧ FXM m k (F k)
/-- what looking for a function may change -/
def FMt (m m' : MM) : Prop := ∀ c i, ¬ (c = 582 ∧ ((65 ≤ i ∧ i ≤ 67) ∨ (70 ≤ i ∧ i ≤ 72) ∨ (74 ≤ i ∧ i ≤ 77) ∨ (81 ≤ i ∧ i ≤ 83))) → m' c i = m c i
theorem FMt.refl (m : MM) : FMt m m := fun _ _ _ => rfl
theorem FMt.trans {m m1 m2 : MM} (h : FMt m m1) (k : FMt m1 m2) : FMt m m2 := fun c i z => (k c i z).trans (h c i z)
theorem r3M.fr {m m' : MM} {a1 a2 a3 i : Int} {x : R3} (h : r3M m a1 a2 a3 i x) (g : ∀ c, c = a1 ∨ c = a2 ∨ c = a3 → m' c i = m c i) : r3M m' a1 a2 a3 i x := ⟨(g _ (by omega)).trans h.1, (g _ (by omega)).trans h.2.1, (g _ (by omega)).trans h.2.2⟩
theorem FXM.fr {m m' : MM} {f : Int} {F : FnR} (h : FXM m f F) (g : ∀ c i, c = 606 ∨ (608 ≤ c ∧ c ≤ 609) ∨ (611 ≤ c ∧ c ≤ 617) ∨ c = 621 ∨ c = 622 → m' c i = m c i) : FXM m' f F := by
  obtain ⟨h1, h2, h3, ⟨h4, h5⟩, h6⟩ := h
  refine ⟨(g _ _ (by omega)).trans h1, (g _ _ (by omega)).trans h2, (g _ _ (by omega)).trans h3, ⟨(g _ _ (by omega)).trans h4, h5.fr (fun c z => g _ _ (by omega))⟩, fun k k0 k1 => ?_⟩
  obtain ⟨a, b, c⟩ := h6 k k0 k1
  exact ⟨(g _ _ (by omega)).trans a, (g _ _ (by omega)).trans b, c.fr (fun c z => g _ _ (by omega))⟩
theorem BKm.fr {m m' : MM} {F : Int → FnR} {n : Int} (h : BKm m F n) (g : ∀ c i, c = 606 ∨ (608 ≤ c ∧ c ≤ 609) ∨ (611 ≤ c ∧ c ≤ 617) ∨ c = 621 ∨ c = 622 → m' c i = m c i) : BKm m' F n := ⟨h.1, fun k k0 k1 => ⟨(h.2 k k0 k1).1, (h.2 k k0 k1).2.fr g⟩⟩
def rowM (m : MM) : Int → List R3 → Prop
  | _, [] => True
  | k, x :: l => r3M m 632 633 634 k x ∧ ok3 x ∧ rowM m (k + 1) l
theorem rowM.fr {m m' : MM} (g : ∀ c i, c = 632 ∨ c = 633 ∨ c = 634 → m' c i = m c i) : ∀ {l : List R3} {k : Int}, rowM m k l → rowM m' k l := by
  intro l
  induction l with
  | nil => intro k _; trivial
  | cons x l ih => intro k h; exact ⟨h.1.fr (fun c z => g _ _ (by omega)), h.2.1, ih h.2.2⟩
theorem rowM_ok {m : MM} : ∀ {l : List R3} {k : Int}, rowM m k l → ∀ x, x ∈ l → ok3 x := by
  intro l
  induction l with
  | nil => intro k _ x hx; cases hx
  | cons y l ih =>
    intro k h x hx
    rcases List.mem_cons.1 hx with e | e
    · rw [e]; exact h.2.1
    · exact ih h.2.2 x e
theorem ok3_bd {x : R3} (h : ok3 x) : RI (bM x.1) ∧ (-2 ≤ bM x.1 ∧ bM x.1 ≤ 10007) ∧ (0 ≤ x.2.1 ∧ x.2.1 ≤ 2) ∧ (0 ≤ x.2.2 ∧ x.2.2 ≤ 3) := by
  have b := bM_bd (ok3_b h)
  refine ⟨by constructor <;> omega, ⟨b.1, b.2.1⟩, ?_, ?_⟩
  · unfold ok3 at h; omega
  · unfold ok3 at h; omega
def isSm (o : Option R3) : Int := match o with
  | none => 0
  | some _ => 1
section BOOKM
variable {Q : Int → MM → Prop} {f : Int} {F : FnR}
theorem c_instanceM {m : MM} {k b d s : Int} {R : Option R3} (hf : 0 ≤ f ∧ f < 21) (ok : okF F) (hx : FXM m f F) (hk : -1 ≤ k ∧ k + 1 ≤ F.2.1) (hR : ∀ r, R = some r → ok3 r ∧ r.1 ≠ -2) (hn : R = none → F.2.2.1 = 0) (he : ∀ r, R = some r → b = bM r.1 ∧ d = r.2.1 ∧ s = r.2.2) (h : ∀ m', FMt m m' → (∀ c i, ¬ (c = 582 ∧ 70 ≤ i ∧ i ≤ 72) → m' c i = m c i) → (∀ z, instS F (k + 1) R = some z → m' 582 70 = bM z.1 ∧ m' 582 71 = z.2.1 ∧ m' 582 72 = z.2.2) → Q (isSm (instS F (k + 1) R)) m') : P_X10_instance f k b d s m Q := by
  have np := ok.1
  have o4 := ok.2.2.2.1 (k + 1) (by omega) hk.2
  have ob := ok3_bd o4.1
  -- the values
  have val : ∀ m' : MM, (∀ c i, ¬ (c = 582 ∧ 70 ≤ i ∧ i ≤ 72) → m' c i = m c i) → (if 0 ≤ k then m' 615 (3 * f + k) else m' 612 f) = bM (F.2.2.2.2.2.1 (k + 1)).1 ∧ (if 0 ≤ k then m' 616 (3 * f + k) else m' 613 f) = (F.2.2.2.2.2.1 (k + 1)).2.1 ∧ (if 0 ≤ k then m' 617 (3 * f + k) else m' 614 f) = (F.2.2.2.2.2.1 (k + 1)).2.2 ∧ (if 0 ≤ k then m' 622 (3 * f + k) else m' 621 f) = F.2.2.2.2.1 (k + 1) := by
    intro m' g
    by_cases c : 0 ≤ k
    · rw [if_pos c, if_pos c, if_pos c, if_pos c, g 615 _ (by omega), g 616 _ (by omega), g 617 _ (by omega), g 622 _ (by omega)]
      obtain ⟨-, a, b1, b2, b3⟩ := hx.2.2.2.2 (k + 1) (by omega) hk.2
      rw [show k + 1 - 1 = k by omega] at a b1 b2 b3
      exact ⟨b1, b2, b3, a⟩
    · have e : k + 1 = 0 := by omega
      rw [if_neg c, if_neg c, if_neg c, if_neg c, g 612 _ (by omega), g 613 _ (by omega), g 614 _ (by omega), g 621 _ (by omega), e]
      obtain ⟨a, b1, b2, b3⟩ := hx.2.2.2.1
      exact ⟨b1, b2, b3, a⟩
  have bnd : (RI k) ∧ (if 0 ≤ k then (0 ≤ 3 * f + k ∧ 3 * f + k < 63) else (0 ≤ f ∧ f < 21)) := ⟨by constructor <;> omega, by split <;> omega⟩
  unfold P_X10_instance
  refine ⟨bnd, ?_⟩
  rintro m1 rfl
  have v0 := val m (fun _ _ _ => rfl)
  rw [v0.1]
  refine ⟨bnd, ?_⟩
  rintro m2 rfl
  have v1 := val (up m 582 70 (bM (F.2.2.2.2.2.1 (k + 1)).1)) (fun c i z => up_ne (fun q => z ⟨q.1, by omega, by omega⟩))
  rw [v1.2.1]
  refine ⟨bnd, ?_⟩
  rintro m3 rfl
  have v2 := val (up (up m 582 70 (bM (F.2.2.2.2.2.1 (k + 1)).1)) 582 71 (F.2.2.2.2.2.1 (k + 1)).2.1) (fun c i z => by rw [up_ne (fun q => z ⟨q.1, by omega, by omega⟩), up_ne (fun q => z ⟨q.1, by omega, by omega⟩)])
  rw [v2.2.2.1]
  obtain ⟨m3, hm3⟩ : ∃ m3, m3 = up (up (up m 582 70 (bM (F.2.2.2.2.2.1 (k + 1)).1)) 582 71 (F.2.2.2.2.2.1 (k + 1)).2.1) 582 72 (F.2.2.2.2.2.1 (k + 1)).2.2 := ⟨_, rfl⟩
  rw [← hm3]
  have g3 : ∀ c i, ¬ (c = 582 ∧ 70 ≤ i ∧ i ≤ 72) → m3 c i = m c i := fun c i z => by rw [hm3, up_ne (fun q => z ⟨q.1, by omega, by omega⟩), up_ne (fun q => z ⟨q.1, by omega, by omega⟩), up_ne (fun q => z ⟨q.1, by omega, by omega⟩)]
  have v3 := val m3 g3
  have e70 : m3 582 70 = bM (F.2.2.2.2.2.1 (k + 1)).1 := by rw [hm3, up_neI (by decide), up_neI (by decide), up_at]
  have e71 : m3 582 71 = (F.2.2.2.2.2.1 (k + 1)).2.1 := by rw [hm3, up_neI (by decide), up_at]
  have e72 : m3 582 72 = (F.2.2.2.2.2.1 (k + 1)).2.2 := by rw [hm3, up_at]
  rw [v3.2.2.2, e70, e71, e72]
  have tmt : ∀ m' : MM, (∀ c i, ¬ (c = 582 ∧ 70 ≤ i ∧ i ≤ 72) → m' c i = m c i) → FMt m m' := fun m' g c i z => g c i (fun q => z ⟨q.1, Or.inr (Or.inl ⟨q.2.1, q.2.2⟩)⟩)
  refine ⟨bnd, by have := o4.2.1; constructor <;> omega, ?_⟩
  unfold instS at h
  by_cases c0 : F.2.2.2.2.1 (k + 1) = 0
  · rw [if_pos c0] at h ⊢
    refine ⟨ob.1, ?_⟩
    rw [if_neg (by omega)]
    exact h m3 (tmt m3 g3) g3 (fun z hz => by cases hz; exact ⟨e70, e71, e72⟩)
  rw [if_neg c0] at h ⊢
  rcases R with - | r
  · exact absurd (o4.2.2.2 (hn rfl)) c0
  obtain ⟨rfl, rfl, rfl⟩ := he r rfl
  have rb := ok3_bd (hR r rfl).1
  simp only at h
  refine ⟨⟨by constructor <;> omega, by
    split
    · trivial
    · refine ⟨by constructor <;> omega, ?_⟩
      split
      · trivial
      · refine ⟨by constructor <;> omega, ?_⟩
        split
        · constructor <;> omega
        · trivial⟩, ?_⟩
  rintro m4 rfl m5 rfl
  have e471 : up m3 582 70 (bM r.1) 582 71 = (F.2.2.2.2.2.1 (k + 1)).2.1 := by rw [up_neI (by decide)]; exact e71
  rw [e471]
  obtain ⟨m5, hm5⟩ : ∃ m5, m5 = up (up m3 582 70 (bM r.1)) 582 71 ((F.2.2.2.2.2.1 (k + 1)).2.1 + r.2.1) := ⟨_, rfl⟩
  rw [← hm5]
  have e572 : m5 582 72 = (F.2.2.2.2.2.1 (k + 1)).2.2 := by rw [hm5, up_neI (by decide), up_neI (by decide)]; exact e72
  have g5 : ∀ c i, ¬ (c = 582 ∧ 70 ≤ i ∧ i ≤ 72) → m5 c i = m c i := fun c i z => by rw [hm5, up_ne (fun q => z ⟨q.1, by omega, by omega⟩), up_ne (fun q => z ⟨q.1, by omega, by omega⟩)]; exact g3 c i z
  have e570 : m5 582 70 = bM r.1 := by rw [hm5, up_neI (by decide), up_at]
  have e571 : m5 582 71 = (F.2.2.2.2.2.1 (k + 1)).2.1 + r.2.1 := by rw [hm5, up_at]
  rw [e572]
  have gv : ∀ (P : Prop), ((¬ ((F.2.2.2.2.2.1 (k + 1)).2.1 = 0 ∧ (F.2.2.2.2.2.1 (k + 1)).2.2 = 0) ∧ r.2.2 ≠ 0) ∨ 2 < r.2.1 + (F.2.2.2.2.2.1 (k + 1)).2.1) → (if 2 < (F.2.2.2.2.2.1 (k + 1)).2.1 + r.2.1 then (0 : Int) else if r.2.2 = 0 then 1 else if (F.2.2.2.2.2.1 (k + 1)).2.1 = 0 then (if (F.2.2.2.2.2.1 (k + 1)).2.2 = 0 then 1 else 0) else 0) = 0 := by
    intro _ z
    by_cases c1 : 2 < (F.2.2.2.2.2.1 (k + 1)).2.1 + r.2.1
    · rw [if_pos c1]
    · rw [if_neg c1, if_neg (by omega)]
      by_cases c2 : (F.2.2.2.2.2.1 (k + 1)).2.1 = 0
      · rw [if_pos c2, if_neg (by omega)]
      · rw [if_neg c2]
  have gv1 : ¬ ((¬ ((F.2.2.2.2.2.1 (k + 1)).2.1 = 0 ∧ (F.2.2.2.2.2.1 (k + 1)).2.2 = 0) ∧ r.2.2 ≠ 0) ∨ 2 < r.2.1 + (F.2.2.2.2.2.1 (k + 1)).2.1) → (if 2 < (F.2.2.2.2.2.1 (k + 1)).2.1 + r.2.1 then (0 : Int) else if r.2.2 = 0 then 1 else if (F.2.2.2.2.2.1 (k + 1)).2.1 = 0 then (if (F.2.2.2.2.2.1 (k + 1)).2.2 = 0 then 1 else 0) else 0) = 1 := by
    intro z
    rw [if_neg (by omega)]
    by_cases c1 : r.2.2 = 0
    · rw [if_pos c1]
    · rw [if_neg c1, if_pos (by omega), if_pos (by omega)]
  have fin : ∀ (m6 : MM) (v : Int), (∀ c i, ¬ (c = 582 ∧ i = 72) → m6 c i = m5 c i) → m6 582 72 = (if (F.2.2.2.2.2.1 (k + 1)).2.2 ≤ 0 then r.2.2 else (F.2.2.2.2.2.1 (k + 1)).2.2) → v = (if 2 < (F.2.2.2.2.2.1 (k + 1)).2.1 + r.2.1 then (0 : Int) else if r.2.2 = 0 then 1 else if (F.2.2.2.2.2.1 (k + 1)).2.1 = 0 then (if (F.2.2.2.2.2.1 (k + 1)).2.2 = 0 then 1 else 0) else 0) → (v = 0 ∨ v = 1) ∧ Q v m6 := by
    intro m6 v g6 e6 hv
    have g6' : ∀ c i, ¬ (c = 582 ∧ 70 ≤ i ∧ i ≤ 72) → m6 c i = m c i := fun c i z => by rw [g6 c i (fun q => z ⟨q.1, by omega, by omega⟩)]; exact g5 c i z
    by_cases c : ((¬ ((F.2.2.2.2.2.1 (k + 1)).2.1 = 0 ∧ (F.2.2.2.2.2.1 (k + 1)).2.2 = 0) ∧ r.2.2 ≠ 0) ∨ 2 < r.2.1 + (F.2.2.2.2.2.1 (k + 1)).2.1)
    · rw [hv, gv True c]
      rw [if_pos c] at h
      exact ⟨Or.inl rfl, h m6 (tmt m6 g6') g6' (fun z hz => by cases hz)⟩
    · rw [hv, gv1 c]
      rw [if_neg c] at h
      refine ⟨Or.inr rfl, h m6 (tmt m6 g6') g6' (fun z hz => ?_)⟩
      cases hz
      refine ⟨by rw [g6 582 70 (by omega)]; exact e570, by rw [g6 582 71 (by omega), e571]; show (F.2.2.2.2.2.1 (k + 1)).2.1 + r.2.1 = r.2.1 + (F.2.2.2.2.2.1 (k + 1)).2.1; omega, ?_⟩
      rw [e6]
      by_cases cb : (F.2.2.2.2.2.1 (k + 1)).2.1 = 0 ∧ (F.2.2.2.2.2.1 (k + 1)).2.2 = 0
      · rw [if_pos cb, if_pos (by omega)]
      · rw [if_neg cb]
        by_cases c72 : (F.2.2.2.2.2.1 (k + 1)).2.2 ≤ 0
        · rw [if_pos c72]
          show r.2.2 = (F.2.2.2.2.2.1 (k + 1)).2.2
          omega
        · rw [if_neg c72]
  refine ⟨by constructor <;> omega, ?_⟩
  by_cases c72 : (F.2.2.2.2.2.1 (k + 1)).2.2 ≤ 0
  · rw [if_pos c72]
    rintro m6 rfl
    exact fin _ _ (fun c i z => up_ne z) (by rw [up_at, if_pos c72]) rfl
  · rw [if_neg c72]
    rintro m6 rfl
    exact fin _ _ (fun c i z => up_ne z) (by rw [up_at, if_neg c72]) rfl
theorem c_canBeM {m : MM} {r : R3} (hf : 0 ≤ f ∧ f < 21) (ok : okF F) (hx : FXM m f F) (hr : ok3 r) (h : ∀ m', FMt m m' → (∀ c i, ¬ (c = 582 ∧ 70 ≤ i ∧ i ≤ 72) → m' c i = m c i) → Q (canN F r) m') : P_X10_canBe f (bM r.1) r.2.1 r.2.2 m Q := by
  have np := ok.1
  have ru := ok.2.1
  have rb := ok3_bd hr
  have b3 := bM_bd (ok3_b hr)
  have h0 : ¬ canS F r → Q 0 m := fun q => by have := h m (FMt.refl m) (fun _ _ _ => rfl); rw [canN_0 q] at this; exact this
  refine ⟨rb.1, ?_⟩
  rw [if_neg (by omega)]
  by_cases rB : r.1 = -2
  · rw [if_pos (b3.2.2.1.2 rB)]
    exact h0 (fun q => q.1 rB)
  rw [if_neg (fun q => rB (b3.2.2.1.1 q)), hx.2.2.1]
  have okr : okb r.1 := by rcases hr with q | q; exact absurd q.1 rB; exact q.1
  have hR : ∀ x, some r = some x → ok3 x ∧ x.1 ≠ -2 := fun x q => by cases q; exact ⟨hr, rB⟩
  refine ⟨hf, by constructor <;> omega, ?_⟩
  have L : ¬ (F.2.2.1 = 2 ∧ r.2.2 ≠ 0) → ¬ (F.2.2.1 = 3 ∧ (r.2.1 ≠ 0 ∨ r.2.2 ≠ 0 ∨ ¬ isFb r.1)) → ∃ nn, P_X10_canBe_58 Q nn f (bM r.1) r.2.1 r.2.2 1 (-1) m := by
    intro g1 g2
    have L0 : (∃ j, 0 ≤ j ∧ j ≤ F.2.1 ∧ instS F j (some r) = none) → ∀ (n : Nat) (k : Int) (m1 : MM), -1 ≤ k → k + n = F.2.1 → (∀ c i, ¬ (c = 582 ∧ 70 ≤ i ∧ i ≤ 72) → m1 c i = m c i) → P_X10_canBe_58 Q (n + 1) f (bM r.1) r.2.1 r.2.2 0 k m1 := by
      intro hj n
      induction n with
      | zero =>
        intro k m1 k0 k1 g
        unfold P_X10_canBe_58
        rw [g 609 f (by omega), hx.2.1]
        refine ⟨hf, by constructor <;> omega, by constructor <;> omega, ?_⟩
        rw [if_pos (by omega)]
        have := h m1 (fun c i z => g c i (fun q => z ⟨q.1, Or.inr (Or.inl ⟨q.2.1, q.2.2⟩)⟩)) g
        rw [canN_0 (fun q => by obtain ⟨j, j0, j1, j2⟩ := hj; exact q.2.2.2 j j0 j1 j2)] at this
        exact ⟨Or.inl rfl, this⟩
      | succ n ih =>
        intro k m1 k0 k1 g
        unfold P_X10_canBe_58
        rw [g 609 f (by omega), hx.2.1]
        refine ⟨hf, by constructor <;> omega, by constructor <;> omega, ?_⟩
        rw [if_neg (by omega)]
        refine ⟨by decide, ?_⟩
        rw [if_pos rfl]
        exact ih (k + 1) m1 (by omega) (by omega) g
    have L1 : ∀ (n : Nat) (k : Int) (m1 : MM), -1 ≤ k → k + n = F.2.1 → (∀ c i, ¬ (c = 582 ∧ 70 ≤ i ∧ i ≤ 72) → m1 c i = m c i) → (∀ j, 0 ≤ j → j < k + 1 → instS F j (some r) ≠ none) → P_X10_canBe_58 Q (n + 1) f (bM r.1) r.2.1 r.2.2 1 k m1 := by
      intro n
      induction n with
      | zero =>
        intro k m1 k0 k1 g hj
        unfold P_X10_canBe_58
        rw [g 609 f (by omega), hx.2.1]
        refine ⟨hf, by constructor <;> omega, by constructor <;> omega, ?_⟩
        rw [if_pos (by omega)]
        have := h m1 (fun c i z => g c i (fun q => z ⟨q.1, Or.inr (Or.inl ⟨q.2.1, q.2.2⟩)⟩)) g
        rw [canN_1 ⟨rB, g1, g2, fun j j0 j1 => hj j j0 (by omega)⟩] at this
        exact ⟨Or.inr rfl, this⟩
      | succ n ih =>
        intro k m1 k0 k1 g hj
        unfold P_X10_canBe_58
        rw [g 609 f (by omega), hx.2.1]
        refine ⟨hf, by constructor <;> omega, by constructor <;> omega, ?_⟩
        rw [if_neg (by omega)]
        refine ⟨by decide, ?_⟩
        rw [if_neg (by decide)]
        refine c_instanceM (R := some r) hf ok (hx.fr (fun c i z => g c i (by omega))) ⟨k0, by omega⟩ hR (fun q => by cases q) (fun x q => by cases q; exact ⟨rfl, rfl, rfl⟩) (fun m2 _ g2 _ => ?_)
        have g2' : ∀ c i, ¬ (c = 582 ∧ 70 ≤ i ∧ i ≤ 72) → m2 c i = m c i := fun c i z => (g2 c i z).trans (g c i z)
        rcases hi : instS F (k + 1) (some r) with - | z
        · refine ⟨by decide, ?_⟩
          rw [if_pos (show isSm none = 0 from rfl)]
          exact L0 ⟨k + 1, by omega, by omega, hi⟩ n (k + 1) m2 (by omega) (by omega) g2'
        · rw [show isSm (some z) = 1 from rfl]
          refine ⟨by decide, ?_⟩
          rw [if_neg (show ¬ (1 : Int) = 0 by decide)]
          refine ih (k + 1) m2 (by omega) (by omega) g2' (fun j j0 j1 => ?_)
          by_cases e : j = k + 1
          · rw [e, hi]; intro q; cases q
          · exact hj j j0 (by omega)
    exact ⟨_, L1 (F.2.1 + 1).toNat (-1) m (by decide) (by omega) (fun _ _ _ => rfl) (fun j j0 j1 => by omega)⟩
  have l29 : ¬ (1 < F.2.2.1 ∧ r.2.2 ≠ 0) → P_X10_canBe_29 Q f (bM r.1) r.2.1 r.2.2 m := by
    intro g1
    unfold P_X10_canBe_29
    rw [hx.2.2.1]
    refine ⟨hf, by constructor <;> omega, ?_⟩
    by_cases c3 : F.2.2.1 = 3
    · rw [if_pos c3]
      refine ⟨by constructor <;> omega, ?_⟩
      by_cases d0 : 0 < r.2.1
      · rw [if_pos d0]; exact h0 (fun q => q.2.2.1 ⟨c3, Or.inl (by omega)⟩)
      rw [if_neg d0]
      refine c_isFieldM (Or.inl okr) ?_
      by_cases cf : isFb r.1
      · rw [fbN_1 cf]
        refine ⟨by decide, ?_⟩
        rw [if_neg (by decide)]
        exact L (fun q => g1 ⟨by omega, q.2⟩) (fun q => by rcases q.2 with w | w | w; omega; exact g1 ⟨by omega, w⟩; exact w cf)
      · rw [fbN_0 cf]
        refine ⟨by decide, ?_⟩
        rw [if_pos rfl]
        exact h0 (fun q => q.2.2.1 ⟨c3, Or.inr (Or.inr cf)⟩)
    · rw [if_neg c3]
      exact L (fun q => g1 ⟨by omega, q.2⟩) (fun q => c3 q.1)
  by_cases c1 : F.2.2.1 ≤ 1
  · rw [if_pos c1]; exact l29 (fun q => by omega)
  rw [if_neg c1]
  refine ⟨by constructor <;> omega, ?_⟩
  by_cases s0 : 0 < r.2.2
  · rw [if_pos s0]
    refine h0 (fun q => ?_)
    by_cases c2 : F.2.2.1 = 2
    · exact q.2.1 ⟨c2, by omega⟩
    · exact q.2.2.1 ⟨by omega, Or.inr (Or.inl (by omega))⟩
  · rw [if_neg s0]; exact l29 (fun q => by omega)
theorem foundS_eq {l : List R3} : ∀ acc, fndS F 1 none l = acc → foundS F l = match acc with
    | none => none
    | some r => @ite _ (canS F (fldQ F r)) (Classical.propDecidable _) (some (fldQ F r)) none := by
  intro acc h
  unfold foundS
  rw [h]
  rcases acc with - | r <;> rfl
/-- the cost, and the best so far -/
def K74 (m m1 : MM) : Prop := ∀ i, i = 74 ∨ 81 ≤ i ∧ i ≤ 83 → m1 582 i = m 582 i
theorem c_findRM {m : MM} {l : List R3} (hf : 0 ≤ f ∧ f < 21) (ok : okF F) (hx : FXM m f F) (hl : (l.length : Int) = F.2.1) (h73 : m 582 73 = F.2.1) (h75 : m 582 75 = -9) (hr : rowM m 0 l) (h : ∀ m', FMt m m' → K74 m m' → (∀ r, foundS F l = some r → m' 582 75 = bM r.1 ∧ m' 582 76 = r.2.1 ∧ m' 582 77 = r.2.2) → Q (isSm (foundS F l)) m') : P_X10_findR f m Q := by
  have np := ok.1
  have ru := ok.2.1
  have okl := rowM_ok hr
  obtain ⟨fd, hfdd⟩ : ∃ fd, fd = fndS F 1 none l := ⟨_, rfl⟩
  -- an end without one
  have bad : foundS F l = none → ∀ m', FMt m m' → K74 m m' → Q 0 m' := fun q m' g g4 => by have := h m' g g4 (fun r hr => by rw [q] at hr; cases hr); rw [q] at this; exact this
  have FR : ∀ (m1 : MM), FMt m m1 → FXM m1 f F ∧ rowM m1 0 l ∧ m1 582 73 = F.2.1 := fun m1 g => ⟨hx.fr (fun c i z => g c i (by omega)), hr.fr (fun c i z => g c i (by omega)), by rw [g 582 73 (by omega)]; exact h73⟩
  -- the end of the walk
  have l182 : ∀ (m1 : MM) (any : Int) (acc : Option R3), FMt m m1 → K74 m m1 → fd = acc → (acc = none ∧ any = 0 ∧ m1 582 75 = -9 ∨ acc = none ∧ any = 1 ∧ m1 582 75 = -2 ∧ RI (m1 582 76) ∧ RI (m1 582 77) ∨ any = 1 ∧ ∃ r, acc = some r ∧ ok3 r ∧ r.1 ≠ -2 ∧ m1 582 75 = bM r.1 ∧ m1 582 76 = r.2.1 ∧ m1 582 77 = r.2.2) → P_X10_findR_182 Q f any m1 := by
    intro m1 any acc g g4 hacc hs
    have hx1 := (FR m1 g).1
    have hfd := foundS_eq acc (hfdd.symm.trans hacc)
    unfold P_X10_findR_182
    rw [hx1.2.2.1]
    refine ⟨hf, by constructor <;> omega, ?_⟩
    rcases hs with ⟨ha, rfl, e75⟩ | ⟨ha, rfl, e75, r76, r77⟩ | ⟨rfl, r, ha, okr, rB, e75, e76, e77⟩
    · -- none was asked
      have fn : foundS F l = none := by rw [hfd, ha]
      have l218 : P_X10_findR_218 Q f 0 m1 := by
        refine ⟨by decide, ?_⟩
        rw [if_pos rfl]
        exact bad fn m1 g g4
      by_cases c3 : F.2.2.1 = 3
      · rw [if_pos c3, e75]
        refine ⟨by decide, ?_⟩
        rw [if_neg (by decide)]
        exact l218
      · rw [if_neg c3]; exact l218
    · have fn : foundS F l = none := by rw [hfd, ha]
      have l218 : P_X10_findR_218 Q f 1 m1 := by
        refine ⟨by decide, ?_⟩
        rw [if_neg (by decide), e75]
        refine ⟨by decide, ?_⟩
        rw [if_neg (by decide), if_pos rfl]
        refine ⟨by decide, ?_⟩
        rw [if_pos rfl]
        exact bad fn m1 g g4
      by_cases c3 : F.2.2.1 = 3
      · rw [if_pos c3, e75]
        refine ⟨by decide, ?_⟩
        rw [if_neg (by decide)]
        exact l218
      · rw [if_neg c3]; exact l218
    · have oq := fldQ_ok (f := F) ⟨okr, rB⟩
      rw [ha] at hfd
      simp only at hfd
      have l218 : ∀ (m2 : MM) (r' : R3), r' = fldQ F r → FMt m m2 → K74 m m2 → m2 582 75 = bM r'.1 → m2 582 76 = r'.2.1 → m2 582 77 = r'.2.2 → P_X10_findR_218 Q f 1 m2 := by
        intro m2 r' er g2 g24 y1 y2 y3
        refine ⟨by decide, ?_⟩
        rw [if_neg (by decide), y1, y2, y3]
        refine c_canBeM hf ok (FR m2 g2).1 (by rw [er]; exact oq.1) (fun m3 g3 gg3 => ?_)
        by_cases c : canS F (fldQ F r)
        · rw [er, canN_1 c]
          rw [if_pos c] at hfd
          refine ⟨by decide, ?_⟩
          rw [if_neg (by decide)]
          have := h m3 (g2.trans g3) (fun i z => by rw [gg3 582 i (by omega)]; exact g24 i z) (fun r2 hr2 => by
            rw [hfd] at hr2
            cases hr2
            rw [gg3 582 75 (by omega), gg3 582 76 (by omega), gg3 582 77 (by omega), y1, y2, y3, er]
            exact ⟨rfl, rfl, rfl⟩)
          rw [hfd] at this
          exact this
        · rw [er, canN_0 c]
          rw [if_neg c] at hfd
          refine ⟨by decide, ?_⟩
          rw [if_pos rfl]
          exact bad hfd m3 (g2.trans g3) (fun i z => by rw [gg3 582 i (by omega)]; exact g24 i z)
      have rb := ok3_bd okr
      have b3 := bM_bd (ok3_b okr)
      by_cases c3 : F.2.2.1 = 3
      · rw [if_pos c3, e75, e76, e77]
        refine ⟨rb.1, ?_⟩
        by_cases z0 : r = (0, 0, 0)
        · have q1 : bM r.1 = 0 := by rw [z0]; rfl
          have q2 : r.2.1 = 0 := by rw [z0]
          have q3 : r.2.2 = 0 := by rw [z0]
          rw [if_pos q1, q2, q3]
          refine ⟨by decide, ?_⟩
          rw [if_pos rfl]
          refine ⟨by decide, ?_⟩
          rw [if_pos rfl]
          rintro m2 rfl
          refine l218 _ (1, 0, 0) (by unfold fldQ; rw [if_pos ⟨c3, z0⟩]) (fun c i z => by rw [up_ne (fun q => z ⟨q.1, by omega⟩)]; exact g c i z) (fun i z => by rw [up_neI (by omega)]; exact g4 i z) (up_at ..) (by rw [up_neI (by decide), e76]; exact q2) (by rw [up_neI (by decide), e77]; exact q3)
        · have same : P_X10_findR_218 Q f 1 m1 := l218 m1 r (by unfold fldQ; rw [if_neg (fun w => z0 w.2)]) g g4 e75 e76 e77
          by_cases q1 : bM r.1 = 0
          · rw [if_pos q1]
            refine ⟨by constructor <;> omega, ?_⟩
            by_cases q2 : r.2.1 = 0
            · rw [if_pos q2]
              refine ⟨by constructor <;> omega, ?_⟩
              by_cases q3 : r.2.2 = 0
              · exact absurd (Prod.ext (b3.2.2.2.1.1 q1) (Prod.ext q2 q3)) z0
              · rw [if_neg q3]; exact same
            · rw [if_neg q2]; exact same
          · rw [if_neg q1]; exact same
      · rw [if_neg c3]
        exact l218 m1 r (by unfold fldQ; rw [if_neg (fun w => c3 w.1)]) g g4 e75 e76 e77
  -- what is asked of one
  have ask : ∀ (m1 : MM) (k : Int) (x : R3), FMt m m1 → 0 ≤ k → k < F.2.1 → r3M m1 632 633 634 k x → ok3 x → m1 622 (3 * f + k) = F.2.2.2.2.1 (k + 1) ∧ (F.2.2.2.2.1 (k + 1) = 0 ∨ F.2.2.2.2.1 (k + 1) = 1) ∧ m1 616 (3 * f + k) = (F.2.2.2.2.2.1 (k + 1)).2.1 ∧ m1 617 (3 * f + k) = (F.2.2.2.2.2.1 (k + 1)).2.2 ∧ (0 ≤ (F.2.2.2.2.2.1 (k + 1)).2.1 ∧ (F.2.2.2.2.2.1 (k + 1)).2.1 ≤ 2) ∧ (0 ≤ (F.2.2.2.2.2.1 (k + 1)).2.2 ∧ (F.2.2.2.2.2.1 (k + 1)).2.2 ≤ 3) ∧ (if 0 < (F.2.2.2.2.2.1 (k + 1)).2.1 then (0 : Int) else if (F.2.2.2.2.2.1 (k + 1)).2.2 ≤ 0 then x.2.2 else 0) = (askS F (k + 1) x).2.2 := by
    intro m1 k x g k0 k1 hx1 okx
    have hx' := (FR m1 g).1
    obtain ⟨-, a, b1, b2, b3⟩ := hx'.2.2.2.2 (k + 1) (by omega) (by omega)
    rw [show k + 1 - 1 = k by omega] at a b1 b2 b3
    have o4 := ok.2.2.2.1 (k + 1) (by omega) (by omega)
    have ob := ok3_bd o4.1
    refine ⟨a, o4.2.1, b2, b3, ob.2.2.1, ob.2.2.2, ?_⟩
    unfold askS
    simp only
    by_cases c1 : 0 < (F.2.2.2.2.2.1 (k + 1)).2.1
    · rw [if_pos c1, if_neg (by omega)]
    · rw [if_neg c1]
      by_cases c2 : (F.2.2.2.2.2.1 (k + 1)).2.2 ≤ 0
      · rw [if_pos c2, if_pos (by omega)]
      · rw [if_neg c2, if_neg (by omega)]
  have dead : fd = none → foundS F l = none := fun q => by unfold foundS; rw [← hfdd, q]
  have L0 : fd = none → ∀ (l' : List R3) (k : Int) (m1 : MM), 0 ≤ k → k + (l'.length : Int) = F.2.1 → rowM m k l' → FMt m m1 → K74 m m1 → m1 582 75 = -2 → RI (m1 582 76) → RI (m1 582 77) → P_X10_findR_4 Q (l'.length + 1) f 1 k m1 := by
    intro hfn l'
    induction l' with
    | nil =>
      intro k m1 k0 k1 _ g g4 e75 r76 r77
      have k1' : k + 0 = F.2.1 := k1
      unfold P_X10_findR_4
      rw [(FR m1 g).2.2]
      refine ⟨by constructor <;> omega, by constructor <;> omega, ?_⟩
      rw [if_pos (by omega)]
      exact l182 m1 1 none g g4 hfn (Or.inr (Or.inl ⟨rfl, rfl, e75, r76, r77⟩))
    | cons x l' ih =>
      intro k m1 k0 k1 hr' g g4 e75 r76 r77
      rw [show ((x :: l').length : Int) = (l'.length : Int) + 1 from rfl] at k1
      obtain ⟨hx0, okx, hr''⟩ := hr'
      have hx1 : r3M m1 632 633 634 k x := hx0.fr (fun c z => g c k (by omega))
      obtain ⟨q1, q2, q3, q4, q5, q6, q7⟩ := ask m1 k x g k0 (by omega) hx1 okx
      have ob := ok3_bd okx
      show P_X10_findR_4 Q (l'.length + 1 + 1) f 1 k m1
      unfold P_X10_findR_4
      rw [(FR m1 g).2.2, q1, q3, hx1.2.1]
      refine ⟨by constructor <;> omega, by constructor <;> omega, ?_⟩
      rw [if_neg (by omega)]
      refine ⟨by omega, by constructor <;> omega, ?_⟩
      by_cases c0 : F.2.2.2.2.1 (k + 1) = 0
      · rw [if_pos c0]
        exact ih (k + 1) m1 (by omega) (by omega) hr'' g g4 e75 r76 r77
      rw [if_neg c0]
      refine ⟨by omega, c_max (by decide) (by constructor <;> omega) ?_⟩
      rw [q3, q4, hx1.2.2, q7, hx1.1, e75]
      refine ⟨⟨by constructor <;> omega, by split; trivial; constructor <;> omega⟩, by decide, ?_⟩
      rw [if_neg (by decide)]
      have qa : RI (askS F (k + 1) x).2.2 := by unfold askS; simp only; split <;> (constructor <;> omega)
      refine c_joins0 (by decide) r76 r77 ob.1 (by constructor <;> omega) qa (fun _ => ?_) (fun _ => ?_)
      · refine ⟨by decide, ?_⟩
        rw [if_neg (by decide)]
        refine ⟨⟨by decide, by rw [if_neg (by decide)]; trivial⟩, ?_⟩
        rintro m2 rfl
        refine ⟨by decide, ?_⟩
        rintro m3 rfl
        refine ⟨by decide, ?_⟩
        rintro m4 rfl
        rw [if_neg (show ¬ (1 : Int) = 0 by decide), if_neg (show ¬ (1 : Int) = 0 by decide), if_neg (show ¬ (1 : Int) = 0 by decide)]
        refine ih (k + 1) _ (by omega) (by omega) hr'' (fun c i z => by rw [up_ne (fun q => z ⟨q.1, by omega⟩), up_ne (fun q => z ⟨q.1, by omega⟩), up_ne (fun q => z ⟨q.1, by omega⟩), jm_o (fun q => z ⟨q.1, by omega⟩)]; exact g c i z) (fun i z => by rw [up_neI (by omega), up_neI (by omega), up_neI (by omega), jm_o (by omega)]; exact g4 i z) ?_ ?_ ?_
        · rw [up_neI (by decide), up_neI (by decide), up_at, jm_65]
          rfl
        · rw [up_neI (by decide), up_at, up_neI (by decide), jm_66]
          constructor <;> omega
        · rw [up_at, up_neI (by decide), up_neI (by decide), jm_67]
          constructor <;> omega
      · refine ⟨by decide, ?_⟩
        rw [if_pos rfl]
        exact bad (dead hfn) _ (fun c i z => by rw [jm_o (fun q => z ⟨q.1, by omega⟩)]; exact g c i z) (fun i z => by rw [jm_o (by omega)]; exact g4 i z)
  have L : ∀ (l' : List R3) (k : Int) (m1 : MM) (any : Int) (acc : Option R3), 0 ≤ k → k + (l'.length : Int) = F.2.1 → rowM m k l' → FMt m m1 → K74 m m1 → fd = fndS F (k + 1) acc l' → (acc = none ∧ any = 0 ∧ m1 582 75 = -9 ∨ any = 1 ∧ ∃ r, acc = some r ∧ ok3 r ∧ r.1 ≠ -2 ∧ m1 582 75 = bM r.1 ∧ m1 582 76 = r.2.1 ∧ m1 582 77 = r.2.2) → P_X10_findR_4 Q (l'.length + 1) f any k m1 := by
    intro l'
    induction l' with
    | nil =>
      intro k m1 any acc k0 k1 _ g g4 hfn hs
      have k1' : k + 0 = F.2.1 := k1
      unfold P_X10_findR_4
      rw [(FR m1 g).2.2]
      refine ⟨by constructor <;> omega, by constructor <;> omega, ?_⟩
      rw [if_pos (by omega)]
      refine l182 m1 any acc g g4 hfn ?_
      rcases hs with q | q
      · exact Or.inl q
      · exact Or.inr (Or.inr q)
    | cons x l' ih =>
      intro k m1 any acc k0 k1 hr' g g4 hfn hs
      rw [show ((x :: l').length : Int) = (l'.length : Int) + 1 from rfl] at k1
      obtain ⟨hx0, okx, hr''⟩ := hr'
      have hx1 : r3M m1 632 633 634 k x := hx0.fr (fun c z => g c k (by omega))
      obtain ⟨q1, q2, q3, q4, q5, q6, q7⟩ := ask m1 k x g k0 (by omega) hx1 okx
      have ob := ok3_bd okx
      have b3 := bM_bd (ok3_b okx)
      have ran : RI any := by rcases hs with q | q <;> (constructor <;> omega)
      show P_X10_findR_4 Q (l'.length + 1 + 1) f any k m1
      unfold P_X10_findR_4
      rw [(FR m1 g).2.2, q1, q3, hx1.2.1]
      refine ⟨by constructor <;> omega, by constructor <;> omega, ?_⟩
      rw [if_neg (by omega)]
      refine ⟨by omega, by constructor <;> omega, ?_⟩
      unfold fndS at hfn
      by_cases c0 : F.2.2.2.2.1 (k + 1) = 0
      · rw [if_pos c0] at hfn ⊢
        exact ih (k + 1) m1 any acc (by omega) (by omega) hr'' g g4 hfn hs
      rw [if_neg c0] at hfn ⊢
      refine ⟨by omega, c_max (by decide) (by constructor <;> omega) ?_⟩
      rw [q3, q4, hx1.2.2, q7, hx1.1]
      have qa : RI (askS F (k + 1) x).2.2 := by unfold askS; simp only; split <;> (constructor <;> omega)
      refine ⟨⟨by constructor <;> omega, by split; trivial; constructor <;> omega⟩, ran, ?_⟩
      rcases hs with ⟨rfl, rfl, e75⟩ | ⟨rfl, r, rfl, okr, rB, e75, e76, e77⟩
      · rw [if_pos rfl]
        refine ⟨⟨by decide, by rw [if_pos rfl]; omega⟩, ?_⟩
        rintro m2 rfl
        refine ⟨by decide, ?_⟩
        rintro m3 rfl
        refine ⟨by decide, ?_⟩
        rintro m4 rfl
        rw [if_pos (show (0 : Int) = 0 from rfl), if_pos (show (0 : Int) = 0 from rfl), if_pos (show (0 : Int) = 0 from rfl), hx1.1]
        obtain ⟨m4, hm4⟩ : ∃ m4, m4 = up (up (up m1 582 75 (bM x.1)) 582 76 (max 0 (x.2.1 - (F.2.2.2.2.2.1 (k + 1)).2.1))) 582 77 (askS F (k + 1) x).2.2 := ⟨_, rfl⟩
        rw [← hm4]
        have g' : FMt m m4 := fun c i z => by rw [hm4, up_ne (fun q => z ⟨q.1, by omega⟩), up_ne (fun q => z ⟨q.1, by omega⟩), up_ne (fun q => z ⟨q.1, by omega⟩)]; exact g c i z
        have g4' : K74 m m4 := fun i z => by rw [hm4, up_neI (by omega), up_neI (by omega), up_neI (by omega)]; exact g4 i z
        have z5 : m4 582 75 = bM x.1 := by rw [hm4, up_neI (by decide), up_neI (by decide), up_at]
        have z6 : m4 582 76 = max 0 (x.2.1 - (F.2.2.2.2.2.1 (k + 1)).2.1) := by rw [hm4, up_neI (by decide), up_at]
        have z7 : m4 582 77 = (askS F (k + 1) x).2.2 := by rw [hm4, up_at]
        by_cases xB : x.1 = -2
        · rw [if_pos xB] at hfn
          exact L0 hfn l' (k + 1) m4 (by omega) (by omega) hr'' g' g4' (by rw [z5]; exact b3.2.2.1.2 xB) (by rw [z6]; constructor <;> omega) (by rw [z7]; exact qa)
        · rw [if_neg xB] at hfn
          simp only at hfn
          have ao := askS_ok ok ⟨by omega, by omega⟩ okx xB (k := k + 1)
          exact ih (k + 1) m4 1 (some (askS F (k + 1) x)) (by omega) (by omega) hr'' g' g4' hfn (Or.inr ⟨rfl, _, rfl, ao.1, ao.2, z5, z6, z7⟩)
      · rw [if_neg (by decide), e75, e76, e77]
        have rb := ok3_bd okr
        have rb3 := bM_bd (ok3_b okr)
        by_cases xB : x.1 = -2
        · rw [if_pos xB] at hfn
          refine c_joins0 rb.1 (by constructor <;> omega) (by constructor <;> omega) ob.1 (by constructor <;> omega) qa (fun j => ?_) (fun _ => ?_)
          · exfalso
            have j3 := j.2.2.1
            have x2 := b3.2.2.1.2 xB
            have r2 : bM r.1 ≠ -2 := fun q => rB (rb3.2.2.1.1 q)
            omega
          · refine ⟨by decide, ?_⟩
            rw [if_pos rfl]
            exact bad (dead hfn) _ (fun c i z => by rw [jm_o (fun q => z ⟨q.1, by omega⟩)]; exact g c i z) (fun i z => by rw [jm_o (by omega)]; exact g4 i z)
        · rw [if_neg xB] at hfn
          simp only at hfn
          have ao := askS_ok ok ⟨by omega, by omega⟩ okx xB (k := k + 1)
          refine c_joins (x := r) (y := askS F (k + 1) x) okr ao.1 ?_
          rcases hj : jn r (askS F (k + 1) x) with - | j
          · rw [hj] at hfn
            refine ⟨by decide, ?_⟩
            rw [if_pos (show (if (none : Option R3).isSome = true then (1 : Int) else 0) = 0 from rfl)]
            exact bad (dead hfn) _ (fun c i z => by rw [jm_o (fun q => z ⟨q.1, by omega⟩)]; exact g c i z) (fun i z => by rw [jm_o (by omega)]; exact g4 i z)
          · rw [hj] at hfn
            have oj := jn_ok okr ao.1 hj
            have jB := jn_nB rB hj
            have jv := jn_vals okr ao.1 hj
            rw [show (if (some j).isSome = true then (1 : Int) else 0) = 1 from rfl]
            refine ⟨by decide, ?_⟩
            rw [if_neg (show ¬ (1 : Int) = 0 by decide)]
            refine ⟨⟨by decide, by rw [if_neg (by decide)]; trivial⟩, ?_⟩
            rintro m2 rfl
            refine ⟨by decide, ?_⟩
            rintro m3 rfl
            refine ⟨by decide, ?_⟩
            rintro m4 rfl
            rw [if_neg (show ¬ (1 : Int) = 0 by decide), if_neg (show ¬ (1 : Int) = 0 by decide), if_neg (show ¬ (1 : Int) = 0 by decide)]
            refine ih (k + 1) _ 1 (some j) (by omega) (by omega) hr'' (fun c i z => by rw [up_ne (fun q => z ⟨q.1, by omega⟩), up_ne (fun q => z ⟨q.1, by omega⟩), up_ne (fun q => z ⟨q.1, by omega⟩), jm_o (fun q => z ⟨q.1, by omega⟩)]; exact g c i z) (fun i z => by rw [up_neI (by omega), up_neI (by omega), up_neI (by omega), jm_o (by omega)]; exact g4 i z) hfn (Or.inr ⟨rfl, j, rfl, oj, jB, ?_, ?_, ?_⟩)
            · rw [up_neI (by decide), up_neI (by decide), up_at, jm_65]
              exact jv.1
            · rw [up_neI (by decide), up_at, up_neI (by decide), jm_66]
              exact jv.2.1
            · rw [up_at, up_neI (by decide), up_neI (by decide), jm_67]
              exact jv.2.2
  exact ⟨_, L l 0 m 0 none (by decide) (by omega) hr (FMt.refl m) (fun _ _ => rfl) hfdd (Or.inl ⟨rfl, rfl, h75⟩)⟩
/-- whether a function can be meant -/
theorem c_isMeantM {m : MM} {l : List R3} (hf : 0 ≤ f ∧ f < 21) (ok : okF F) (hx : FXM m f F) (h73 : m 582 73 = (l.length : Int)) (hl : l.length ≤ 100000) (hr : l.length ≤ 3 → rowM m 0 l) (h : ∀ m', FMt m m' → (∀ i, 81 ≤ i → i ≤ 83 → m' 582 i = m 582 i) → (∀ p R, candS F l = some (p, R) → m' 582 74 = p ∧ ∀ r, R = some r → m' 582 75 = bM r.1 ∧ m' 582 76 = r.2.1 ∧ m' 582 77 = r.2.2) → Q (if candS F l = none then 0 else 1) m') : P_X10_isMeant f m Q := by
  have np := ok.1
  have ru := ok.2.1
  rintro m1 rfl m2 rfl m3 rfl
  obtain ⟨m3, hm3⟩ : ∃ m3, m3 = up (up (up m 582 75 (-9)) 582 76 0) 582 77 0 := ⟨_, rfl⟩
  rw [← hm3]
  have g3 : ∀ c i, ¬ (c = 582 ∧ 75 ≤ i ∧ i ≤ 77) → m3 c i = m c i := fun c i z => by rw [hm3, up_ne (fun q => z ⟨q.1, by omega, by omega⟩), up_ne (fun q => z ⟨q.1, by omega, by omega⟩), up_ne (fun q => z ⟨q.1, by omega, by omega⟩)]
  have f3 : FMt m m3 := fun c i z => g3 c i (fun q => z ⟨q.1, by omega⟩)
  have e75 : m3 582 75 = -9 := by rw [hm3, up_neI (by decide), up_neI (by decide), up_at]
  have hx3 : FXM m3 f F := hx.fr (fun c i z => g3 c i (by omega))
  have e73 : m3 582 73 = (l.length : Int) := by rw [g3 582 73 (by omega)]; exact h73
  rw [hx3.2.1, e73, hx3.2.2.1]
  refine ⟨hf, by constructor <;> omega, by constructor <;> omega, ?_⟩
  have bad : candS F l = none → ∀ m', FMt m m' → (∀ i, 81 ≤ i → i ≤ 83 → m' 582 i = m 582 i) → Q 0 m' := fun q m' g gg => by have := h m' g gg (fun p R hp => by rw [q] at hp; cases hp); rw [if_pos q] at this; exact this
  have e81 : ∀ i, 81 ≤ i → i ≤ 83 → m3 582 i = m 582 i := fun i i0 i1 => g3 582 i (by omega)
  by_cases c1 : F.2.1 = (l.length : Int)
  · rw [if_pos c1]
    refine ⟨by constructor <;> omega, ?_⟩
    have hr0 := hr (by omega)
    have okl := rowM_ok hr0
    -- what it costs
    have l50 : ∀ (m4 : MM) (R : Option R3), FMt m m4 → (∀ i, 81 ≤ i → i ≤ 83 → m4 582 i = m 582 i) → (∀ r, R = some r → ok3 r ∧ r.1 ≠ -2) → (R = none → F.2.2.1 = 0) → (∀ r, R = some r → m4 582 75 = bM r.1 ∧ m4 582 76 = r.2.1 ∧ m4 582 77 = r.2.2) → (∀ p, prcS F R 1 0 l = some p → candS F l = some (p, R)) → (prcS F R 1 0 l = none → candS F l = none) → P_X10_isMeant_50 Q f m4 := by
      intro m4 R g4 gg4 hR hn he hp1 hp0
      rintro m5 rfl
      have g5 : FMt m (up m4 582 74 0) := fun c i z => by rw [up_ne (fun q => z ⟨q.1, by omega⟩)]; exact g4 c i z
      obtain ⟨fd, hfd⟩ : ∃ fd, fd = prcS F R 1 0 l := ⟨_, rfl⟩
      have L : ∀ (l' : List R3) (k acc : Int) (m6 : MM), 0 ≤ k → k + (l'.length : Int) = F.2.1 → rowM m k l' → FMt m m6 → (∀ i, 81 ≤ i → i ≤ 83 → m6 582 i = m 582 i) → (∀ r, R = some r → m6 582 75 = bM r.1 ∧ m6 582 76 = r.2.1 ∧ m6 582 77 = r.2.2) → m6 582 74 = acc → fd = prcS F R (k + 1) acc l' → P_X10_isMeant_57 Q (l'.length + 1) f k m6 := by
        intro l'
        induction l' with
        | nil =>
          intro k acc m6 k0 k1 _ g6 gg6 he6 e74 e
          have k1' : k + 0 = F.2.1 := k1
          unfold P_X10_isMeant_57
          rw [g6 582 73 (by omega), h73]
          refine ⟨by constructor <;> omega, by constructor <;> omega, ?_⟩
          rw [if_pos (by omega)]
          have hc := hp1 acc (by rw [← hfd]; exact e)
          have := h m6 g6 gg6 (fun p R' hp => by rw [hc] at hp; cases hp; exact ⟨e74, he6⟩)
          rw [hc, if_neg (fun q => by cases q)] at this
          exact this
        | cons x l' ih =>
          intro k acc m6 k0 k1 hr' g6 gg6 he6 e74 e
          rw [show ((x :: l').length : Int) = (l'.length : Int) + 1 from rfl] at k1
          obtain ⟨hx0, okx, hr''⟩ := hr'
          have ob := ok3_bd okx
          show P_X10_isMeant_57 Q (l'.length + 1 + 1) f k m6
          unfold P_X10_isMeant_57
          rw [g6 582 73 (by omega), h73]
          refine ⟨by constructor <;> omega, by constructor <;> omega, ?_⟩
          rw [if_neg (by omega)]
          unfold prcS at e
          refine c_instanceM hf ok (hx.fr (fun c i z => g6 c i (by omega))) ⟨by omega, by omega⟩ hR hn he6 (fun m7 g7 gg7 v7 => ?_)
          have g7' := g6.trans g7
          rcases hz : instS F (k + 1) R with - | z
          · rw [hz] at e
            refine ⟨by decide, ?_⟩
            rw [if_pos (show isSm none = 0 from rfl)]
            exact bad (hp0 (by rw [← hfd]; exact e)) m7 g7' (fun i i0 i1 => by rw [gg7 582 i (by omega)]; exact gg6 i i0 i1)
          · rw [hz] at e
            simp only at e
            obtain ⟨v1, v2, v3⟩ := v7 z hz
            have oz := instS_ok ok ⟨by omega, by omega⟩ hR hz
            have hx7 : r3M m7 632 633 634 k x := hx0.fr (fun c z => g7' c k (by omega))
            rw [show isSm (some z) = 1 from rfl]
            refine ⟨by decide, ?_⟩
            rw [if_neg (show ¬ (1 : Int) = 0 by decide), hx7.1, hx7.2.1, hx7.2.2, v1, v2, v3]
            refine ⟨by omega, c_goesM okx oz ?_⟩
            have g8 : FMt m (jm m7 (bM x.1) x.2.1 x.2.2 (bM z.1) z.2.1 z.2.2) := fun c i z' => by rw [jm_o (fun q => z' ⟨q.1, by omega⟩)]; exact g7' c i z'
            have gg8 : ∀ i, 81 ≤ i → i ≤ 83 → jm m7 (bM x.1) x.2.1 x.2.2 (bM z.1) z.2.1 z.2.2 582 i = m 582 i := fun i i0 i1 => by rw [jm_o (by omega), gg7 582 i (by omega)]; exact gg6 i i0 i1
            by_cases hg : jn x z = some z
            · rw [if_pos hg] at e ⊢
              refine ⟨by decide, ?_⟩
              rw [if_neg (by decide)]
              have oz' := ok3_bd oz
              rw [jm_o (by omega), jm_o (by omega), jm_o (by omega), jm_o (by omega), jm_o (by omega), jm_o (by omega), jm_o (by omega), hx7.1, hx7.2.1, hx7.2.2, v1, v2, v3]
              refine ⟨⟨ob.1, oz'.1⟩, ⟨by constructor <;> omega, by constructor <;> omega⟩, ?_⟩
              rintro m9 rfl
              have e74' : m7 582 74 = acc := by rw [gg7 582 74 (by omega)]; exact e74
              refine ih (k + 1) (acc + price3 x z) _ (by omega) (by omega) hr'' (fun c i z' => by rw [up_ne (fun q => z' ⟨q.1, by omega⟩)]; exact g8 c i z') (fun i i0 i1 => by rw [up_neI (by omega)]; exact gg8 i i0 i1) (fun r hr => by rw [up_neI (by decide), up_neI (by decide), up_neI (by decide), jm_o (by decide), jm_o (by decide), jm_o (by decide), gg7 582 75 (by omega), gg7 582 76 (by omega), gg7 582 77 (by omega)]; exact he6 r hr) ?_ e
              rw [up_at, e74']
              unfold price3
              have bi := bM_inj (ok3_b okx) (ok3_b oz)
              by_cases b1 : x.1 = z.1
              · rw [if_pos (bi.2 b1), if_pos b1]
              · rw [if_neg (fun q => b1 (bi.1 q)), if_neg b1]
            · rw [if_neg hg] at e ⊢
              refine ⟨by decide, ?_⟩
              rw [if_pos rfl]
              exact bad (hp0 (by rw [← hfd]; exact e)) _ g8 gg8
      exact ⟨_, L l 0 0 _ (by decide) (by omega) hr0 g5 (fun i i0 i1 => by rw [up_neI (by omega)]; exact gg4 i i0 i1) (fun r hr => by rw [up_neI (by decide), up_neI (by decide), up_neI (by decide)]; exact he r hr) (up_at ..) hfd⟩
    by_cases c3 : F.2.2.1 ≤ 0
    · rw [if_pos c3]
      have c0 : F.2.2.1 = 0 := by omega
      refine l50 m3 none f3 e81 (fun r hr => by cases hr) (fun _ => c0) (fun r hr => by cases hr) (fun p hp => ?_) (fun hp => ?_)
      · unfold candS
        rw [if_neg (by omega), if_pos c0, hp]
      · unfold candS
        rw [if_neg (by omega), if_pos c0, hp]
    · rw [if_neg c3]
      have c0 : ¬ F.2.2.1 = 0 := by omega
      refine c_findRM (l := l) hf ok hx3 c1.symm (e73.trans c1.symm) e75 (hr0.fr (fun c i z => g3 c i (by omega))) (fun m4 g4 e474 v4 => ?_)
      have g4' := f3.trans g4
      have gg4 : ∀ i, 81 ≤ i → i ≤ 83 → m4 582 i = m 582 i := fun i i0 i1 => by rw [e474 i (by omega)]; exact e81 i i0 i1
      rcases hfd : foundS F l with - | r
      · refine ⟨by decide, ?_⟩
        rw [if_pos (show isSm none = 0 from rfl)]
        refine bad ?_ m4 g4' gg4
        unfold candS
        rw [if_neg (by omega), if_neg c0, hfd]
      · rw [show isSm (some r) = 1 from rfl]
        refine ⟨by decide, ?_⟩
        rw [if_neg (show ¬ (1 : Int) = 0 by decide)]
        refine l50 m4 (some r) g4' gg4 (fun x hx => by cases hx; exact foundS_ok ok c1.symm okl hfd) (fun q => by cases q) (fun x hx => by cases hx; exact v4 r hfd) (fun p hp => ?_) (fun hp => ?_)
        · unfold candS
          rw [if_neg (by omega), if_neg c0, hfd]
          simp only
          rw [hp]
        · unfold candS
          rw [if_neg (by omega), if_neg c0, hfd]
          simp only
          rw [hp]
  · rw [if_neg c1]
    refine bad ?_ m3 f3 e81
    unfold candS
    rw [if_pos c1]
/-- whom a call means -/
theorem c_meantM {m : MM} {G : Int → FnR} {w n : Int} {l : List R3} (hB : BKm m G n) (hw : RL w) (h73 : m 582 73 = (l.length : Int)) (hl : l.length ≤ 100000) (okl : ∀ x, x ∈ l → ok3 x) (hr : l.length ≤ 3 → rowM m 0 l) (h : ∀ m', FMt m m' → (∀ j p R, bestS G w l n.toNat = some (j, p, R) → ∀ r, R = some r → m' 582 81 = bM r.1 ∧ m' 582 82 = r.2.1 ∧ m' 582 83 = r.2.2) → Q (encB (bestS G w l n.toNat)) m') : P_X10_meantOf w n m Q := by
  obtain ⟨hn, hF⟩ := hB
  have L : ∀ (r : Nat) (k : Nat) (x4 x5 : Int) (m1 : MM), (k : Int) + (r : Int) = n → FMt m m1 → (bestS G w l k = none → x4 = -1) → (∀ j p R, bestS G w l k = some (j, p, R) → x4 = j ∧ x5 = p ∧ ∀ r, R = some r → m1 582 81 = bM r.1 ∧ m1 582 82 = r.2.1 ∧ m1 582 83 = r.2.2) → P_X10_meantOf_9 Q (r + 1) w n x4 x5 (k : Int) m1 := by
    intro r
    induction r with
    | zero =>
      intro k x4 x5 m1 k1 f1 h1 h2
      unfold P_X10_meantOf_9
      refine ⟨by constructor <;> omega, by constructor <;> omega, ?_⟩
      rw [if_pos (by omega)]
      have e : n.toNat = k := by omega
      rw [e] at h
      have := h m1 f1 (fun j p R q => (h2 j p R q).2.2)
      rcases hb : bestS G w l k with - | ⟨j, p, R⟩
      · rw [hb] at this
        rw [h1 hb]
        exact this
      · rw [hb] at this
        rw [(h2 j p R hb).1]
        exact this
    | succ r ih =>
      intro k x4 x5 m1 k1 f1 h1 h2
      have hk := hF (k : Int) (by omega) (by omega)
      have hx : FXM m1 (k : Int) (G k) := hk.2.fr (fun c i z => f1 c i (by omega))
      have np := hk.1.1
      have ru := hk.1.2.1
      have skip : ∀ m2, FMt m m2 → (∀ i, 81 ≤ i → i ≤ 83 → m2 582 i = m1 582 i) → bestS G w l (k + 1) = bestS G w l k → P_X10_meantOf_9 Q (r + 1) w n x4 x5 ((k : Int) + 1) m2 := fun m2 g2 gg2 e => ih (k + 1) x4 x5 m2 (by omega) g2 (fun q => h1 (by rw [← e]; exact q)) (fun j p R q => by
        obtain ⟨a1, a2, a3⟩ := h2 j p R (by rw [← e]; exact q)
        refine ⟨a1, a2, fun r hr => ?_⟩
        rw [gg2 81 (by omega) (by omega), gg2 82 (by omega) (by omega), gg2 83 (by omega) (by omega)]
        exact a3 r hr)
      unfold P_X10_meantOf_9
      refine ⟨by constructor <;> omega, by constructor <;> omega, ?_⟩
      rw [if_neg (by omega), hx.1]
      refine ⟨by omega, hk.1.2.2.1, hw, ?_⟩
      by_cases c1 : (G k).1 = w
      · rw [if_pos c1]
        have best : bestS G w l (k + 1) = bettS G k (bestS G w l k) (candS (G k) l) := by
          show (if (G (k : Int)).1 = w then _ else _) = _
          rw [if_pos c1]
        refine c_isMeantM (l := l) ⟨by omega, by omega⟩ hk.1 hx (by rw [f1 582 73 (by omega)]; exact h73) hl (fun q => (hr q).fr (fun c i z => f1 c i (by omega))) (fun m2 f2 gg2 v2 => ?_)
        have f2' := f1.trans f2
        rcases hc : candS (G k) l with - | ⟨p, R⟩
        · refine ⟨by decide, ?_⟩
          rw [if_pos (show (if (none : Option (Int × Option R3)) = none then (0 : Int) else 1) = 0 from rfl)]
          refine skip m2 f2' gg2 ?_
          rw [best, hc]
          rfl
        · have ei : (if (some (p, R) : Option (Int × Option R3)) = none then (0 : Int) else 1) = 1 := if_neg (fun q => by cases q)
          rw [ei]
          refine ⟨by decide, ?_⟩
          rw [if_neg (by decide)]
          obtain ⟨v74, vR⟩ := v2 p R hc
          have pb := (candS_ok hk.1 okl hc).2.2.2
          have hx2 : FXM m2 (k : Int) (G k) := hk.2.fr (fun c i z => f2' c i (by omega))
          have take : bestS G w l (k + 1) = some ((k : Int), p, R) → ∀ m3 : MM, m3 = up m2 582 81 (m2 582 75) → ∀ m4 : MM, m4 = up m3 582 82 (m3 582 76) → ∀ m5 : MM, m5 = up m4 582 83 (m4 582 77) → P_X10_meantOf_9 Q (r + 1) w n (k : Int) p ((k : Int) + 1) m5 := by
            intro e
            rintro m3 rfl m4 rfl m5 rfl
            refine ih (k + 1) (k : Int) p _ (by omega) (fun c i z => by rw [up_ne (fun q => z ⟨q.1, by omega⟩), up_ne (fun q => z ⟨q.1, by omega⟩), up_ne (fun q => z ⟨q.1, by omega⟩)]; exact f2' c i z) (fun q => by rw [e] at q; cases q) (fun j p' R' q => ?_)
            rw [e] at q
            cases q
            refine ⟨rfl, rfl, fun r' hr' => ?_⟩
            obtain ⟨a, b, c⟩ := vR r' hr'
            refine ⟨?_, ?_, ?_⟩
            · rw [up_neI (by decide), up_neI (by decide), up_at]; exact a
            · rw [up_neI (by decide), up_at, up_neI (by decide)]; exact b
            · rw [up_at, up_neI (by decide), up_neI (by decide)]; exact c
          rcases hb : bestS G w l k with - | ⟨j, q, R'⟩
          · have e4 := h1 hb
            rw [e4]
            refine ⟨⟨by decide, by rw [if_pos (by decide)]; trivial⟩, by rw [if_pos (by decide)]; decide, ?_⟩
            rw [if_neg (by rw [if_pos (by decide)]; decide), v74]
            refine take ?_
            rw [best, hb, hc]
            rfl
          · obtain ⟨e4, e5, -⟩ := h2 j q R' hb
            obtain ⟨jb, jc, -⟩ := bestS_bd k j q R' hb
            have hj := hF j jb.1 (by omega)
            have hxj : FXM m2 j (G j) := hj.2.fr (fun c i z => f2' c i (by omega))
            have qb := (candS_ok hj.1 okl jc).2.2.2
            have rj := hj.1.2.1
            rw [e4, e5, v74, hxj.2.2.1, hx2.2.2.1]
            have bt : bettS G k (some (j, q, R')) (some (p, R)) = if p < q ∨ p = q ∧ (G j).2.2.1 ≠ 0 ∧ (G k).2.2.1 = 0 then some ((k : Int), p, R) else some (j, q, R') := rfl
            have ev : (if j < 0 then (1 : Int) else if p < q then 1 else if p = q then (if (G j).2.2.1 ≤ 0 then 0 else if (G k).2.2.1 = 0 then 1 else 0) else 0) = if p < q ∨ p = q ∧ (G j).2.2.1 ≠ 0 ∧ (G k).2.2.1 = 0 then 1 else 0 := by
              rw [if_neg (by omega)]
              by_cases d1 : p < q
              · rw [if_pos d1, if_pos (Or.inl d1)]
              · rw [if_neg d1]
                by_cases d2 : p = q
                · rw [if_pos d2]
                  by_cases d3 : (G j).2.2.1 ≤ 0
                  · rw [if_pos d3, if_neg (by omega)]
                  · rw [if_neg d3]
                    by_cases d4 : (G k).2.2.1 = 0
                    · rw [if_pos d4, if_pos (by omega)]
                    · rw [if_neg d4, if_neg (by omega)]
                · rw [if_neg d2, if_neg (by omega)]
            rw [ev]
            refine ⟨⟨by constructor <;> omega, by
              split
              · trivial
              · refine ⟨by constructor <;> omega, by constructor <;> omega, ?_⟩
                split
                · trivial
                · split
                  · refine ⟨by omega, by constructor <;> omega, ?_⟩
                    split
                    · trivial
                    · constructor <;> omega
                  · trivial⟩, by split <;> decide, ?_⟩
            by_cases better : p < q ∨ p = q ∧ (G j).2.2.1 ≠ 0 ∧ (G k).2.2.1 = 0
            · rw [if_neg (by rw [if_pos better]; decide)]
              refine take ?_
              rw [best, hb, hc, bt, if_pos better]
            · rw [if_pos (if_neg better)]
              have := skip m2 f2' gg2 (by rw [best, hb, hc, bt, if_neg better])
              rw [e4, e5] at this
              exact this
      · rw [if_neg c1]
        refine skip m1 f1 (fun _ _ _ => rfl) ?_
        show (if (G (k : Int)).1 = w then _ else _) = _
        rw [if_neg c1]
  exact ⟨_, L n.toNat 0 (-1) 0 m (by omega) (FMt.refl m) (fun _ => rfl) (fun j p R q => by cases q)⟩
theorem c_variableM {m : MM} {nv w : Int} {vN : Int → Int} (h2 : m 582 33 = nv) (hn : 0 ≤ nv ∧ nv ≤ 20) (hv : ∀ k, 0 ≤ k → k < nv → m 607 k = vN k ∧ RL (vN k)) (hw : RL w) (h : Q (encP (fstI vN w nv.toNat 0)) m) : P_X10_variableOf w m Q := by
  obtain ⟨fd, hfd⟩ : ∃ fd, fd = fstI vN w nv.toNat 0 := ⟨_, rfl⟩
  rw [← hfd] at h
  have L : ∀ (r : Nat) (k : Int), 0 ≤ k → k + r = nv → fd = fstI vN w r k → P_X10_variableOf_2 Q (r + 1) w k m := by
    intro r
    induction r with
    | zero =>
      intro k k0 k1 e
      unfold P_X10_variableOf_2
      rw [h2]
      refine ⟨by constructor <;> omega, by constructor <;> omega, ?_⟩
      rw [if_pos (by omega)]
      rw [e] at h
      exact h
    | succ r ih =>
      intro k k0 k1 e
      have hk := hv k k0 (by omega)
      unfold P_X10_variableOf_2
      rw [h2, hk.1]
      refine ⟨by constructor <;> omega, by constructor <;> omega, ?_⟩
      rw [if_neg (by omega)]
      refine ⟨by omega, hk.2, hw, ?_⟩
      unfold fstI at e
      by_cases c : vN k = w
      · rw [if_pos c] at e ⊢
        rw [e] at h
        exact h
      · rw [if_neg c] at e ⊢
        exact ih (k + 1) (by omega) (by omega) e
  exact ⟨_, L nv.toNat 0 (by decide) (by omega) hfd⟩
/-- the built-in functions' names are there -/
def BFM (m : MM) : Prop := ∀ k, 0 ≤ k → k < 14 → m 584 k = bfn k
theorem bfn_inj {j k : Int} (hj : 0 ≤ j ∧ j < 14) (hk : 0 ≤ k ∧ k < 14) (h : bfn j = bfn k) : j = k := by
  have H : ∀ a b : Fin 14, bfn (a.val : Int) = bfn (b.val : Int) → a = b := by decide
  have := H ⟨j.toNat, by omega⟩ ⟨k.toNat, by omega⟩ (by
    show bfn ((j.toNat : Nat) : Int) = bfn ((k.toNat : Nat) : Int)
    rw [Int.toNat_of_nonneg hj.1, Int.toNat_of_nonneg hk.1]
    exact h)
  have := congrArg Fin.val this
  simp at this
  omega
theorem bfn_rl {k : Int} : RL (bfn k) := by
  unfold bfn
  repeat' split
  all_goals decide
theorem c_builtM {m : MM} {k : Int} (hB : BFM m) (hk : 0 ≤ k ∧ k < 14) (h : Q k m) : P_X10_builtInOf (bfn k) m Q := by
  have L : ∀ (r : Nat) (j : Int), 0 ≤ j → j + r = k → P_X10_builtInOf_2 Q (r + 1) (bfn k) j m := by
    intro r
    induction r with
    | zero =>
      intro j j0 j1
      have e : j = k := by omega
      unfold P_X10_builtInOf_2
      rw [hB j j0 (by omega)]
      refine ⟨by constructor <;> omega, ?_⟩
      rw [if_neg (by omega)]
      refine ⟨by omega, bfn_rl, bfn_rl, ?_⟩
      rw [if_pos (by rw [e]), e]
      exact h
    | succ r ih =>
      intro j j0 j1
      unfold P_X10_builtInOf_2
      rw [hB j j0 (by omega)]
      refine ⟨by constructor <;> omega, ?_⟩
      rw [if_neg (by omega)]
      refine ⟨by omega, bfn_rl, bfn_rl, ?_⟩
      rw [if_neg (fun q => by have := bfn_inj ⟨j0, by omega⟩ hk q; omega)]
      exact ih (j + 1) (by omega) (by omega)
  exact ⟨_, L k.toNat 0 (by decide) (by omega)⟩
end BOOKM
