set_option maxRecDepth 100000
/-! the component's parser: trees that are being built -/
/-- two memories agree on a text's nodes of a range -/
def Agr (b lo hi : Int) (m m' : MM) : Prop := ∀ c i, (b + 1 ≤ c ∧ c ≤ b + 5 ∨ c = b + 9) → lo ≤ i → i < hi → m' c i = m c i
/-- a tree that stands alone -/
def TNs (m : MM) (b : Int) (a : PT) (lo hi k : Int) : Prop := TN m b a.1 a.2 lo hi k ∧ m (b + 3) k = -1
/-- a node with nothing below it yet -/
def NdH (m : MM) (b k : Int) (d : ND) : Prop := (m (b + 1) k = d.1 ∧ m (b + 4) k = d.2.2.1 ∧ m (b + 5) k = d.2.1 ∧ (d.1 = 4 ∨ d.1 = 5 ∨ d.1 = 33 ∨ d.1 = 35 → m (b + 9) k = d.2.2.2)) ∧ m (b + 2) k = -1 ∧ m (b + 3) k = -1
section TREEB
variable {m m' : MM} {b lo hi k r : Int} {a : PT} {d : ND}
theorem TF.frr : ∀ {t : TT} {lo hi k : Int}, Agr b lo hi m m' → TF m b t lo hi k → TF m' b t lo hi k := by
  intro t
  induction t with
  | leaf => intro lo hi k f h; exact h
  | inner z d u c s ihc ihs =>
    intro lo hi k f h
    obtain ⟨mid, h1, ⟨cl, ch, h2, ⟨h3, h4, h5, h6⟩, h7⟩, h8⟩ := h
    have e : ∀ c, (b + 1 ≤ c ∧ c ≤ b + 5 ∨ c = b + 9) → m' c k = m c k := fun c z => f c k z (by omega) (by omega)
    refine ⟨mid, h1, ⟨cl, ch, h2, ⟨by rw [e _ (by omega)]; exact h3, by rw [e _ (by omega)]; exact h4, by rw [e _ (by omega)]; exact h5, fun w => by rw [e _ (by omega)]; exact h6 w⟩, ?_⟩, ?_⟩
    · rw [e _ (by omega)]; exact ihc (fun c i z z1 z2 => f c i z (by omega) (by omega)) h7
    · rw [e _ (by omega)]; exact ihs (fun c i z z1 z2 => f c i z (by omega) z2) h8
theorem TN.frr {c : TT} (f : ∀ c i, (b + 1 ≤ c ∧ c ≤ b + 5 ∨ c = b + 9) → lo ≤ i → i < hi → ¬ (c = b + 3 ∧ i = k) → m' c i = m c i) (h : TN m b d c lo hi k) : TN m' b d c lo hi k := by
  obtain ⟨cl, ch, h2, ⟨h3, h4, h5, h6⟩, h7⟩ := h
  have e : ∀ c, (b + 1 ≤ c ∧ c ≤ b + 2 ∨ b + 4 ≤ c ∧ c ≤ b + 5 ∨ c = b + 9) → m' c k = m c k := fun c z => f c k (by omega) (by omega) (by omega) (by omega)
  refine ⟨cl, ch, h2, ⟨by rw [e _ (by omega)]; exact h3, by rw [e _ (by omega)]; exact h4, by rw [e _ (by omega)]; exact h5, fun w => by rw [e _ (by omega)]; exact h6 w⟩, ?_⟩
  rw [e _ (by omega)]
  exact h7.frr (fun c i z z1 z2 => f c i z (by omega) (by omega) (by omega))
theorem TN.rng {c : TT} (h : TN m b d c lo hi k) : 0 ≤ lo ∧ lo ≤ k ∧ k < hi ∧ hi ≤ 160 := by
  obtain ⟨cl, ch, h2, -⟩ := h
  exact h2.1
theorem TN.low {c : TT} {lo' hi' : Int} (h : TN m b d c lo hi k) (h0 : 0 ≤ lo') (h1 : lo' ≤ lo) (h2 : hi ≤ hi') (h3 : hi' ≤ 160) : TN m b d c lo' hi' k := by
  obtain ⟨cl, ch, g2, g3⟩ := h
  exact ⟨cl, ch, by omega, g3⟩
theorem TNs.rng (h : TNs m b a lo hi k) : 0 ≤ lo ∧ lo ≤ k ∧ k < hi ∧ hi ≤ 160 := h.1.rng
theorem TNs.fr (h : TNs m b a lo hi k) (f : Agr b lo hi m m') : TNs m' b a lo hi k := by
  have r := h.rng
  exact ⟨h.1.frr (fun c i z z1 z2 _ => f c i z z1 z2), by rw [f _ _ (by omega) (by omega) (by omega)]; exact h.2⟩
theorem TNs.one (h : TNs m b a lo hi r) : TF m b (chT [a]) lo hi r := ⟨hi, Int.le_refl _, h.1, h.2, Int.le_refl _⟩
theorem NdH.fr (h : NdH m b k d) (f : ∀ c, (b + 1 ≤ c ∧ c ≤ b + 5 ∨ c = b + 9) → m' c k = m c k) : NdH m' b k d := by
  obtain ⟨⟨h1, h2, h3, h4⟩, h5, h6⟩ := h
  refine ⟨⟨?_, ?_, ?_, fun z => ?_⟩, ?_, ?_⟩
  · rw [f _ (by omega)]; exact h1
  · rw [f _ (by omega)]; exact h2
  · rw [f _ (by omega)]; exact h3
  · rw [f _ (by omega)]; exact h4 z
  · rw [f _ (by omega)]; exact h5
  · rw [f _ (by omega)]; exact h6
theorem NdH.nil (h : NdH m b k d) (g : 0 ≤ k ∧ k < 160) : TNs m b (d, lf) k (k + 1) k := by
  refine ⟨⟨k + 1, k + 1, by omega, h.1, ?_⟩, h.2.2⟩
  rw [h.2.1]; exact ⟨rfl, Int.le_refl _⟩
theorem NdH.one (h : NdH m b k d) (k0 : 0 ≤ k) (t : TNs m b a (k + 1) hi r) : TNs (up m (b + 2) k r) b (d, chT [a]) k hi k := by
  obtain ⟨⟨h1, h2, h3, h4⟩, h5, h6⟩ := h
  have tr := t.rng
  refine ⟨⟨k + 1, hi, by omega, ⟨?_, ?_, ?_, fun z => ?_⟩, ?_⟩, ?_⟩
  · rw [up_ne (by omega)]; exact h1
  · rw [up_ne (by omega)]; exact h2
  · rw [up_ne (by omega)]; exact h3
  · rw [up_ne (by omega)]; exact h4 z
  · rw [up_at]; exact (t.fr (fun c i z z1 z2 => up_ne (by omega))).one
  · rw [up_ne (by omega)]; exact h6
/-! frames -/
variable {tk : Int → TK} {N p o c i v : Int} {m0 : MM}
theorem tx_b (hb : isTx b) : b < 365 ∧ b + 9 < 365 ∧ 8 ≤ b := by obtain ⟨a1, a2, a3⟩ := hb; omega
theorem PC.ag (h : PC m tk N b p o) (f : ∀ c i, ¬ (b ≤ c ∧ c ≤ b + 9) → m' c i = m c i) : PC m' tk N b p o := by
  have hb' := tx_b h.1.1
  refine h.fr (fun c i z _ => f c i z) ⟨?_, h.2.2.1.2⟩ ⟨?_, h.2.2.2.2⟩
  · rw [f _ _ (by omega)]; exact h.2.2.1.1
  · rw [f _ _ (by omega)]; exact h.2.2.2.1
theorem PC.tx (h : PC m tk N b p o) (hc : b ≤ c ∧ c ≤ b + 9) : PC (up m c i v) tk N b p o := h.ag (fun c' i' z => up_ne (fun y => z (by omega)))
theorem Fnw.refl : Fnw b lo m m := fun _ _ _ _ _ => rfl
theorem Fnw.s2 (h : Fnw b lo m0 m) (f : ∀ c i, ¬ (c = 365 ∧ i = 2) → m' c i = m c i) : Fnw b lo m0 m' := fun c i z z' z'' => (f c i (fun y => z'' ⟨y.1, Or.inl y.2⟩)).trans (h c i z z' z'')
theorem Fnw.s3 (h : Fnw b lo m0 m) (f : ∀ c i, ¬ (c = 365 ∧ (i = 2 ∨ i = 3)) → m' c i = m c i) : Fnw b lo m0 m' := fun c i z z' z'' => (f c i z'').trans (h c i z z' z'')
theorem Fnw.tx (h : Fnw b lo m0 m) (hc : b + 1 ≤ c ∧ c ≤ b + 6 ∨ c = b + 9) (hi : lo ≤ i) : Fnw b lo m0 (up m c i v) := fun c' i' z z' z'' => (up_ne (fun y => z ⟨by omega, by omega⟩)).trans (h c' i' z z' z'')
theorem Fnw.ad (h : Fnw b lo m0 m) {k' : Int} (hk : lo ≤ k') (f : ∀ c i, ¬ ((b + 1 ≤ c ∧ c ≤ b + 6) ∧ i = k') → ¬ (c = b ∧ i = 0) → m' c i = m c i) : Fnw b lo m0 m' := fun c i z z' z'' => (f c i (fun y => z ⟨by omega, by omega⟩) z').trans (h c i z z' z'')
/-- a node over two trees is made -/
theorem c_add2C {Q : Int → MM → Prop} {mid x y kd w : Int} {a2 : PT} (hb : isTx b) (h1 : TN m b a.1 a.2 lo mid x) (h2 : TNs m b a2 mid hi y) (hk : m b 0 = hi) (kb : hi < 160) (hkd : ¬ (kd = 4 ∨ kd = 5 ∨ kd = 33 ∨ kd = 35)) (h : ∀ m', (∀ c i, ¬ ((b + 1 ≤ c ∧ c ≤ b + 6) ∧ lo ≤ i) → ¬ (c = b ∧ i = 0) → m' c i = m c i) → m' b 0 = hi + 1 → TNs m' b ((kd, w, 0, 0), chT [a, a2]) lo (hi + 1) hi → Q hi m') : P_X2_add_2 b kd w x y m Q := by
  have r1 := h1.rng
  have r2 := h2.rng
  refine ⟨hb, c_addC hb hk (by omega) (fun m1 f g0 g1 g2 g3 g4 g5 g6 => ⟨by omega, ?_⟩)⟩
  rintro m2 rfl
  refine ⟨by omega, ?_⟩
  rintro m3 rfl
  have ag : ∀ c i, (b + 1 ≤ c ∧ c ≤ b + 5 ∨ c = b + 9) → lo ≤ i → i < hi → ¬ (c = b + 3 ∧ i = x) → up (up m1 (b + 2) hi x) (b + 3) x y c i = m c i := fun c i z z1 z2 z3 => by
    rw [up_ne z3, up_ne (by omega)]; exact f c i (by omega) (by omega)
  refine h _ (fun c i z z' => ?_) ?_ ⟨⟨lo, hi, by omega, ⟨?_, ?_, ?_, fun z => absurd z hkd⟩, ?_⟩, ?_⟩
  · rw [up_ne (fun q => z ⟨by omega, by omega⟩), up_ne (fun q => z ⟨by omega, by omega⟩)]
    exact f c i (fun q => z ⟨q.1, by omega⟩) z'
  · rw [up_ne (by omega), up_ne (by omega)]; exact g0
  · rw [up_ne (by omega), up_ne (by omega)]; exact g1
  · rw [up_ne (by omega), up_ne (by omega)]; exact g4
  · rw [up_ne (by omega), up_ne (by omega)]; exact g5
  · rw [up_ne (show ¬ (b + 2 = b + 3 ∧ hi = x) by omega), up_at]
    refine ⟨mid, by omega, h1.frr (fun c i z z1 z2 z3 => ag c i z z1 (by omega) z3), ?_⟩
    rw [up_at]
    exact (h2.fr (fun c i z z1 z2 => ag c i z (by omega) z2 (by omega))).one
  · rw [up_ne (by omega), up_ne (by omega)]; exact g3
end TREEB
