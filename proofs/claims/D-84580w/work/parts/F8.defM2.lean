set_option maxRecDepth 100000
/-! the model: a function that is told, judged whole -/
section DEFM2
variable {Q : Int → MM → Prop} {D : DFN} {n b0 lo hi k : Int} {G : Int → FnR}
theorem FXM.at {m m' : MM} {f : Int} {F : FnR} (h : FXM m f F) (hp : F.2.1 ≤ 3) (g : ∀ c, c = 606 ∨ c = 609 ∨ (611 ≤ c ∧ c ≤ 614) ∨ c = 621 → m' c f = m c f) (g' : ∀ c i, c = 608 ∨ (615 ≤ c ∧ c ≤ 617) ∨ c = 622 → 3 * f ≤ i → i < 3 * f + 3 → m' c i = m c i) : FXM m' f F := by
  let m2 : MM := fun c i => if (i = f ∧ (c = 606 ∨ c = 609 ∨ (611 ≤ c ∧ c ≤ 614) ∨ c = 621)) ∨ ((3 * f ≤ i ∧ i < 3 * f + 3) ∧ (c = 608 ∨ (615 ≤ c ∧ c ≤ 617) ∨ c = 622)) then m c i else m' c i
  have e : m2 = m' := by
    funext c i
    show (if _ then _ else _) = _
    split
    · rename_i z
      rcases z with ⟨z1, z2⟩ | ⟨z1, z2⟩
      · rw [z1]; exact (g c z2).symm
      · exact (g' c i z2 z1.1 z1.2).symm
    · rfl
  rw [← e]
  have a1 : ∀ c, c = 606 ∨ c = 609 ∨ (611 ≤ c ∧ c ≤ 614) ∨ c = 621 → m2 c f = m c f := fun c z => if_pos (Or.inl ⟨rfl, z⟩)
  have a2 : ∀ c i, c = 608 ∨ (615 ≤ c ∧ c ≤ 617) ∨ c = 622 → 3 * f ≤ i → i < 3 * f + 3 → m2 c i = m c i := fun c i z z1 z2 => if_pos (Or.inr ⟨⟨z1, z2⟩, z⟩)
  obtain ⟨h1, h2, h3, ⟨h4, h5⟩, h6⟩ := h
  refine ⟨by rw [a1 _ (by omega)]; exact h1, by rw [a1 _ (by omega)]; exact h2, by rw [a1 _ (by omega)]; exact h3, ⟨by rw [a1 _ (by omega)]; exact h4, ?_⟩, fun j j0 j1 => ?_⟩
  · unfold r3M at h5 ⊢
    rw [a1 612 (by omega), a1 613 (by omega), a1 614 (by omega)]
    exact h5
  · obtain ⟨y1, y2, y3⟩ := h6 j j0 j1
    refine ⟨by rw [a2 _ _ (by omega) (by omega) (by omega)]; exact y1, by rw [a2 _ _ (by omega) (by omega) (by omega)]; exact y2, ?_⟩
    unfold r3M at y3 ⊢
    rw [a2 615 _ (by omega) (by omega) (by omega), a2 616 _ (by omega) (by omega) (by omega), a2 617 _ (by omega) (by omega) (by omega)]
    exact y3
theorem c_definitionM {m : MM} (hD : okD D) (hc : DFm m n b0 D) (hn : 0 ≤ n ∧ n ≤ 20) (hB : BKm m G n) (hBF : BFM m) (h68 : m 582 68 = 0) (hT : TNM m Tt (dRd D) (dRc D) lo hi k) (hdq : max (dq (nd (dRd D) (dRc D) lf)).1 (dq (nd (dRd D) (dRc D) lf)).2 ≤ 300) (hsz : szT (dRc D) ≤ 4000) (h0 : NN' m none) (h : ∀ m1 m', FHm n b0 m m1 → FBm n lo hi m1 m' → NN' m' (defB G n D) → (hdN G n D = none → BKm m' (setF G n (hdF D)) (n + 1) ∧ AnB m' (setF G n (hdF D)) n (dRd D) (dRc D) lo hi k) → Q 0 m') : P_X10_judgeDefinition k m Q := by
  refine c_headM hD hc hn hB h0 (fun m1 f1 e61 n1 hx => ?_)
  obtain ⟨⟨d1, d2, d3, d4, d5, d6, d7, d8⟩, -, -⟩ := hc
  have bk : hdN G n D = none → BKm m1 (setF G n (hdF D)) (n + 1) := by
    intro hh
    obtain ⟨x1, x2, x3, x4⟩ := hdN_none hD hh
    refine ⟨by omega, fun j j0 j1 => ?_⟩
    by_cases e : j = n
    · have : setF G n (hdF D) j = hdF D := if_pos e
      rw [this, e]
      exact ⟨hdF_ok hD x1 x2, hx hh⟩
    · have : setF G n (hdF D) j = G j := if_neg e
      rw [this]
      obtain ⟨y1, y2⟩ := hB.2 j j0 (by omega)
      refine ⟨y1, y2.at y1.1.2 (fun c z => f1 _ _ (by omega) (by omega) (by omega) (by omega)) (fun c i z z1 z2 => f1 _ _ (by omega) (by omega) (by omega) (by omega))⟩
  have T1 : TNM m1 Tt (dRd D) (dRc D) lo hi k := by
    obtain ⟨cl, ch, cs, b, N, L, P, C⟩ := hT
    exact ⟨cl, ch, cs, b, N.fr f1.st (fun _ => f1 _ _ (by omega) (by omega) (by omega) (by omega)), L.fr f1.st, trivial, f1.tm C⟩
  refine c_body313 hD rfl hn bk (fun j j0 j1 => by rw [f1 _ _ (by omega) (by omega) (by omega) (by omega)]; exact hBF j j0 j1) (by rw [f1 _ _ (by omega) (by omega) (by omega) (by omega)]; exact d1) e61 (by rw [f1 _ _ (by omega) (by omega) (by omega) (by omega)]; exact d6) ⟨fun z => by rw [f1 _ _ (by omega) (by omega) (by omega) (by omega)]; exact d7 z, fun z => by rw [f1 _ _ (by omega) (by omega) (by omega) (by omega)]; exact (d8 z).1⟩ (by rw [f1 _ _ (by omega) (by omega) (by omega) (by omega)]; exact h68) T1 hdq hsz n1 (fun m2 f2 n2 an => h m1 m2 f1 f2 n2 (fun hh => ⟨(bk hh).bm f2, an hh⟩))
end DEFM2
