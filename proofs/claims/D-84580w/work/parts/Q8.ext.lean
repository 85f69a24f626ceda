set_option maxRecDepth 100000
/-! one function more: what was there stays -/
section EXT
variable {F G : Int → FnR} {n k g : Int} {f : FnR} {R : Option R3} {w : Int} {l rc : List R3} {e : JE} {fl : Int} {a : PT} {z : R3} {m : MM} {D : DFN}
theorem setF_ne (h : k ≠ n) : setF F n f k = F k := by unfold setF; rw [if_neg h]
theorem setF_at : setF F n f n = f := by unfold setF; rw [if_pos rfl]
theorem bettS_eq {b : Option (Int × Int × Option R3)} {c : Option (Int × Option R3)} (h : ∀ x, b = some x → G x.1 = F x.1) (hk : G k = F k) : bettS G k b c = bettS F k b c := by
  unfold bettS
  cases c with
  | none => rfl
  | some pr =>
    obtain ⟨p, r⟩ := pr
    cases b with
    | none => rfl
    | some x =>
      obtain ⟨j, q, r'⟩ := x
      have e1 : G j = F j := h (j, q, r') rfl
      show (if p < q ∨ p = q ∧ (G j).2.2.1 ≠ 0 ∧ (G k).2.2.1 = 0 then _ else _) = _
      rw [e1, hk]
theorem bestS_set : ∀ j : Nat, (j : Int) ≤ n → bestS (setF F n f) w l j = bestS F w l j := by
  intro j
  induction j with
  | zero => intro _; rfl
  | succ j ih =>
    intro hj
    have e1 : setF F n f (j : Int) = F (j : Int) := setF_ne (by omega)
    show (if (setF F n f (j : Int)).1 = w then bettS (setF F n f) j (bestS (setF F n f) w l j) (candS (setF F n f (j : Int)) l) else bestS (setF F n f) w l j) = (if (F (j : Int)).1 = w then bettS F j (bestS F w l j) (candS (F (j : Int)) l) else bestS F w l j)
    rw [ih (by omega), e1, bettS_eq (G := setF F n f) (F := F) (fun x hx => ?_) e1]
    obtain ⟨i, p, r⟩ := x
    have := (bestS_bd _ _ _ _ hx).1
    exact setF_ne (by show i ≠ n; omega)
theorem mtS_set (h0 : 0 ≤ k) (hk : k ≤ n) : mtS (setF F n f) k w rc = mtS F k w rc := by
  unfold mtS
  rw [bestS_set _ (by omega)]
  generalize hb : bestS F w rc k.toNat = b
  cases b with
  | none => rfl
  | some x =>
    obtain ⟨i, p, r⟩ := x
    have := (bestS_bd _ _ _ _ hb).1
    have e1 : setF F n f i = F i := setF_ne (by omega)
    show (if 3 < rc.length then none else match instS (setF F n f i) 0 r with | none => none | some z => some (i, r, z)) = _
    rw [e1]
theorem knS_set (hk : k ≤ n) : knS (setF F n f) k = knS F k := by
  funext w
  unfold knS
  refine propext ⟨fun ⟨j, j0, j1, j2⟩ => ⟨j, j0, j1, ?_⟩, fun ⟨j, j0, j1, j2⟩ => ⟨j, j0, j1, ?_⟩⟩
  · rw [setF_ne (by omega)] at j2; exact j2
  · rw [setF_ne (by omega)]; exact j2
theorem JEf_set (g0 : 0 ≤ g) (g1 : g < n) : JEf (setF F n f) g R = JEf F g R := by
  unfold JEf
  rw [setF_ne (show g ≠ n by omega), knS_set (show g + 1 ≤ n by omega), show mtS (setF F n f) (g + 1) = mtS F (g + 1) from funext (fun w => funext (fun rc => mtS_set (by omega) (by omega)))]
/-- the code of a part does not change -/
theorem cgC_set (h : ∀ w c, G (clS e w c).1 = F (clS e w c).1) : ∀ t : TT, cgC G e fl t = cgC F e fl t := by
  intro t
  induction t with
  | leaf => rfl
  | inner y d u c s ihc ihs =>
    funext k p
    cases k with
    | zero =>
      show (0, wtS e (d, c), 0) :: cgK e c (cgC G e fl c) G fl d (p + 1) = (0, wtS e (d, c), 0) :: cgK e c (cgC F e fl c) F fl d (p + 1)
      rw [ihc]
      unfold cgK cgCall
      rw [h]
    | succ k =>
      show cgC G e fl s k p = cgC F e fl s k p
      rw [ihs]
theorem cg_set (h : ∀ w c, G (clS e w c).1 = F (clS e w c).1) {p : Int} : cg G e fl a p = cg F e fl a p := by
  unfold cg
  rw [cgC_set h]
  unfold cgK cgCall
  rw [h]
theorem cgW_set (h : ∀ w c, G (clS e w c).1 = F (clS e w c).1) : cgW G e fl a z = cgW F e fl a z := by
  unfold cgW
  rw [cg_set h]
theorem mtS_lt {i : Int} (h0 : 0 ≤ k) (h : mtS F k w rc = some (i, R, z)) : 0 ≤ i ∧ i < k := by
  unfold mtS at h
  by_cases c : 3 < rc.length
  · rw [if_pos c] at h; cases h
  rw [if_neg c] at h
  generalize hb : bestS F w rc k.toNat = b at h
  cases b with
  | none => cases h
  | some x =>
    obtain ⟨j, p, r⟩ := x
    have bd := (bestS_bd _ _ _ _ hb).1
    have h : (match instS (F j) 0 r with | none => none | some z => some (j, r, z)) = some (i, R, z) := h
    cases hi : instS (F j) 0 r with
    | none => rw [hi] at h; cases h
    | some y =>
      rw [hi] at h
      cases h
      omega
theorem clS_lt {t : TT} (g0 : 0 ≤ g) (g1 : g < n) : setF F n f (clS (JEf F g R) w t).1 = F (clS (JEf F g R) w t).1 := by
  refine setF_ne ?_
  unfold clS
  generalize hc : (JEf F g R).2.2.2.1 w ((jdS (JEf F g R) t).1.map (fun o => o.getD (0, 0, 0))) = o
  cases o with
  | none => show (0 : Int) ≠ n; omega
  | some x =>
    obtain ⟨i, R', y⟩ := x
    have hc : mtS F (g + 1) w ((jdS (JEf F g R) t).1.map (fun o => o.getD (0, 0, 0))) = some (i, R', y) := hc
    have := mtS_lt (by omega) hc
    show i ≠ n
    omega
theorem cgW_f (g0 : 0 ≤ g) (g1 : g < n) : cgW (setF F n f) (JEf (setF F n f) g R) fl a z = cgW F (JEf F g R) fl a z := by
  rw [JEf_set g0 g1]
  exact cgW_set (fun w c => clS_lt g0 g1)
theorem CaO.set (h : CaO m F n) : CaO m (setF F n f) (n + 1) := by
  intro k k0 k1
  rcases h k k0 k1 with q | ⟨g, R, z, q1, q2, q3, q4, q5, q6⟩
  · exact .inl q
  · refine .inr ⟨g, R, z, q1, by omega, q3, q4, ?_, ?_⟩
    · rw [setF_ne (by omega)]; exact q5
    · rw [cgW_f q2.1 q2.2, setF_ne (show g ≠ n by omega)]; exact q6
theorem BodyOK.set (g0 : 0 ≤ g) (g1 : g < n) (h : BodyOK F g) : BodyOK (setF F n f) g := by
  intro R
  rw [JEf_set g0 g1, setF_ne (show g ≠ n by omega)]
  exact h R
/-- the ring for which a body was looked at -/
theorem r48_all {r : R3} (h : ok3 r) (hb : r.1 = 0 ∨ r.1 = 1 ∨ r.1 = 20000 ∨ r.1 = 20001) : ∃ k, 0 ≤ k ∧ k < 48 ∧ r48 k = r := by
  have ds := ok3_ds h
  obtain ⟨b, d, s⟩ := r
  have ds : (0 ≤ d ∧ d ≤ 2) ∧ (0 ≤ s ∧ s ≤ 3) := ds
  have key : ∀ q : Int, 0 ≤ q → q ≤ 3 → bs4 q = b → ∃ k, 0 ≤ k ∧ k < 48 ∧ r48 k = (b, d, s) := by
    intro q q0 q3 e
    refine ⟨12 * q + 4 * d + s, by omega, by omega, ?_⟩
    unfold r48
    rw [show (12 * q + 4 * d + s) / 12 = q by omega, show (12 * q + 4 * d + s) / 4 % 3 = d by omega, show (12 * q + 4 * d + s) % 4 = s by omega, e]
  rcases hb with e | e | e | e
  · exact key 0 (by decide) (by decide) e.symm
  · exact key 1 (by decide) (by decide) e.symm
  · exact key 2 (by decide) (by decide) e.symm
  · exact key 3 (by decide) (by decide) e.symm
theorem bodG_none : ∀ (c : Nat) (k : Int), bodG F n D c k = none → ∀ j, k ≤ j → j < k + (c : Int) → canS (F n) (r48 j) → goalN F n D (some (r48 j)) = none := by
  intro c
  induction c with
  | zero => intro k _ j j0 j1; omega
  | succ c ih =>
    intro k h j j0 j1 cn
    unfold bodG at h
    by_cases q : canS (F n) (r48 k)
    · rw [if_pos q] at h
      cases hg : goalN F n D (some (r48 k)) with
      | none =>
        rw [hg] at h
        by_cases e : j = k
        · subst e; exact hg
        · exact ih (k + 1) h j (by omega) (by omega) cn
      | some y => rw [hg] at h; cases h
    · rw [if_neg q] at h
      by_cases e : j = k
      · subst e; exact absurd cn q
      · exact ih (k + 1) h j (by omega) (by omega) cn
theorem goalN_none {y : R3} (h : goalN F n D R = none) (hi : instS (F n) 0 R = some y) : ntS (JEf F n R) (dRd D) (dRc D) = none ∧ ∀ x, rgS (JEf F n R) (dRd D) (dRc D) = some x → gs x y := by
  unfold goalN at h
  rw [hi] at h
  cases hr : rgS (JEf F n R) (dRd D) (dRc D) with
  | none =>
    rw [hr] at h
    exact ⟨h, fun x q => (by cases q)⟩
  | some x =>
    rw [hr] at h
    have h : (if jn x y = some y then ntS (JEf F n R) (dRd D) (dRc D) else mn (ntS (JEf F n R) (dRd D) (dRc D)) (some (dFi D, 4))) = none := h
    by_cases c : jn x y = some y
    · rw [if_pos c] at h
      exact ⟨h, fun x' q => (by cases q; exact c)⟩
    · rw [if_neg c] at h
      exact absurd (mn_eq_none.1 h).2 (fun q => (by cases q))
end EXT
