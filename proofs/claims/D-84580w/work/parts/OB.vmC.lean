set_option maxRecDepth 100000
/-! the model's tasks: calls; rings of a function's parts are made ready -/
/-- what making ready may change -/
def FrR (lo : Int) (m m' : MM) : Prop := ∀ c i, ¬ ((596 ≤ c ∧ c ≤ 603) ∧ i < lo) → ¬ (c = 582 ∧ scr i) → ¬ (618 ≤ c ∧ c ≤ 620) → ¬ (631 ≤ c ∧ c ≤ 634) → m' c i = m c i
def RdE (F : Int → FnR) (n h : Int) (R : Option R3) : Prop := (0 ≤ h ∧ h < n) ∧ (R = none ↔ (F h).2.2.1 = 0) ∧ (∀ x, R = some x → ok3 x ∧ (x.1 = 0 ∨ x.1 = 1 ∨ x.1 = 20000 ∨ x.1 = 20001) ∧ canS (F h) x) ∧ ∀ k, 0 ≤ k → k ≤ (F h).2.1 → instS (F h) k R ≠ none
section VMC
variable {Q : Int → MM → Prop} {m m' m0 m1 ms : MM} {F : Int → FnR} {n : Int} {S : SGm} {E : EVm} {h pb : Int} {T T' : List Tk} {l l' pre : List VV} {s s' : ES} {R : Option R3} {a b : PT} {k cl lo : Int}
theorem FrR.refl : FrR lo m m := fun _ _ _ _ _ _ => rfl
theorem Rec3_inj {r r' : R3} (o : ok3 r) (o' : ok3 r') (e1 : bM r.1 = bM r'.1) (e2 : r.2.1 = r'.2.1) (e3 : r.2.2 = r'.2.2) : r = r' := Prod.ext ((bM_inj (ok3_b o) (ok3_b o')).1 e1) (Prod.ext e2 e3)
theorem c_ready (hRg : RgO S n) (hFs : FsM F n) (hF : FOK F n) (I : VmI m F n S ms) (h61 : m 582 61 = h) (hd : h = -1 ∨ RdE F n h R) (hRM : RM m R) (K : ∀ m', VmI m' F n S ms → (0 ≤ h → Rec3 m' h R ∧ TNM m' (AnP m' (JEf F h R) 0) (rootF (F h)).1 (rootF (F h)).2 (S.1 h).1 (S.1 h).2 (S.2.1 h)) → FrR S.2.2.2.1 m m' → Q 0 m') : P_X10_makeReady m Q := by
  obtain ⟨i1, i2, i3, i4, i5, i6, i7⟩ := id I
  unfold P_X10_makeReady
  rw [h61]
  rcases hd with hd | ⟨d1, d2, d3, d4⟩
  · refine ⟨by rw [hd]; decide, ?_⟩
    rw [if_pos (by omega)]
    exact K m I (fun z => by omega) FrR.refl
  have bk := i2.2 h d1.1 d1.2
  have rt := hF.2 h d1.1 d1.2
  obtain ⟨a610, AB⟩ := i4 h d1.1 d1.2
  have ru := bk.1.2.1
  refine ⟨by constructor <;> omega, ?_⟩
  rw [if_neg (by omega), bk.2.2.2.1]
  refine ⟨by omega, by constructor <;> omega, ?_⟩
  obtain ⟨R', b1, b2, b3, b4⟩ := id AB
  by_cases c0 : (F h).2.2.1 = 0
  · rw [if_pos c0]
    have eR : R = none := d2.2 c0
    have eR' : R' = none := b3.2 c0
    subst eR eR'
    exact K m I (fun _ => ⟨trivial, b4⟩) FrR.refl
  rw [if_neg c0]
  cases R with
  | none => exact absurd (d2.1 rfl) c0
  | some r =>
    cases R' with
    | none => exact absurd (b3.1 rfl) c0
    | some r' =>
      obtain ⟨o1, o2, o3⟩ := d3 r rfl
      have o' := (b2 r' rfl).1
      obtain ⟨c1, c2, c3⟩ := b1
      obtain ⟨g1, g2, g3⟩ := hRM
      have rr := ok3_ri o1
      have rr' := ok3_ri o'
      have rb : r.1 ≠ -2 := by omega
      have h69 : P_X10_makeReady_69 Q m := by
        unfold P_X10_makeReady_69
        rw [h61, g1]
        refine ⟨by omega, fun m1 e1 => ?_⟩
        have f1 : ∀ c i, ¬ (c = 618 ∧ i = h) → m1 c i = m c i := fun c i q => by rw [e1, up_ne q]
        rw [f1 582 61 (by omega), f1 582 63 (by omega), h61, g2]
        refine ⟨by omega, fun m2 e2 => ?_⟩
        have f2 : ∀ c i, ¬ ((c = 618 ∨ c = 619) ∧ i = h) → m2 c i = m c i := fun c i q => by rw [e2, up_ne (by omega)]; exact f1 c i (by omega)
        rw [f2 582 61 (by omega), f2 582 64 (by omega), h61, g3]
        refine ⟨by omega, fun m3 e3 => ?_⟩
        have f3 : ∀ c i, ¬ ((c = 618 ∨ c = 619 ∨ c = 620) ∧ i = h) → m3 c i = m c i := fun c i q => by rw [e3, up_ne (by omega)]; exact f2 c i (by omega)
        rw [f3 582 61 (by omega), h61, f3 610 h (by omega), a610]
        refine ⟨by omega, ?_⟩
        have fs := hFs h d1.1 d1.2
        have wf : wfT (nd (rootF (F h)).1 (rootF (F h)).2 lf) := ⟨rt.1.2.1, rt.1.2.2, trivial⟩
        have J := ((judgeAll (T := fun _ => False) (e := JEf F h (some r)) (ro := 0) (nd (rootF (F h)).1 (rootF (F h)).2 lf) wf).2.1 300 fs.2.1).1 (by omega)
        have T3 : TNM m3 Tt (rootF (F h)).1 (rootF (F h)).2 (S.1 h).1 (S.1 h).2 (S.2.1 h) := (b4.fr2 (m' := m3) (fun c i a1 a2 _ _ => f3 c i (by omega)) (fun c i q => f3 c i (by omega))).tt
        have bk1 : BKm m3 F (h + 1) := ⟨by omega, fun k k0 k1 => ⟨(i2.2 k k0 (by omega)).1, (i2.2 k k0 (by omega)).2.fr (fun c i q => f3 c i (by omega))⟩⟩
        have EM : EMj m3 (JEf F h (some r)) 0 := ⟨⟨by rw [f3 582 62 (by omega)]; exact g1, by rw [f3 582 63 (by omega)]; exact g2, by rw [f3 582 64 (by omega)]; exact g3⟩, fun x hx => by
            have hx : some r = some x := hx
            injection hx with hx
            subst hx
            exact ⟨o1, rb⟩, fun k k0 k1 => by rw [f3 _ _ (by omega)]; exact i3 k k0 k1, .inl ⟨F, h, some r, rfl, bk1, by omega, by rw [f3 _ _ (by omega)]; exact h61, rfl, fun z => (by cases z), d4⟩⟩
        have NN3 : NN' m3 none := i7.congr (f3 _ _ (by omega)) (f3 _ _ (by omega))
        obtain ⟨x, z, q1, q2, q3⟩ := rt.2 (some r) d2 (fun r'' hr'' => by
          injection hr'' with hr''
          subst hr''
          exact ⟨o1, o2, o3⟩)
        have ntn : ntS (JEf F h (some r)) (rootF (F h)).1 (rootF (F h)).2 = none := by
          have w1 := rg_note (e := JEf F h (some r)) wf
          cases hn : ntS (JEf F h (some r)) (rootF (F h)).1 (rootF (F h)).2 with
          | none => rfl
          | some q =>
            have := w1.2 (by rw [hn]; intro z; cases z)
            rw [q1] at this; cases this
        refine J m3 none (S.1 h).1 (S.1 h).2 (S.2.1 h) 0 _ EM T3 NN3 (by rw [f3 _ _ (by omega)]; exact i6) ⟨by decide, by have := fs.1; omega⟩ (fun m4 f4 n4 t4 => ?_)
        rw [ntn, mn_none] at n4
        have rgh := (hRg.2 h d1.1 d1.2).1
        have r4 : Rec3 m4 h (some r) := ⟨by rw [f4 _ _ (by omega) (by omega) (by omega) (by omega), e3, up_ne (by omega), e2, up_ne (by omega), e1, up_at], by rw [f4 _ _ (by omega) (by omega) (by omega) (by omega), e3, up_ne (by omega), e2, up_at], by rw [f4 _ _ (by omega) (by omega) (by omega) (by omega), e3, up_at]⟩
        have f34 : ∀ c i, ¬ ((596 ≤ c ∧ c ≤ 603) ∧ (S.1 h).1 ≤ i ∧ i < (S.1 h).2) → ¬ (c = 582 ∧ scr i) → ¬ ((618 ≤ c ∧ c ≤ 620) ∧ i = h) → ¬ (631 ≤ c ∧ c ≤ 634) → m4 c i = m c i := fun c i a1 a2 a3 a4 => (f4 c i a1 a2 (by omega) (by omega)).trans (f3 c i (by omega))
        have st4 : FSt m m4 := fun c i q => f34 c i (by omega) (by omega) (by omega) (by omega)
        refine K m4 ⟨i1, i2.fr (fun c i q => f34 c i (by omega) (by omega) (by omega) (by omega)), fun k k0 k1 => by rw [f34 _ _ (by omega) (by omega) (by omega) (by omega)]; exact i3 k k0 k1, fun g g0 g1' => ⟨by rw [f34 _ _ (by omega) (by omega) (by omega) (by omega)]; exact (i4 g g0 g1').1, ?_⟩, fun c i q => by rw [st4 c i q]; exact i5 c i q, by rw [f34 _ _ (by omega) (by omega) (by omega) (by omega)]; exact i6, n4⟩ (fun _ => ⟨r4, t4⟩) (fun c i a1 a2 a3 a4 => f34 c i (by omega) a2 (by omega) a4)
        by_cases cg : g = h
        · subst cg
          exact ⟨some r, r4, fun x hx => by
            injection hx with hx
            subst hx
            exact ⟨o1, rb, o3⟩, d2, t4⟩
        · have dj : (S.1 g).2 ≤ (S.1 h).1 ∨ (S.1 h).2 ≤ (S.1 g).1 := by
            rcases Int.lt_or_lt_of_ne cg with q | q
            · exact .inl ((hRg.2 g g0 g1').2 h q d1.2)
            · exact .inr ((hRg.2 h d1.1 d1.2).2 g q g1')
          exact (i4 g g0 g1').2.fr2 (fun c i a1 a2 a3 a4 => f34 c i (by omega) (by omega) (by omega) (by omega)) (fun c a1 a2 => f34 c g (by omega) (by omega) (by omega) (by omega)) st4
      rw [c1, g1]
      refine ⟨rr'.1, rr.1, ?_⟩
      by_cases e1 : bM r'.1 = bM r.1
      · rw [if_pos e1, c2, g2]
        refine ⟨rr'.2.1, rr.2.1, ?_⟩
        by_cases e2 : r'.2.1 = r.2.1
        · rw [if_pos e2, c3, g3]
          refine ⟨rr'.2.2, rr.2.2, ?_⟩
          by_cases e3 : r'.2.2 = r.2.2
          · rw [if_pos e3]
            have er : r' = r := Rec3_inj o' o1 e1 e2 e3
            subst er
            exact K m I (fun _ => ⟨⟨c1, c2, c3⟩, b4⟩) FrR.refl
          · rw [if_neg e3]; exact h69
        · rw [if_neg e2]; exact h69
      · rw [if_neg e1]; exact h69
end VMC
