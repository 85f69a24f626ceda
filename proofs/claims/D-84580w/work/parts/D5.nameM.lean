set_option maxRecDepth 100000
/-! the model: names, calls, built-in functions -/
def encQ (o : Option Int) : Int := match o with
  | none => -1
  | some j => j - 1
section NAMEM
variable {Q : Int → MM → Prop} {T : MM → Prop} {e : JE} {ro : Int} {d : ND} {c : TT} {m m1 m2 : MM} {n : Nte} {lo hi k sp : Int} {rc : List R3} {x : R3} {dep : Nat}
theorem own_name (hk : d.1 = 4) : ownS e d [] = match e.1 d.2.2.2 with
    | none => none
    | some x => some x.2 := by
  unfold ownS
  rw [if_neg (by omega), if_neg (by omega), if_neg (by omega), if_neg (by omega), if_pos hk]
  rcases e.1 d.2.2.2 with - | x <;> rfl
theorem c_judgeNameM {p w : Int} (kb : 0 ≤ k ∧ k < 12000) (hE : EMj m e ro) (hn : NN' m n) (hw : RL w) (ew : m 605 k = w) (ep : m 595 k = p) (hp : 0 ≤ p ∧ p ≤ 400) (e97 : m 597 k = -1) (e98 : m 598 k = -9) (h1 : ∀ i y m', e.1 w = some (i, y) → FJm k (k + 1) sp m m' → m' 582 13 = m 582 13 → m' 582 14 = m 582 14 → m' 597 k = i → m' 596 k = ro → rgM m' k (some y) → Q 0 m') (h0 : ∀ m', e.1 w = none → FJm k (k + 1) sp m m' → NN' m' (mn n (some (p, 3))) → m' 598 k = -9 → Q 0 m') : P_X10_judgeName k m Q := by
  -- the end
  have l202 : ∀ m2, FJm k (k + 1) sp m m2 → m2 582 13 = m 582 13 → m2 582 14 = m 582 14 → m2 596 k = ro → (∀ i y, e.1 w = some (i, y) → m2 597 k = i ∧ (0 ≤ i ∧ i < 20) ∧ rgM m2 k (some y)) → (e.1 w = none → m2 597 k = -1 ∧ m2 598 k = -9) → P_X10_judgeName_202 Q k m2 := by
    intro m2 f2 g3 g4 g6 hs hz
    rcases he : e.1 w with - | ⟨i, y⟩
    · obtain ⟨z1, z2⟩ := hz he
      unfold P_X10_judgeName_202
      rw [z1, f2.st 595 k (by omega), ep]
      refine ⟨kb, by decide, ?_⟩
      rw [if_neg (by decide)]
      refine c_noteM (hn.congr g3 g4) (by decide) hp (fun m3 f3 n3 => ?_)
      exact h0 m3 he (f2.trans f3.jm) n3 (by rw [f3 598 k (by omega)]; exact z2)
    · obtain ⟨z1, z2, z3⟩ := hs i y he
      unfold P_X10_judgeName_202
      rw [z1]
      refine ⟨kb, by constructor <;> omega, ?_⟩
      rw [if_pos (by omega)]
      exact h1 i y m2 he f2 g3 g4 z1 g6 z3
  rcases hE.2.2.2 with ⟨F, g, R, q1, q2, q3, q4, q5, q6, q7⟩ | ⟨F, nf, nr, rR, nv, vN, vR, q1, q2, q3, q4, q5, q6⟩
  · obtain ⟨ok, tx⟩ := q2.2 g (by omega) (by omega)
    have np := ok.1
    have eR : e.2.2.2.2 = R := by rw [q1]; rfl
    have hR := hE.2.1
    have hRM := hE.1
    rw [eR] at hR hRM
    have e1w : ∀ o, o = fstI (F g).2.2.2.1 w (F g).2.1.toNat 1 → e.1 w = (match o with
        | none => none
        | some j => match instS (F g) j R with
          | none => none
          | some z => some (j - 1, z)) := by
      intro o ho
      rw [q1, ho]
      rfl
    obtain ⟨fd, hfd⟩ : ∃ fd, fd = fstI (F g).2.2.2.1 w (F g).2.1.toNat 1 := ⟨_, rfl⟩
    have e1w' := e1w fd hfd
    -- behind the search
    have l67 : ∀ m2, FJm k (k + 1) sp m m2 → m2 582 13 = m 582 13 → m2 582 14 = m 582 14 → m2 598 k = -9 → m2 597 k = encQ fd → P_X10_judgeName_67 Q k m2 := by
      intro m2 f2 g3 g4 g8 g7
      refine ⟨kb, ?_⟩
      rintro m3 rfl
      have f3 : FJm k (k + 1) sp m (up m2 596 k 0) := fun c' i z1 z2 z3 z4 => by rw [up_ne (fun z => z1 ⟨by omega, by omega, by omega⟩)]; exact f2 c' i z1 z2 z3 z4
      have g6 : up m2 596 k 0 596 k = ro := by rw [up_at, q5]
      have g7' : up m2 596 k 0 597 k = m2 597 k := up_ne (by omega)
      have g8' : up m2 596 k 0 598 k = -9 := by rw [up_ne (by omega)]; exact g8
      have g3' : up m2 596 k 0 582 13 = m 582 13 := by rw [up_ne (by omega)]; exact g3
      have g4' : up m2 596 k 0 582 14 = m 582 14 := by rw [up_ne (by omega)]; exact g4
      have g61 : up m2 596 k 0 582 61 = g := by rw [up_ne (by omega), f2 582 61 (by omega) (by omega) (by omega) (by omega)]; exact q4
      obtain ⟨m3, hm3⟩ : ∃ m3, m3 = up m2 596 k 0 := ⟨_, rfl⟩
      rw [← hm3] at f3 g6 g7' g8' g3' g4' g61 ⊢
      rcases hf : fd with - | j
      · rw [hf] at g7 e1w'
        rw [g7', g7]
        refine ⟨by decide, ?_⟩
        rw [if_pos (by decide)]
        exact l202 m3 f3 g3' g4' g6 (fun i y hy => by rw [e1w'] at hy; cases hy) (fun _ => ⟨g7'.trans g7, g8'⟩)
      · rw [hf] at g7 e1w'
        have jb := fstI_bd _ _ _ (hfd.symm.trans hf)
        have g7'' : m3 597 k = j - 1 := g7'.trans g7
        rw [g7'', g61]
        refine ⟨by constructor <;> omega, ?_⟩
        rw [if_neg (by omega)]
        have tx3 : FXM m3 g (F g) := tx.fr (fun c' i z => f3 c' i (by omega) (by omega) (by omega) (by omega))
        refine c_instanceM (R := R) (by omega) ok tx3 ⟨by omega, by omega⟩ hR q6 (fun r hr => ?_) (fun m4 g4f gg4 v4 => ?_)
        · subst hr
          obtain ⟨y1, y2, y3⟩ := hRM
          exact ⟨by rw [f3 582 62 (by omega) (by omega) (by omega) (by omega)]; exact y1, by rw [f3 582 63 (by omega) (by omega) (by omega) (by omega)]; exact y2, by rw [f3 582 64 (by omega) (by omega) (by omega) (by omega)]; exact y3⟩
        rw [show j - 1 + 1 = j by omega] at v4 ⊢
        rcases hz : instS (F g) j R with - | y
        · exact absurd hz (q7 j (by omega) (by omega))
        simp only at e1w'
        rw [hz] at e1w'
        obtain ⟨v1, v2, v3⟩ := v4 y hz
        rw [show isSm (some y) = 1 from rfl]
        refine ⟨by decide, ?_⟩
        rw [if_neg (by decide), v1, v2, v3]
        refine c_setRingM kb (fun m5 f5 a b c' => ?_)
        have f5' : FJm k (k + 1) sp m m5 := fun c'' i z1 z2 z3 z4 => by rw [f5 c'' i (fun z => z1 ⟨by omega, by omega, by omega⟩), gg4 c'' i (fun z => z2 ⟨z.1, by omega⟩)]; exact f3 c'' i z1 z2 z3 z4
        refine l202 m5 f5' (by rw [f5 _ _ (by omega), gg4 _ _ (by omega)]; exact g3') (by rw [f5 _ _ (by omega), gg4 _ _ (by omega)]; exact g4') (by rw [f5 _ _ (by omega), gg4 _ _ (by omega)]; exact g6) (fun i y' hy => ?_) (fun q => by rw [e1w'] at q; cases q)
        rw [e1w'] at hy
        cases hy
        exact ⟨by rw [f5 _ _ (by omega), gg4 _ _ (by omega)]; exact g7'', by omega, a, b, c'⟩
    unfold P_X10_judgeName
    rw [q4]
    refine ⟨by constructor <;> omega, ?_⟩
    rw [if_neg (by omega)]
    have found : ∀ (r : Nat) (j : Int) (m2 : MM) (v : Int), FJm k (k + 1) sp m m2 → m2 582 13 = m 582 13 → m2 582 14 = m 582 14 → m2 598 k = -9 → m2 597 k = v - 1 → fd = some v → (1 ≤ v ∧ v ≤ 20) → (0 ≤ j ∧ j ≤ 10) → P_X10_judgeName_9 Q (r + 1) k j m2 := by
      intro r j m2 v f2 g3 g4 g8 g7 hf hv hj
      have done := l67 m2 f2 g3 g4 g8 (by rw [hf]; exact g7)
      have tx2 : FXM m2 g (F g) := tx.fr (fun c' i z => f2 c' i (by omega) (by omega) (by omega) (by omega))
      unfold P_X10_judgeName_9
      rw [f2 582 61 (by omega) (by omega) (by omega) (by omega), q4, tx2.2.1, g7]
      refine ⟨by omega, by constructor <;> omega, by constructor <;> omega, ?_⟩
      by_cases c1 : (F g).2.1 ≤ j
      · rw [if_pos c1]; exact done
      · rw [if_neg c1]
        refine ⟨kb, by constructor <;> omega, ?_⟩
        rw [if_pos (by omega)]
        exact done
    have L : ∀ (r : Nat) (j : Int), 0 ≤ j → j + r = (F g).2.1 → fd = fstI (F g).2.2.2.1 w r (j + 1) → P_X10_judgeName_9 Q (r + 2) k j m := by
      intro r
      induction r with
      | zero =>
        intro j j0 j1 z
        unfold P_X10_judgeName_9
        rw [q4, tx.2.1]
        refine ⟨by omega, by constructor <;> omega, by constructor <;> omega, ?_⟩
        rw [if_pos (by omega)]
        refine l67 m (FJm.refl m) rfl rfl e98 ?_
        rw [e97, z]
        rfl
      | succ r ih =>
        intro j j0 j1 z
        obtain ⟨t1, -⟩ := tx.2.2.2.2 (j + 1) (by omega) (by omega)
        rw [show j + 1 - 1 = j by omega] at t1
        show P_X10_judgeName_9 Q (r + 2 + 1) k j m
        unfold P_X10_judgeName_9
        rw [q4, tx.2.1, e97, t1, ew]
        refine ⟨by omega, by constructor <;> omega, by constructor <;> omega, ?_⟩
        rw [if_neg (by omega)]
        refine ⟨kb, by decide, ?_⟩
        rw [if_neg (by decide)]
        refine ⟨by omega, ok.2.2.2.2 (j + 1) (by omega) (by omega), hw, ?_⟩
        unfold fstI at z
        by_cases cc : (F g).2.2.2.1 (j + 1) = w
        · rw [if_pos cc] at z ⊢
          rintro m2 rfl
          refine found (r + 1) (j + 1) _ (j + 1) (fun c' i z1 _ _ _ => up_ne (fun q => z1 ⟨by omega, by omega, by omega⟩)) (up_ne (by omega)) (up_ne (by omega)) (by rw [up_ne (by omega)]; exact e98) (by rw [up_at]; omega) z (by omega) (by omega)
        · rw [if_neg cc] at z ⊢
          exact ih (j + 1) (by omega) (by omega) z
    exact ⟨_, L (F g).2.1.toNat 0 (by decide) (by omega) hfd⟩
  · unfold P_X10_judgeName
    rw [q3, ew]
    refine ⟨by decide, ?_⟩
    rw [if_pos (by decide)]
    have e1w : ∀ o, o = fstI vN w nv.toNat 0 → e.1 w = (match o with
        | none => none
        | some v => some (v, vR v)) := by
      intro o ho
      rw [q1, ho]
      rfl
    refine ⟨kb, c_variableM q6.2.1 q6.2.2.1 (fun j j0 j1 => ⟨(q6.2.2.2 j j0 j1).1, (q6.2.2.2 j j0 j1).2.2.2⟩) hw ?_⟩
    rintro m2 rfl m3 rfl
    obtain ⟨m3, hm3⟩ : ∃ m3, m3 = up (up m 597 k (encP (fstI vN w nv.toNat 0))) 596 k 1 := ⟨_, rfl⟩
    rw [← hm3]
    have f3 : FJm k (k + 1) sp m m3 := fun c' i z1 _ _ _ => by rw [hm3, up_ne (fun q => z1 ⟨by omega, by omega, by omega⟩), up_ne (fun q => z1 ⟨by omega, by omega, by omega⟩)]
    have g7 : m3 597 k = encP (fstI vN w nv.toNat 0) := by rw [hm3, up_ne (by omega), up_at]
    have g6 : m3 596 k = ro := by rw [hm3, up_at, q5]
    have g8 : m3 598 k = -9 := by rw [hm3, up_ne (by omega), up_ne (by omega)]; exact e98
    have g3 : m3 582 13 = m 582 13 := by rw [hm3, up_ne (by omega), up_ne (by omega)]
    have g4 : m3 582 14 = m 582 14 := by rw [hm3, up_ne (by omega), up_ne (by omega)]
    rw [g7]
    have nvb := q6.2.2.1
    rcases hv : fstI vN w nv.toNat 0 with - | v
    · have e1n := e1w none hv.symm
      refine ⟨by decide, ?_⟩
      rw [if_pos (show encP none < 0 by decide)]
      exact l202 m3 f3 g3 g4 g6 (fun i y hy => by rw [e1n] at hy; cases hy) (fun _ => ⟨by rw [g7, hv]; rfl, g8⟩)
    · have e1n := e1w (some v) hv.symm
      have vb := fstI_bd _ _ _ hv
      obtain ⟨y1, y2, y3, y4⟩ := q6.2.2.2 v (by omega) (by omega)
      have y2' : r3M m3 623 624 625 v (vR v) := y2.fr (fun c' z => f3 c' v (by omega) (by omega) (by omega) (by omega))
      rw [show encP (some v) = v from rfl]
      refine ⟨by constructor <;> omega, ?_⟩
      rw [if_neg (by omega), y2'.1, y2'.2.1, y2'.2.2]
      refine ⟨by omega, c_setRingM kb (fun m5 f5 a b c' => ?_)⟩
      refine l202 m5 (fun c'' i z1 z2 z3 z4 => by rw [f5 c'' i (fun z => z1 ⟨by omega, by omega, by omega⟩)]; exact f3 c'' i z1 z2 z3 z4) (by rw [f5 _ _ (by omega)]; exact g3) (by rw [f5 _ _ (by omega)]; exact g4) (by rw [f5 _ _ (by omega)]; exact g6) (fun i y hy => ?_) (fun q => by rw [e1n] at q; cases q)
      rw [e1n] at hy
      cases hy
      exact ⟨by rw [f5 _ _ (by omega), g7, hv]; rfl, by omega, a, b, c'⟩
end NAMEM
