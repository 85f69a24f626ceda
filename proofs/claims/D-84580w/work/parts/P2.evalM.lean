set_option maxRecDepth 100000
/-! the model: a line is worked -/
section EVALM
variable {Q : Int → MM → Prop} {m m' ms : MM} {F : Int → FnR} {n : Int} {S : SGm}
theorem c_eval {nr nv : Int} {rR vR : Int → R3} {vN : Int → Int} {varV resV : Int → VV} {x : R3} (hRg : RgO S n) (hFs : FsM F n) (I : VmI m F n S ms) (hE : EvO F n (JEl F n nr rR nv vN vR, 0, 0, varV, resV)) (hV : VvO m (JEl F n nr rR nv vN vR, 0, 0, varV, resV) (-1)) (hx : rgS (JEl F n nr rR nv vN vR) S.2.2.1.1 S.2.2.1.2 = some x) (e84 : m 582 84 = 0) (e86 : m 582 86 = 0) (e90 : m 582 90 = 0) (e91 : m 582 91 = 0) (e92 : m 582 92 = 0) (e61 : m 582 61 = -1) (e62 : m 582 62 = -9) (hT : TNM m (AnP m (JEl F n nr rR nv vN vR) 1) S.2.2.1.1 S.2.2.1.2 S.2.2.2.1 S.2.2.2.2.1 S.2.2.2.2.2) (hk : 0 ≤ S.2.2.1.1.1 ∧ S.2.2.1.1.1 ≤ 25) (w : okN S.2.2.1.1 S.2.2.1.2) (wc : wfT S.2.2.1.2) (hs : szT S.2.2.1.2 ≤ 150) (hw : wT S.2.2.1 ≤ 63) (ok : ∀ V s' m', ev F 20001 (JEl F n nr rR nv vN vR, 0, 0, varV, resV) S.2.2.1 (0, 0) = (.ok V, s') → VmI m' F n S ms → TNM m' (AnP m' (JEl F n nr rR nv vN vR) 1) S.2.2.1.1 S.2.2.1.2 S.2.2.2.1 S.2.2.2.2.1 S.2.2.2.2.2 → m' 582 84 = 0 → VM (m' 635) 0 V → m' 582 86 = 1 → m' 582 90 = s'.1 → m' 582 92 = s'.2 → Fvm 0 S.2.2.2.1 m m' → Q 0 m') (er : ∀ e s' m', ev F 20001 (JEl F n nr rR nv vN vR, 0, 0, varV, resV) S.2.2.1 (0, 0) = (.error e, s') → (1 ≤ e ∧ e ≤ 9) → VmI m' F n S ms → m' 582 84 = e → m' 582 90 = s'.1 → m' 582 92 = s'.2 → Fvm 0 S.2.2.2.1 m m' → Q 0 m') : P_X10_eval S.2.2.2.2.2 m Q := by
  unfold P_X10_eval
  intro m1 e1
  have f1 : ∀ c i, ¬ (c = 582 ∧ i = 99) → m1 c i = m c i := fun c i q => by rw [e1, up_ne q]
  have Hh : Hm F S (JEl F n nr rR nv vN vR) (-1) m := ⟨fun _ => hT, fun q => absurd q (by decide)⟩
  have S1 : VmS m1 F n S ms (JEl F n nr rR nv vN vR, 0, 0, varV, resV) (-1) (m 582 93) [] [] (0, 0) := by
    refine ⟨I.fr (fun c i a1 a2 => f1 c i (by omega)) (fun i hi => f1 _ _ (by omega)), ⟨by rw [f1 _ _ (by decide)]; exact e84, trivial, by rw [e1, up_at]; rfl, trivial, by rw [f1 _ _ (by decide)]; exact e86, by rw [f1 _ _ (by decide)]; exact e90, by rw [f1 _ _ (by decide)]; exact e92, by rw [f1 _ _ (by decide)]; exact e91, fun q => absurd q (by show ¬ ((2 : Int) ≤ 0); omega)⟩, ?_, ⟨.inl ⟨rfl, rfl⟩, by rw [f1 _ _ (by decide)]; exact e61, ?_, fun q => absurd q (by decide), Hh.fr (fun c i a1 a2 => f1 c i (by omega)), f1 _ _ (by decide)⟩, (by show (0 : Int) ≤ 0 ∧ (0 : Int) ≤ 20; decide), by decide, by decide⟩
    · have e9 : m1 629 = m 629 := funext (fun i => f1 _ _ (by omega))
      have e0 : m1 630 = m 630 := funext (fun i => f1 _ _ (by omega))
      unfold VvO
      rw [e9, e0]; exact hV
    · show m1 582 62 = -9
      rw [f1 _ _ (by decide)]; exact e62
  have F1 : Fvm 0 S.2.2.2.1 m m1 := ⟨fun c i a1 _ _ _ _ _ _ => f1 c i (by omega), fun i a => f1 _ _ (by omega)⟩
  refine c_laterP S1 (by decide) (fun m2 S2 F2 => ?_)
  obtain ⟨ne, eb⟩ := ev_end (F := F) (E := (JEl F n nr rR nv vN vR, 0, 0, varV, resV)) (a := S.2.2.1) (s := (0, 0)) (by decide)
  obtain ⟨N, H⟩ := simM (ms := ms) hRg hFs 20001 (JEl F n nr rR nv vN vR, 0, 0, varV, resV) (-1) S.2.2.1 (0, 0) x hE hk w wc hx ne
  refine ⟨1 + N, H S.2.2.2.2.2 Q m2 (m 582 93) [] [] 1 S2 (fun q => absurd q (by decide)) (fun m3 f3 H3 => ⟨_, _, H3.1 (by decide)⟩) ⟨by show ((0 : Nat) : Int) + (wT S.2.2.1 : Int) + 63 * (20 - 0) ≤ 1790; omega, by show ((0 : Nat) : Int) + 2 * ((szT S.2.2.1.2 : Int) + 1) + 320 * (20 - 0) ≤ 11000; omega⟩ ?_ (1 + N) (Nat.le_refl _)⟩
  have F12 := F1.trans F2
  generalize hev : ev F 20001 (JEl F n nr rR nv vN vR, 0, 0, varV, resV) S.2.2.1 (0, 0) = res at ne eb ⊢
  obtain ⟨o, s'⟩ := res
  cases o with
  | error e =>
    intro m3 e3 e3' e3'' b3 I3 f3 r hr
    obtain ⟨r, rfl⟩ : ∃ r', r = r' + 1 := ⟨r - 1, by omega⟩
    have eb' := eb e rfl
    have g := er e s' m3 hev eb' I3 e3 e3' e3'' (F12.trans f3)
    unfold P_X10_eval_10
    refine ⟨by constructor <;> omega, ?_⟩
    by_cases c : m3 582 99 ≤ 0
    · rw [if_pos c]; exact g
    · rw [if_neg c, e3]
      refine ⟨by constructor <;> omega, ?_⟩
      rw [if_neg (by omega)]; exact g
  | ok V =>
    intro m3 S3 f3 r hr
    obtain ⟨r, rfl⟩ : ∃ r', r = r' + 1 := ⟨r - 1, by omega⟩
    have ts : m3 582 99 = 0 := S3.ts
    unfold P_X10_eval_10
    rw [ts]
    refine ⟨by decide, ?_⟩
    rw [if_pos (by decide)]
    exact ok V s' m3 hev S3.1 (S3.2.2.2.1.2.2.2.2.1.1 (by decide)) S3.er S3.st.2 S3.tp S3.s1 S3.s2 (F12.trans f3)
end EVALM
