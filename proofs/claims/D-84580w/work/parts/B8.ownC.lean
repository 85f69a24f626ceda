set_option maxRecDepth 100000
/-! the component: rings of what is built in -/
section OWNC
variable {Q : Int → MM → Prop}
theorem encC_0 : encC ((0, 0, 0) : R3) = 0 := rfl
theorem encC_16 : encC ((1, 0, 0) : R3) = 16 := rfl
theorem of_000 {m : MM} (h : Q 0 m) : P_X11_of 0 0 0 m Q := of_enc (x := (0, 0, 0)) (ok3_n (by decide)) (by decide) h
theorem ok3_Q : ok3 ((1, 0, 0) : R3) := by unfold ok3; simp only; omega
theorem of_100 {m : MM} (h : Q 16 m) : P_X11_of 1 0 0 m Q := of_enc (x := (1, 0, 0)) ok3_Q (by decide) h
theorem c_fracC {m : MM} {x : R3} (hx : ok3 x) (hB : x.1 ≠ -2) (h : Q (encC (frac x)) m) : P_X11_fraction (encC x) m Q := by
  have g := encC_RG hx hB
  obtain ⟨g1, g2, g3, g4⟩ := id g
  refine c_base g ⟨by constructor <;> omega, ?_⟩
  unfold frac at h
  by_cases c : x.1 = 0
  · rw [if_pos c] at h ⊢
    unfold P_X11_withBase
    rw [withB (by decide), show 16 * 1 + encC x % 16 = encC ((1, x.2.1, x.2.2) : R3) by unfold encC; simp only [Int.reduceNeg]; rw [if_neg hB, if_neg (by decide)]; omega]
    exact h
  · rw [if_neg c] at h ⊢
    exact h
noncomputable def dvN (o : Option R3) : Int := match o with
  | none => 0
  | some j => @ite _ (dvds j) (Classical.propDecidable _) 1 0
theorem c_dividesC {m : MM} {o : Option R3} (ho : ∀ x, o = some x → ok3 x) (h : Q (dvN o) m) : P_X11_divides (encO o) m Q := by
  refine of_000 ⟨encO_ri ho, by decide, ?_⟩
  rcases o with - | j
  · rw [if_neg (by decide), if_pos (by decide)]
    exact h
  have oj := ho j rfl
  have ej := encC_bd oj
  rw [show encO (some j) = encC j from rfl]
  unfold dvN at h
  simp only at h
  by_cases c0 : j = (0, 0, 0)
  · rw [if_pos (by rw [c0]; rfl)]
    rw [if_pos (show dvds j from Or.inl c0)] at h
    exact h
  rw [if_neg (fun q => c0 (encC_inj oj (ok3_n (by decide)) (q.trans encC_0.symm)))]
  by_cases jB : j.1 = -2
  · rw [if_pos (by rw [ej.2.1 jB]; decide)]
    rw [if_neg (show ¬ dvds j from fun q => by rcases q with q | q; exact c0 q; exact q.1 jB)] at h
    exact h
  rw [if_neg (by have := ej.2.2 jB; omega)]
  have g := encC_RG oj jB
  obtain ⟨g1, g2, g3, g4⟩ := id g
  have okj : okb j.1 := by rcases oj with q | q; exact absurd q.1 jB; exact q.1
  refine c_size g ⟨by constructor <;> omega, ?_⟩
  by_cases s0 : j.2.2 = 0
  · rw [if_pos s0]
    refine c_depth g ⟨by constructor <;> omega, ?_⟩
    by_cases d1 : j.2.1 = 1
    · rw [if_pos d1]
      refine c_base g (c_isFieldC (Or.inl okj) ?_)
      by_cases cf : isFb j.1
      · rw [fbN_1 cf]
        refine ⟨by decide, ?_⟩
        rw [if_neg (by decide)]
        rw [if_pos (show dvds j from Or.inr ⟨jB, s0, d1, cf⟩)] at h
        exact h
      · rw [fbN_0 cf]
        refine ⟨by decide, ?_⟩
        rw [if_pos rfl]
        rw [if_neg (show ¬ dvds j from fun q => by rcases q with q | q; exact c0 q; exact cf q.2.2.2)] at h
        exact h
    · rw [if_neg d1]
      rw [if_neg (show ¬ dvds j from fun q => by rcases q with q | q; exact c0 q; exact d1 q.2.2.1)] at h
      exact h
  · rw [if_neg s0]
    rw [if_neg (show ¬ dvds j from fun q => by rcases q with q | q; exact c0 q; exact s0 q.2.1)] at h
    exact h
theorem dvN_cs {o : Option R3} : dvN o = 0 ∨ dvN o = 1 := by
  unfold dvN
  split
  · exact Or.inl rfl
  · split
    · exact Or.inr rfl
    · exact Or.inl rfl
theorem c_ofTwoC {m : MM} {f : Int} {a b : R3} (hf : f = 0 ∨ f = 2 ∨ f = 3) (ha : ok3 a) (hb : ok3 b) (h : Q (encO (fn2S f a b)) m) : P_X5_ofTwo f (encC a) (encC b) m Q := by
  have ea := encC_bd ha
  have eb := encC_bd hb
  refine ⟨by constructor <;> omega, ?_⟩
  unfold fn2S at h
  by_cases f0 : f = 0
  · rw [if_pos f0] at h ⊢
    refine c_join ha hb (c_dividesC (fun x hx => jn_ok ha hb hx) ⟨by have := dvN_cs (o := jn a b); constructor <;> omega, ?_⟩)
    rcases hj : jn a b with - | j
    · rw [hj] at h
      rw [if_pos (show dvN none = 0 from rfl)]
      exact h
    · rw [hj] at h
      simp only at h
      by_cases cd : dvds j
      · have : dvN (some j) = 1 := if_pos cd
        rw [this, if_neg (by decide)]
        rw [if_pos cd] at h
        refine c_join ha hb ?_
        rw [hj]
        exact h
      · have : dvN (some j) = 0 := if_neg cd
        rw [this, if_pos rfl]
        rw [if_neg cd] at h
        exact h
  rw [if_neg f0] at h ⊢
  refine ⟨ea.1, ?_⟩
  by_cases aB : a.1 = -2
  · rw [if_pos (by rw [ea.2.1 aB]; decide)]
    rw [if_pos (Or.inl aB)] at h
    exact h
  rw [if_neg (by have := ea.2.2 aB; omega)]
  have g := encC_RG ha aB
  obtain ⟨g1, g2, g3, g4⟩ := id g
  refine c_size g ⟨by constructor <;> omega, ?_⟩
  by_cases s0 : a.2.2 = 0
  · rw [if_pos s0]
    refine c_depth g ⟨by constructor <;> omega, ?_⟩
    by_cases d0 : a.2.1 = 0
    · rw [if_pos d0]
      rw [if_pos (Or.inr (Or.inr d0))] at h
      exact h
    rw [if_neg d0]
    rw [if_neg (by omega)] at h
    have al : ok3 ((a.1, a.2.1 - 1, 0) : R3) := by unfold ok3 at ha ⊢; simp only; omega
    have el : encC a - 4 = encC ((a.1, a.2.1 - 1, 0) : R3) := by unfold encC; simp only; rw [if_neg aB, if_neg aB]; omega
    by_cases f2 : f = 2
    · rw [if_pos f2] at h ⊢
      refine of_000 ⟨eb.1, by decide, ?_⟩
      by_cases cb : b = (0, 0, 0)
      · rw [if_pos cb] at h
        rw [if_pos (by rw [cb]; rfl), el]
        exact h
      · rw [if_neg cb] at h
        rw [if_neg (fun q => cb (encC_inj hb (ok3_n (by decide)) (q.trans encC_0.symm)))]
        exact h
    · rw [if_neg f2] at h ⊢
      refine ⟨eb.1, ?_⟩
      by_cases bB : b.1 = -2
      · rw [if_pos bB] at h
        rw [if_neg (by rw [eb.2.1 bB]; decide)]
        exact h
      · rw [if_neg bB] at h
        rw [if_pos (eb.2.2 bB), el]
        exact c_join al hb h
  · rw [if_neg s0]
    rw [if_pos (Or.inr (Or.inl s0))] at h
    exact h
theorem c_ofOneC {m : MM} {f : Int} {a : R3} (hf : f = 1 ∨ 4 ≤ f ∧ f ≤ 13) (ha : ok3 a) (h : Q (encO (fn1S f a)) m) : P_X5_ofOne f (encC a) m Q := by
  have ea := encC_bd ha
  refine ⟨ea.1, ?_⟩
  unfold fn1S at h
  by_cases aB : a.1 = -2
  · rw [if_neg (by rw [ea.2.1 aB]; decide)]
    rw [if_pos aB] at h
    exact h
  rw [if_pos (ea.2.2 aB)]
  rw [if_neg aB] at h
  have g := encC_RG ha aB
  obtain ⟨g1, g2, g3, g4⟩ := id g
  have oka : okb a.1 := by rcases ha with q | q; exact absurd q.1 aB; exact q.1
  have rd : RI a.2.1 := by constructor <;> omega
  have rs : RI a.2.2 := by constructor <;> omega
  have rb : RI a.1 := by constructor <;> omega
  -- parts that both have
  have l129 : f = 5 ∨ f = 6 → ∀ v, (v = 0 ↔ a.2.2 = 0) → RI v → P_X5_ofOne_129 Q (encC a) v m := by
    intro hf v hv rv
    rw [if_neg (by omega), if_neg (by omega), if_pos hf] at h
    refine ⟨rv, ?_⟩
    by_cases c : a.2.2 = 0
    · rw [if_pos (hv.2 c)]
      rw [if_neg (fun q => q c)] at h
      exact h
    · rw [if_neg (fun q => c (hv.1 q))]
      rw [if_pos c] at h
      refine c_plain g ?_
      have : encO (some (a.1, a.2.1, 0)) = 16 * a.1 + 4 * a.2.1 := by unfold encO encC; simp only; rw [if_neg aB]; omega
      rw [this] at h
      exact h
  have l142 : f = 7 ∨ f = 8 → ∀ v, (v = 0 ↔ a.2.2 = 0) → RI v → P_X5_ofOne_142 Q (encC a) v m := by
    intro hf v hv rv
    rw [if_neg (by omega), if_neg (by omega), if_neg (by omega), if_pos hf] at h
    refine ⟨rv, ?_⟩
    by_cases c : a.2.2 = 0
    · rw [if_pos (hv.2 c)]
      rw [if_neg (fun q => q c)] at h
      exact h
    · rw [if_neg (fun q => c (hv.1 q))]
      rw [if_pos c] at h
      exact h
  have l172 : f = 9 → a.2.1 = 0 → (a.1 = 0 ∨ isFb a.1) → P_X5_ofOne_172 Q (encC a) m := by
    intro hf d0 hb
    rw [if_neg (by omega), if_neg (by omega), if_neg (by omega), if_neg (by omega), if_pos hf, if_pos ⟨d0, hb⟩] at h
    exact c_fracC ha aB h
  have l9 : f = 9 → P_X11_depth (encC a) m (fun r4 m4 => (RI r4) ∧ (if r4 = 0 then (RI a.1) ∧ (if a.1 = 0 then P_X5_ofOne_172 Q (encC a) m4 else P_X11_isField a.1 m4 (fun r5 m5 => (RI r5) ∧ (if r5 = 0 then Q (-1) m5 else P_X5_ofOne_172 Q (encC a) m5))) else Q (-1) m4)) := by
    intro hf
    refine c_depth g ⟨rd, ?_⟩
    by_cases d0 : a.2.1 = 0
    · rw [if_pos d0]
      refine ⟨rb, ?_⟩
      by_cases b0 : a.1 = 0
      · rw [if_pos b0]; exact l172 hf d0 (Or.inl b0)
      · rw [if_neg b0]
        refine c_isFieldC (Or.inl oka) ?_
        by_cases cf : isFb a.1
        · rw [fbN_1 cf]
          refine ⟨by decide, ?_⟩
          rw [if_neg (by decide)]
          exact l172 hf d0 (Or.inr cf)
        · rw [fbN_0 cf]
          refine ⟨by decide, ?_⟩
          rw [if_pos rfl]
          rw [if_neg (by omega), if_neg (by omega), if_neg (by omega), if_neg (by omega), if_pos hf, if_neg (fun q => by rcases q.2 with w | w; exact b0 w; exact cf w)] at h
          exact h
    · rw [if_neg d0]
      rw [if_neg (by omega), if_neg (by omega), if_neg (by omega), if_neg (by omega), if_pos hf, if_neg (fun q => d0 q.1)] at h
      exact h
  have l10 : f = 10 → ∀ v, (v = 0 ↔ a.2.2 = 0) → RI v → (RI v) ∧ (if v = 0 then Q (-1) m else P_X11_depth (encC a) m (fun r6 m6 => (RI r6) ∧ (if r6 = 0 then P_X11_of a.1 1 0 m6 (fun r7 m7 => Q r7 m7) else Q (-1) m6))) := by
    intro hf v hv rv
    rw [if_neg (by omega), if_neg (by omega), if_neg (by omega), if_neg (by omega), if_neg (by omega), if_pos hf] at h
    refine ⟨rv, ?_⟩
    by_cases c : a.2.2 = 0
    · rw [if_pos (hv.2 c)]
      rw [if_neg (fun q => q.1 c)] at h
      exact h
    · rw [if_neg (fun q => c (hv.1 q))]
      refine c_depth g ⟨rd, ?_⟩
      by_cases d0 : a.2.1 = 0
      · rw [if_pos d0]
        rw [if_pos ⟨c, d0⟩] at h
        exact of_enc (x := (a.1, 1, 0)) (by unfold ok3 at ha ⊢; simp only; omega) aB h
      · rw [if_neg d0]
        rw [if_neg (fun q => d0 q.2)] at h
        exact h
  have l241 : 12 ≤ f → P_X5_ofOne_241 Q (encC a) m := by
    intro hf
    rw [if_neg (by omega), if_neg (by omega), if_neg (by omega), if_neg (by omega), if_neg (by omega), if_neg (by omega), if_neg (by omega)] at h
    refine of_000 ⟨ea.1, by decide, ?_⟩
    by_cases c0 : a = (0, 0, 0)
    · rw [if_pos (by rw [c0]; rfl)]
      rw [if_pos (Or.inl c0)] at h
      exact of_000 h
    · rw [if_neg (fun q => c0 (encC_inj ha (ok3_n (by decide)) (q.trans encC_0.symm)))]
      refine of_100 ⟨by decide, ?_⟩
      by_cases c1 : a = (1, 0, 0)
      · rw [if_pos (by rw [c1]; rfl)]
        rw [if_pos (Or.inr c1)] at h
        exact of_000 h
      · rw [if_neg (fun q => c1 (encC_inj ha ok3_Q (q.trans encC_16.symm)))]
        rw [if_neg (fun q => by rcases q with q | q; exact c0 q; exact c1 q)] at h
        exact h
  refine c_size g ⟨rs, ?_⟩
  by_cases s0 : a.2.2 = 0
  · rw [if_pos s0]
    refine c_depth g ⟨rd, c_size g ⟨rs, c_base g ⟨by constructor <;> omega, ?_⟩⟩⟩
    have v0 : (if a.2.2 ≤ 0 then (0 : Int) else 1) = 0 := if_pos (by omega)
    by_cases k1 : f = 1
    · rw [if_pos k1] at h ⊢
      by_cases d0 : a.2.1 = 0
      · rw [if_pos (show a.2.1 ≤ 0 by omega)]
        refine ⟨by decide, ?_⟩
        rw [if_pos rfl]
        rw [if_neg (fun q => q.2 d0)] at h
        exact h
      · rw [if_neg (show ¬ a.2.1 ≤ 0 by omega)]
        refine ⟨by decide, ?_⟩
        rw [if_neg (by decide)]
        rw [if_pos ⟨s0, d0⟩] at h
        exact of_000 h
    rw [if_neg k1]
    by_cases k4 : f = 4
    · rw [if_pos k4]
      rw [if_neg k1, if_pos k4] at h
      by_cases d0 : a.2.1 = 0
      · rw [if_pos (show a.2.1 ≤ 0 by omega)]
        refine ⟨by decide, ?_⟩
        rw [if_pos rfl]
        rw [if_neg (fun q => q.2 d0)] at h
        exact h
      · rw [if_neg (show ¬ a.2.1 ≤ 0 by omega)]
        refine ⟨by decide, ?_⟩
        rw [if_neg (by decide)]
        rw [if_pos ⟨s0, d0⟩] at h
        exact h
    rw [if_neg k4]
    by_cases k5 : f = 5
    · rw [if_pos k5, v0]; exact l129 (Or.inl k5) 0 ⟨fun _ => s0, fun _ => rfl⟩ (by decide)
    rw [if_neg k5]
    by_cases k6 : f = 6
    · rw [if_pos k6, v0]; exact l129 (Or.inr k6) 0 ⟨fun _ => s0, fun _ => rfl⟩ (by decide)
    rw [if_neg k6]
    by_cases k7 : f = 7
    · rw [if_pos k7, v0]; exact l142 (Or.inl k7) 0 ⟨fun _ => s0, fun _ => rfl⟩ (by decide)
    rw [if_neg k7]
    by_cases k8 : f = 8
    · rw [if_pos k8, v0]; exact l142 (Or.inr k8) 0 ⟨fun _ => s0, fun _ => rfl⟩ (by decide)
    rw [if_neg k8]
    by_cases k9 : f = 9
    · rw [if_pos k9]; exact l9 k9
    rw [if_neg k9]
    by_cases k10 : f = 10
    · rw [if_pos k10, v0]; exact l10 k10 0 ⟨fun _ => s0, fun _ => rfl⟩ (by decide)
    rw [if_neg k10]
    by_cases k11 : f = 11
    · rw [if_pos k11]
      rw [if_neg (by omega), if_neg (by omega), if_neg (by omega), if_neg (by omega), if_neg (by omega), if_neg (by omega), if_pos k11] at h
      by_cases d0 : a.2.1 = 0
      · rw [if_pos (show a.2.1 ≤ 0 by omega)]
        refine ⟨by decide, ?_⟩
        rw [if_pos rfl]
        rw [if_neg (fun q => by have := q.2.1; omega)] at h
        exact h
      · rw [if_neg (show ¬ a.2.1 ≤ 0 by omega)]
        refine ⟨by decide, ?_⟩
        rw [if_neg (by decide)]
        refine c_depth g ⟨rd, ?_⟩
        by_cases d1 : a.2.1 = 1
        · rw [if_pos d1]
          refine ⟨rb, ?_⟩
          by_cases b1 : a.1 ≤ 1
          · rw [if_pos b1]
            rw [if_neg (fun q => by have := q.2.2.1; omega)] at h
            exact h
          · rw [if_neg b1]
            refine c_isPrimeC (Or.inl oka) ?_
            by_cases cp : isPb a.1
            · rw [pbN_1 cp]
              refine ⟨by decide, ?_⟩
              rw [if_neg (by decide)]
              rw [if_pos ⟨s0, d1, by omega, cp⟩] at h
              exact of_000 h
            · rw [pbN_0 cp]
              refine ⟨by decide, ?_⟩
              rw [if_pos rfl]
              rw [if_neg (fun q => cp q.2.2.2)] at h
              exact h
        · rw [if_neg d1]
          rw [if_neg (fun q => d1 q.2.1)] at h
          exact h
    rw [if_neg k11]
    exact l241 (by omega)
  · rw [if_neg s0]
    refine c_size g ⟨rs, c_base g ⟨by constructor <;> omega, ?_⟩⟩
    have v1 : (if a.2.2 ≤ 0 then (0 : Int) else 1) = 1 := if_neg (by omega)
    have i1 : ((1 : Int) = 0 ↔ a.2.2 = 0) := ⟨fun q => absurd q (by decide), fun q => absurd q s0⟩
    by_cases k1 : f = 1
    · rw [if_pos k1] at h ⊢
      rw [if_pos rfl]
      rw [if_neg (fun q => s0 q.1)] at h
      exact h
    rw [if_neg k1]
    by_cases k4 : f = 4
    · rw [if_pos k4, if_pos rfl]
      rw [if_neg k1, if_pos k4, if_neg (fun q => s0 q.1)] at h
      exact h
    rw [if_neg k4]
    by_cases k5 : f = 5
    · rw [if_pos k5, v1]; exact l129 (Or.inl k5) 1 i1 (by decide)
    rw [if_neg k5]
    by_cases k6 : f = 6
    · rw [if_pos k6, v1]; exact l129 (Or.inr k6) 1 i1 (by decide)
    rw [if_neg k6]
    by_cases k7 : f = 7
    · rw [if_pos k7, v1]; exact l142 (Or.inl k7) 1 i1 (by decide)
    rw [if_neg k7]
    by_cases k8 : f = 8
    · rw [if_pos k8, v1]; exact l142 (Or.inr k8) 1 i1 (by decide)
    rw [if_neg k8]
    by_cases k9 : f = 9
    · rw [if_pos k9]; exact l9 k9
    rw [if_neg k9]
    by_cases k10 : f = 10
    · rw [if_pos k10, v1]; exact l10 k10 1 i1 (by decide)
    rw [if_neg k10]
    by_cases k11 : f = 11
    · rw [if_pos k11, if_pos rfl]
      rw [if_neg (by omega), if_neg (by omega), if_neg (by omega), if_neg (by omega), if_neg (by omega), if_neg (by omega), if_pos k11, if_neg (fun q => s0 q.1)] at h
      exact h
    rw [if_neg k11]
    exact l241 (by omega)
end OWNC
