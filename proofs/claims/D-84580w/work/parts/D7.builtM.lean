set_option maxRecDepth 100000
/-! the model: rings of what is built in -/
section BUILTM
variable {Q : Int → MM → Prop} {T : MM → Prop} {e : JE} {ro : Int} {d : ND} {c : TT} {m m1 m2 : MM} {n : Nte} {lo hi k sp : Int} {rc : List R3} {x : R3} {dep : Nat}
theorem ite01 {p : Prop} (h : Decidable p) : (if p then (1 : Int) else 0) = 0 ↔ ¬ p := by
  by_cases q : p
  · rw [if_pos q]; exact ⟨fun z => absurd z (by decide), fun z => absurd q z⟩
  · rw [if_neg q]; exact ⟨fun _ => q, fun _ => rfl⟩
theorem fn2S_r {f : Int} {a b : R3} (h2 : f = 2) : fn2S f a b = if a.1 = -2 ∨ a.2.2 ≠ 0 ∨ a.2.1 = 0 then none else (if b = (0, 0, 0) then some (a.1, a.2.1 - 1, 0) else none) := by
  unfold fn2S
  rw [if_neg (by omega), if_pos h2]
theorem fn2S_3 {f : Int} {a b : R3} (h3 : f = 3) : fn2S f a b = if a.1 = -2 ∨ a.2.2 ≠ 0 ∨ a.2.1 = 0 then none else (if b.1 = -2 then none else jn (a.1, a.2.1 - 1, 0) b) := by
  unfold fn2S
  rw [if_neg (by omega), if_neg (show ¬ f = 2 by omega)]
theorem okd (h : ok3 x) (q : x.2.1 ≠ 0 ∨ x.2.2 ≠ 0) : x.1 ≠ -2 := fun z => by
  have := ok3_tB h z
  rw [this] at q
  rcases q with q | q <;> exact q rfl
theorem built70 {G : MM → Prop} {f na nb i0 i1 : Int} {a : R3} {l : List R3} (kb : 0 ≤ k ∧ k < 12000) (hf : 0 ≤ f ∧ f ≤ 13) (hB : BFM m2) (e05 : m2 605 k = bfn f) (e91 : m2 591 k = i0) (hi0 : 0 ≤ i0 ∧ i0 < 12000) (e94 : m2 594 i0 = i1) (ena : m2 591 i0 = na) (ka : 0 ≤ na ∧ na < 12000) (hll : l.length ≤ 100000) (ra : rgM m2 na (some a)) (oa : ok3 a) (hl : l = [] ∧ i1 = -1 ∨ ∃ b l', l = b :: l' ∧ (0 ≤ i1 ∧ i1 < 12000) ∧ m2 591 i1 = nb ∧ (0 ≤ nb ∧ nb < 12000) ∧ rgM m2 nb (some b) ∧ ok3 b) (hG : ∀ m m', G m → (∀ c i, ¬ ((c = 598 ∨ c = 599 ∨ c = 600) ∧ i = k) → ¬ (c = 582 ∧ 65 ≤ i ∧ i ≤ 67) → m' c i = m c i) → G m') (g3 : G (up m2 597 k f)) (good : ∀ m' y, fnS f (a :: l) = some y → G m' → rgM m' k (some y) → Q 0 m') (bad : ∀ m', fnS f (a :: l) = none → G m' → P_X10_wrong k m' (fun _ m'' => Q 0 m'')) : P_X10_judgeBuilt_70 (R_X10_judge dep) Q T k 1 ((l.length : Int) + 1) m2 := by
  have set : ∀ (o : Option R3) {m4 : MM} {b' d' s' v : Int}, o = fnS f (a :: l) → G m4 → RI v → (v = 0 ↔ o = none) → (∀ y, o = some y → b' = bM y.1 ∧ d' = y.2.1 ∧ s' = y.2.2) → P_X10_setRing k b' d' s' m4 (fun _ m' => P_X10_judgeBuilt_698 (R_X10_judge dep) Q T k v m') := by
    intro o m4 b' d' s' v ho g4 rv hv hy
    refine c_setRingM kb (fun m5 f5 p1 p2 p3 => ⟨rv, ?_⟩)
    have g5 := hG m4 m5 g4 (fun c i q1 _ => f5 c i q1)
    rcases o with - | y
    · rw [if_pos (hv.2 rfl)]
      exact bad m5 ho.symm g5
    · rw [if_neg (fun q => by have := hv.1 q; cases this)]
      obtain ⟨y1, y2, y3⟩ := hy y rfl
      exact good m5 y ho.symm g5 ⟨p1.trans y1, p2.trans y2, p3.trans y3⟩
  have ab := bM_bd (ok3_b oa)
  have ar := ok3_bd oa
  have ol := okd oa
  refine ⟨by decide, ?_⟩
  rw [if_neg (by decide), e05]
  refine ⟨kb, c_builtM hB ⟨hf.1, by omega⟩ ?_⟩
  rintro m3 rfl
  have z91 : up m2 597 k f 591 k = i0 := by rw [up_ne (by omega)]; exact e91
  rw [z91]
  have z94 : up m2 597 k f 594 i0 = i1 := by rw [up_ne (by omega)]; exact e94
  have zna : up m2 597 k f 591 i0 = na := by rw [up_ne (by omega)]; exact ena
  rw [z94, zna]
  have a1 : up m2 597 k f 598 na = bM a.1 := by rw [up_ne (by omega)]; exact ra.1
  have a2 : up m2 597 k f 599 na = a.2.1 := by rw [up_ne (by omega)]; exact ra.2.1
  have a3 : up m2 597 k f 600 na = a.2.2 := by rw [up_ne (by omega)]; exact ra.2.2
  rw [a1, a2, a3]
  have hnb : 0 ≤ i1 → up m2 597 k f 591 i1 = nb := fun q => by
    rw [up_ne (by omega)]
    rcases hl with ⟨-, z⟩ | ⟨b, l', -, -, z, -⟩
    · omega
    · exact z
  have hi1 : -1 ≤ i1 ∧ i1 < 12000 := by
    rcases hl with ⟨-, z⟩ | ⟨b, l', -, z, -⟩ <;> omega
  have hvb : ∀ b l', l = b :: l' → up m2 597 k f 598 nb = bM b.1 ∧ up m2 597 k f 599 nb = b.2.1 ∧ up m2 597 k f 600 nb = b.2.2 ∧ ok3 b ∧ (0 ≤ nb ∧ nb < 12000) ∧ 0 ≤ i1 := by
    intro b l' q
    rcases hl with ⟨z, -⟩ | ⟨b', l'', z, y1, y2, y3, y4, y5⟩
    · rw [z] at q; cases q
    · rw [z] at q
      cases q
      exact ⟨by rw [up_ne (by omega)]; exact y4.1, by rw [up_ne (by omega)]; exact y4.2.1, by rw [up_ne (by omega)]; exact y4.2.2, y5, y3, y1.1⟩
  obtain ⟨m3, hm3⟩ : ∃ m3, m3 = up m2 597 k f := ⟨_, rfl⟩
  rw [← hm3] at g3 a1 a2 a3 hnb hvb ⊢
  clear hm3 z91 z94 zna e91 e94 ena ra e05 hB
  have wt : (if (if f = 0 then 1 else (if f = 2 then 1 else (if f = 3 then 1 else 0 : Int) : Int) : Int) = 0 then 1 else 2 : Int) = if f = 0 ∨ f = 2 ∨ f = 3 then 2 else 1 := by
    by_cases q0 : f = 0
    · rw [if_pos q0, if_neg (by decide), if_pos (by omega)]
    · rw [if_neg q0]
      by_cases q2 : f = 2
      · rw [if_pos q2, if_neg (by decide), if_pos (by omega)]
      · rw [if_neg q2]
        by_cases q3 : f = 3
        · rw [if_pos q3, if_neg (by decide), if_pos (by omega)]
        · rw [if_neg q3, if_pos rfl, if_neg (by omega)]
  rw [wt]
  refine ⟨hi0, ⟨by constructor <;> omega, by split; exact ⟨by omega, by omega⟩; trivial⟩, by constructor <;> omega, by (repeat' split) <;> decide, by constructor <;> omega, by split <;> decide, ?_⟩
  by_cases ftw : f = 0 ∨ f = 2 ∨ f = 3
  · rw [if_pos ftw]
    by_cases l1 : (l.length : Int) + 1 = 2
    · rw [if_pos l1]
      obtain ⟨b, rfl⟩ : ∃ b, l = [b] := len1 (by omega)
      obtain ⟨b1, b2, b3, ob, nbb, i1p⟩ := hvb b [] rfl
      have fns : fnS f [a, b] = fn2S f a b := by
        show (if f = 0 ∨ f = 2 ∨ f = 3 then fn2S f a b else none) = _
        rw [if_pos ftw]
      rw [fns] at set
      have bb := bM_bd (ok3_b ob)
      have br := ok3_bd ob
      refine ⟨ka, ⟨by constructor <;> omega, by split; trivial; constructor <;> omega⟩, by constructor <;> omega, ?_⟩
      rw [if_pos i1p, hnb i1p]
      have pv : (if a.2.1 ≤ 0 then (0 : Int) else (if a.2.2 = 0 then 1 else 0 : Int)) = 0 ↔ (a.1 = -2 ∨ a.2.2 ≠ 0 ∨ a.2.1 = 0) := by
        by_cases d0 : a.2.1 ≤ 0
        · rw [if_pos d0]; exact ⟨fun _ => Or.inr (Or.inr (by omega)), fun _ => rfl⟩
        · rw [if_neg d0]
          have nB := ol (Or.inl (by omega))
          by_cases s0 : a.2.2 = 0
          · rw [if_pos s0]; exact ⟨fun z => absurd z (by decide), fun z => by rcases z with z | z | z; exact absurd z nB; exact absurd s0 z; omega⟩
          · rw [if_neg s0]; exact ⟨fun _ => Or.inr (Or.inl s0), fun _ => rfl⟩
      have rpv : RI (if a.2.1 ≤ 0 then (0 : Int) else (if a.2.2 = 0 then 1 else 0 : Int)) := by split; decide; split <;> decide
      by_cases f0 : f = 0
      · rw [if_pos f0]
        have h2 : fn2S f a b = (match jn a b with
            | none => none
            | some j => @ite _ (dvds j) (Classical.propDecidable _) (some j) none) := by
          unfold fn2S
          rw [if_pos f0]
          rcases jn a b with - | j <;> rfl
        unfold P_X10_joinsParts
        rw [a1, a2, a3, b1, b2, b3]
        refine ⟨ka, nbb, c_joins oa ob ?_⟩
        have gj : G (jm m3 (bM a.1) a.2.1 a.2.2 (bM b.1) b.2.1 b.2.2) := hG m3 _ g3 (fun c i _ q2 => jm_o (fun z => q2 ⟨z.1, by omega, by omega⟩))
        rcases hj : jn a b with - | j
        · rw [hj] at h2
          refine ⟨Or.inl rfl, by decide, ?_⟩
          rw [if_pos (show (if (none : Option R3).isSome = true then (1 : Int) else 0) = 0 from rfl)]
          exact set none h2.symm gj (by decide) ⟨fun _ => rfl, fun _ => rfl⟩ (fun y hy => by cases hy)
        · rw [hj] at h2
          simp only at h2
          have oj := jn_ok oa ob hj
          have jv := jn_vals oa ob hj
          rw [show (if (some j).isSome = true then (1 : Int) else 0) = 1 from rfl]
          refine ⟨Or.inr rfl, by decide, ?_⟩
          rw [if_neg (by decide)]
          have v1 : jm m3 (bM a.1) a.2.1 a.2.2 (bM b.1) b.2.1 b.2.2 582 65 = bM j.1 := by rw [jm_65]; exact jv.1
          have v2 : jm m3 (bM a.1) a.2.1 a.2.2 (bM b.1) b.2.1 b.2.2 582 66 = j.2.1 := by rw [jm_66]; exact jv.2.1
          have v3 : jm m3 (bM a.1) a.2.1 a.2.2 (bM b.1) b.2.1 b.2.2 582 67 = j.2.2 := by rw [jm_67]; exact jv.2.2
          refine c_isDividedM oj v1 v2 v3 (fun cd => ⟨by decide, ?_⟩) (fun cd => ⟨by decide, ?_⟩)
          · rw [v1, v2, v3, if_neg (show ¬ (1 : Int) = 0 by decide)]
            rw [if_pos cd] at h2
            exact set (some j) h2.symm gj (by decide) ⟨fun z => absurd z (by decide), fun z => by cases z⟩ (fun y hy => by cases hy; exact ⟨rfl, rfl, rfl⟩)
          · rw [if_pos rfl]
            rw [if_neg cd] at h2
            exact set none h2.symm gj (by decide) ⟨fun _ => rfl, fun _ => rfl⟩ (fun y hy => by cases hy)
      rw [if_neg f0, if_neg (by omega)]
      by_cases f2 : f = 2
      · rw [if_pos f2]
        have h2 := fn2S_r (a := a) (b := b) f2
        refine ⟨rpv, ?_⟩
        by_cases p0 : a.1 = -2 ∨ a.2.2 ≠ 0 ∨ a.2.1 = 0
        · rw [if_pos (pv.2 p0)]
          rw [if_pos p0] at h2
          exact set none h2.symm g3 (by decide) ⟨fun _ => rfl, fun _ => rfl⟩ (fun y hy => by cases hy)
        · rw [if_neg (fun z => p0 (pv.1 z))]
          rw [if_neg p0] at h2
          have fin : ∀ v, (v = 0 ↔ ¬ b = (0, 0, 0)) → RI v → (RI v) ∧ P_X10_setRing k (bM a.1) (a.2.1 - 1) 0 m3 (fun _ m' => P_X10_judgeBuilt_698 (R_X10_judge dep) Q T k (if v = 0 then 0 else 1 : Int) m') := by
            intro v hv rv
            refine ⟨rv, ?_⟩
            by_cases z0 : b = (0, 0, 0)
            · rw [if_pos z0] at h2
              rw [if_neg (fun z => hv.1 z z0)]
              exact set _ h2.symm g3 (by decide) ⟨fun z => absurd z (by decide), fun z => by cases z⟩ (fun y hy => by cases hy; exact ⟨rfl, rfl, rfl⟩)
            · rw [if_neg z0] at h2
              rw [if_pos (hv.2 z0)]
              exact set none h2.symm g3 (by decide) ⟨fun _ => rfl, fun _ => rfl⟩ (fun y hy => by cases hy)
          unfold P_X10_isNumber
          rw [b1, b2, b3]
          refine ⟨nbb, br.1, by decide, ?_⟩
          by_cases c0 : bM b.1 = 0
          · rw [if_pos c0]
            refine ⟨by constructor <;> omega, ?_⟩
            by_cases c1 : b.2.1 = 0
            · rw [if_pos c1]
              refine ⟨by constructor <;> omega, ?_⟩
              by_cases c2 : b.2.2 = 0
              · rw [if_pos c2]
                exact fin 1 ⟨fun z => absurd z (by decide), fun z => absurd (Prod.ext (bb.2.2.2.1.1 c0) (Prod.ext c1 c2)) z⟩ (by decide)
              · rw [if_neg c2]
                exact fin 0 ⟨fun _ z => c2 (by rw [z]), fun _ => rfl⟩ (by decide)
            · rw [if_neg c1]
              exact fin 0 ⟨fun _ z => c1 (by rw [z]), fun _ => rfl⟩ (by decide)
          · rw [if_neg c0]
            exact fin 0 ⟨fun _ z => c0 (by rw [z]; rfl), fun _ => rfl⟩ (by decide)
      rw [if_neg f2, if_pos (by omega)]
      have h2 := fn2S_3 (f := f) (a := a) (b := b) (by omega)
      refine ⟨rpv, ?_⟩
      by_cases p0 : a.1 = -2 ∨ a.2.2 ≠ 0 ∨ a.2.1 = 0
      · rw [if_pos (pv.2 p0)]
        rw [if_pos p0] at h2
        exact set none h2.symm g3 (by decide) ⟨fun _ => rfl, fun _ => rfl⟩ (fun y hy => by cases hy)
      rw [if_neg (fun z => p0 (pv.1 z))]
      rw [if_neg p0] at h2
      rw [b1, b2, b3]
      refine ⟨nbb, br.1, ?_⟩
      by_cases bB : b.1 = -2
      · rw [if_pos (bb.2.2.1.2 bB)]
        rw [if_pos bB] at h2
        exact set none h2.symm g3 (by decide) ⟨fun _ => rfl, fun _ => rfl⟩ (fun y hy => by cases hy)
      rw [if_neg (fun z => bB (bb.2.2.1.1 z))]
      rw [if_neg bB] at h2
      have al : ok3 ((a.1, a.2.1 - 1, 0) : R3) := by unfold ok3 at oa ⊢; simp only; omega
      refine c_joins (x := (a.1, a.2.1 - 1, 0)) al ob ?_
      have gj : G (jm m3 (bM a.1) (a.2.1 - 1) 0 (bM b.1) b.2.1 b.2.2) := hG m3 _ g3 (fun c i _ q2 => jm_o (fun z => q2 ⟨z.1, by omega, by omega⟩))
      rcases hj : jn (a.1, a.2.1 - 1, 0) b with - | j
      · rw [hj] at h2
        rw [show (if (none : Option R3).isSome = true then (1 : Int) else 0) = 0 from rfl]
        refine ⟨by decide, ?_⟩
        rw [if_pos rfl]
        exact set none h2.symm gj (by decide) ⟨fun _ => rfl, fun _ => rfl⟩ (fun y hy => by cases hy)
      · rw [hj] at h2
        have jv := jn_vals al ob hj
        rw [show (if (some j).isSome = true then (1 : Int) else 0) = 1 from rfl]
        refine ⟨by decide, ?_⟩
        rw [if_neg (by decide), jm_65, jm_66, jm_67]
        exact set (some j) h2.symm gj (by decide) ⟨fun z => absurd z (by decide), fun z => by cases z⟩ (fun y hy => by cases hy; exact jv)
    · rw [if_neg l1]
      refine bad m3 ?_ g3
      match l, l1 with
      | [], _ => show (if f = 0 ∨ f = 2 ∨ f = 3 then none else fn1S f a) = none; rw [if_pos ftw]
      | [b], l1 => exact absurd rfl l1
      | b :: b' :: l', _ => rfl
  · rw [if_neg ftw]
    by_cases l1 : (l.length : Int) + 1 = 1
    · rw [if_pos l1]
      have ln : l = [] := List.length_eq_zero_iff.1 (by omega)
      subst ln
      have fns : fnS f [a] = fn1S f a := by
        show (if f = 0 ∨ f = 2 ∨ f = 3 then none else fn1S f a) = _
        rw [if_neg ftw]
      rw [fns] at set
      refine ⟨ka, ⟨by constructor <;> omega, by split; trivial; constructor <;> omega⟩, by constructor <;> omega, ?_⟩
      rw [if_neg (by omega)]
      clear hl hvb hnb wt
      obtain ⟨o, ho⟩ : ∃ o, o = fn1S f a := ⟨_, rfl⟩
      rw [← ho] at set
      unfold fn1S at ho
      have pv : (if a.2.1 ≤ 0 then (0 : Int) else (if a.2.2 = 0 then 1 else 0 : Int)) = 0 ↔ ¬ (a.1 ≠ -2 ∧ a.2.2 = 0 ∧ a.2.1 ≠ 0) := by
        by_cases d0 : a.2.1 ≤ 0
        · rw [if_pos d0]; exact ⟨fun _ z => by omega, fun _ => rfl⟩
        · rw [if_neg d0]
          have nB := ol (Or.inl (by omega))
          by_cases s0 : a.2.2 = 0
          · rw [if_pos s0]; exact ⟨fun z => absurd z (by decide), fun z => absurd ⟨nB, s0, by omega⟩ z⟩
          · rw [if_neg s0]; exact ⟨fun _ z => s0 z.2.1, fun _ => rfl⟩
      have rpv : RI (if a.2.1 ≤ 0 then (0 : Int) else (if a.2.2 = 0 then 1 else 0 : Int)) := by split; decide; split <;> decide
      have sv : (if a.2.2 ≤ 0 then (0 : Int) else 1) = 0 ↔ ¬ (a.1 ≠ -2 ∧ a.2.2 ≠ 0) := by
        by_cases s0 : a.2.2 ≤ 0
        · rw [if_pos s0]; exact ⟨fun _ z => by omega, fun _ => rfl⟩
        · rw [if_neg s0]; exact ⟨fun z => absurd z (by decide), fun z => absurd ⟨ol (Or.inr (by omega)), by omega⟩ z⟩
      have rsv : RI (if a.2.2 ≤ 0 then (0 : Int) else 1) := by split <;> decide
      -- by a condition
      have fin : ∀ (v : Int) (P : Prop) (y0 : R3) {m4 : MM}, G m4 → RI v → (v = 0 ↔ ¬ P) → (P → o = some y0) → (¬ P → o = none) → ∀ {b' d' s' : Int}, b' = bM y0.1 → d' = y0.2.1 → s' = y0.2.2 → P_X10_setRing k b' d' s' m4 (fun _ m' => P_X10_judgeBuilt_698 (R_X10_judge dep) Q T k v m') := by
        intro v P y0 m4 g4 rv hv h1 h0 b' d' s' e1 e2 e3
        refine set o rfl g4 rv ?_ ?_
        · rw [hv]
          by_cases p : P
          · rw [h1 p]; exact ⟨fun z => absurd p z, fun z => by cases z⟩
          · rw [h0 p]; exact ⟨fun _ => rfl, fun _ => p⟩
        · intro y hy
          by_cases p : P
          · rw [h1 p] at hy; cases hy; exact ⟨e1, e2, e3⟩
          · rw [h0 p] at hy; cases hy
      by_cases aB : a.1 = -2
      · -- a truth
        have ao : o = none := by rw [ho, if_pos aB]
        have at_ := ok3_tB oa aB
        have d0 : a.2.1 = 0 := by rw [at_]
        have s0 : a.2.2 = 0 := by rw [at_]
        have no : ∀ (v : Int) {m4 : MM} {b' d' s' : Int}, G m4 → v = 0 → P_X10_setRing k b' d' s' m4 (fun _ m' => P_X10_judgeBuilt_698 (R_X10_judge dep) Q T k v m') := fun v m4 b' d' s' g4 hv => set o rfl g4 (by rw [hv]; decide) ⟨fun _ => ao, fun _ => hv⟩ (fun y hy => by rw [ao] at hy; cases hy)
        have b2' : bM a.1 = -2 := ab.2.2.1.2 aB
        rw [d0, s0, b2']
        by_cases f1 : f = 1
        · rw [if_pos f1]; exact no _ g3 (if_pos (by decide))
        rw [if_neg f1, if_neg (by omega), if_neg (by omega)]
        by_cases f4 : f = 4
        · rw [if_pos f4]; exact no _ g3 (if_pos (by decide))
        rw [if_neg f4]
        by_cases f5 : f = 5
        · rw [if_pos f5]; exact ⟨by decide, no _ g3 (if_pos (by decide))⟩
        rw [if_neg f5]
        by_cases f6 : f = 6
        · rw [if_pos f6]; exact ⟨by decide, no _ g3 (if_pos (by decide))⟩
        rw [if_neg f6]
        by_cases f7 : f = 7
        · rw [if_pos f7]; exact ⟨by decide, no _ g3 (if_pos (by decide))⟩
        rw [if_neg f7]
        by_cases f8 : f = 8
        · rw [if_pos f8]; exact ⟨by decide, no _ g3 (if_pos (by decide))⟩
        rw [if_neg f8]
        by_cases f9 : f = 9
        · rw [if_pos f9]
          refine ⟨by decide, ?_⟩
          rw [if_pos rfl]
          refine ⟨by decide, ?_⟩
          rw [if_neg (by decide)]
          have : P_X10_isField (bM (-2)) m3 (fun r11 m12 => ((RI r11)) ∧ P_X10_setRing k (if (-2 : Int) = 0 then 1 else (-2 : Int) : Int) 0 0 m12 (fun r12 m13 => P_X10_judgeBuilt_698 (R_X10_judge dep) Q T k (if r11 = 0 then 0 else 1 : Int) m13)) := by
            refine c_isFieldM (Or.inr ⟨by decide, by decide⟩) ?_
            have nf : ¬ isFb (-2) := fun z => by
              rcases z with z | z
              · cases z
              · rcases z with z | z
                · cases z
                · have := z.2.1; omega
            rw [fbN_0 nf]
            exact ⟨by decide, no _ g3 rfl⟩
          exact this
        rw [if_neg f9]
        by_cases f10 : f = 10
        · rw [if_pos f10]; exact ⟨⟨by decide, by rw [if_pos (by decide)]; trivial⟩, no _ g3 (if_pos (by decide))⟩
        rw [if_neg f10]
        by_cases f11 : f = 11
        · rw [if_pos f11]
          refine ⟨by decide, ?_⟩
          rw [if_pos (by decide)]
          exact no _ g3 rfl
        rw [if_neg f11]
        unfold P_X10_isNumber
        rw [a1, b2']
        refine ⟨ka, by decide, by decide, ?_⟩
        rw [if_neg (by decide)]
        refine ⟨by decide, ?_⟩
        rw [if_pos rfl, a1, b2']
        refine ⟨ka, by decide, by decide, ?_⟩
        rw [if_neg (by decide)]
        exact ⟨by decide, no _ g3 rfl⟩
      have oka : okb a.1 := by rcases oa with q | q; exact absurd q.1 aB; exact q.1
      rw [if_neg aB] at ho
      by_cases f1 : f = 1
      · rw [if_pos f1]
        rw [if_pos f1] at ho
        exact fin _ (a.1 ≠ -2 ∧ a.2.2 = 0 ∧ a.2.1 ≠ 0) (0, 0, 0) g3 rpv pv (fun p => by rw [ho, if_pos p.2]) (fun p => by rw [ho, if_neg (fun z => p ⟨aB, z⟩)]) rfl rfl rfl
      rw [if_neg f1, if_neg (by omega), if_neg (by omega)]
      rw [if_neg f1] at ho
      by_cases f4 : f = 4
      · rw [if_pos f4]
        rw [if_pos f4] at ho
        by_cases s0 : a.2.2 = 0
        · exact fin _ (a.1 ≠ -2 ∧ a.2.2 = 0 ∧ a.2.1 ≠ 0) a g3 rpv pv (fun p => by rw [ho, if_pos p.2]) (fun p => by rw [ho, if_neg (fun z => p ⟨aB, z⟩)]) rfl rfl s0.symm
        · refine set o rfl g3 rpv ?_ (fun y hy => by rw [ho, if_neg (fun z => s0 z.1)] at hy; cases hy)
          rw [pv, ho, if_neg (fun z => s0 z.1)]
          exact ⟨fun _ => rfl, fun _ z => s0 z.2.1⟩
      rw [if_neg f4]
      rw [if_neg f4] at ho
      have l493 : f = 5 ∨ f = 6 → P_X10_judgeBuilt_493 (R_X10_judge dep) Q T k (bM a.1) a.2.1 a.2.2 m3 := by
        intro q
        rw [if_pos q] at ho
        exact ⟨by constructor <;> omega, fin _ (a.1 ≠ -2 ∧ a.2.2 ≠ 0) (a.1, a.2.1, 0) g3 rsv sv (fun p => by rw [ho, if_pos p.2]) (fun p => by rw [ho, if_neg (fun z => p ⟨aB, z⟩)]) rfl rfl rfl⟩
      by_cases f5 : f = 5
      · rw [if_pos f5]; exact l493 (Or.inl f5)
      rw [if_neg f5]
      by_cases f6 : f = 6
      · rw [if_pos f6]; exact l493 (Or.inr f6)
      rw [if_neg f6]
      rw [if_neg (by omega)] at ho
      have l518 : f = 7 ∨ f = 8 → P_X10_judgeBuilt_518 (R_X10_judge dep) Q T k (bM a.1) a.2.1 a.2.2 m3 := by
        intro q
        rw [if_pos q] at ho
        exact ⟨by constructor <;> omega, fin _ (a.1 ≠ -2 ∧ a.2.2 ≠ 0) a g3 rsv sv (fun p => by rw [ho, if_pos p.2]) (fun p => by rw [ho, if_neg (fun z => p ⟨aB, z⟩)]) rfl rfl rfl⟩
      by_cases f7 : f = 7
      · rw [if_pos f7]; exact l518 (Or.inl f7)
      rw [if_neg f7]
      by_cases f8 : f = 8
      · rw [if_pos f8]; exact l518 (Or.inr f8)
      rw [if_neg f8]
      rw [if_neg (by omega)] at ho
      by_cases f9 : f = 9
      · rw [if_pos f9]
        rw [if_pos f9] at ho
        have ef : (if bM a.1 = 0 then (1 : Int) else bM a.1) = bM (frac a).1 := by
          unfold frac
          simp only
          by_cases z0 : a.1 = 0
          · rw [if_pos (ab.2.2.2.1.2 z0), if_pos z0]; rfl
          · rw [if_neg (fun z => z0 (ab.2.2.2.1.1 z)), if_neg z0]
        refine ⟨by constructor <;> omega, ?_⟩
        by_cases d0 : a.2.1 = 0
        · rw [if_pos d0]
          refine ⟨ar.1, ?_⟩
          by_cases b0 : bM a.1 = 0
          · rw [if_pos b0]
            refine ⟨ar.1, fin 1 True (frac a) g3 (by decide) ⟨fun z => absurd z (by decide), fun z => absurd trivial z⟩ (fun _ => by rw [ho, if_pos ⟨d0, Or.inl (ab.2.2.2.1.1 b0)⟩]) (fun z => absurd trivial z) ef ?_ rfl⟩
            show (0 : Int) = a.2.1
            omega
          · rw [if_neg b0]
            refine c_isFieldM (Or.inl oka) ?_
            by_cases cf : isFb a.1
            · rw [fbN_1 cf]
              refine ⟨by decide, fin _ True (frac a) g3 (by decide) ⟨fun z => absurd z (by decide), fun z => absurd trivial z⟩ (fun _ => by rw [ho, if_pos ⟨d0, Or.inr cf⟩]) (fun z => absurd trivial z) ef ?_ rfl⟩
              show (0 : Int) = a.2.1
              omega
            · rw [fbN_0 cf]
              refine ⟨by decide, set none ?_ g3 (by decide) ⟨fun _ => rfl, fun _ => rfl⟩ (fun y hy => by cases hy)⟩
              rw [ho, if_neg (fun z => by rcases z.2 with z | z; exact b0 (ab.2.2.2.1.2 z); exact cf z)]
        · rw [if_neg d0]
          refine ⟨ar.1, set none ?_ g3 (by decide) ⟨fun _ => rfl, fun _ => rfl⟩ (fun y hy => by cases hy)⟩
          rw [ho, if_neg (fun z => d0 z.1)]
      rw [if_neg f9]
      rw [if_neg f9] at ho
      by_cases f10 : f = 10
      · rw [if_pos f10]
        rw [if_pos f10] at ho
        refine ⟨⟨by constructor <;> omega, by split; trivial; constructor <;> omega⟩, ?_⟩
        refine fin _ (a.2.2 ≠ 0 ∧ a.2.1 = 0) (a.1, 1, 0) g3 (by split; decide; split <;> decide) ?_ (fun p => by rw [ho, if_pos p]) (fun p => by rw [ho, if_neg p]) rfl rfl rfl
        by_cases s0 : a.2.2 ≤ 0
        · rw [if_pos s0]; exact ⟨fun _ z => by omega, fun _ => rfl⟩
        · rw [if_neg s0]
          by_cases d0 : a.2.1 = 0
          · rw [if_pos d0]; exact ⟨fun z => absurd z (by decide), fun z => absurd ⟨by omega, d0⟩ z⟩
          · rw [if_neg d0]; exact ⟨fun _ z => d0 z.2, fun _ => rfl⟩
      rw [if_neg f10]
      rw [if_neg f10] at ho
      by_cases f11 : f = 11
      · rw [if_pos f11]
        rw [if_pos f11] at ho
        refine ⟨ar.1, ?_⟩
        have b1e : bM a.1 ≤ 1 ↔ a.1 ≤ 1 := by
          rcases bM_cs a.1 with ⟨q1, q2⟩ | ⟨q1, q2⟩ | ⟨q1, -⟩ <;> omega
        by_cases b1 : bM a.1 ≤ 1
        · rw [if_pos b1]
          refine set none ?_ g3 (by decide) ⟨fun _ => rfl, fun _ => rfl⟩ (fun y hy => by cases hy)
          rw [ho, if_neg (fun z => by have := z.2.2.1; have := b1e.1 b1; omega)]
        · rw [if_neg b1]
          refine c_isFieldM (Or.inl oka) ?_
          have pf : isFb a.1 ↔ isPb a.1 := ⟨fun z => by rcases z with z | z; exact absurd (b1e.2 (by omega)) b1; exact z, fun z => Or.inr z⟩
          by_cases cf : isFb a.1
          · rw [fbN_1 cf]
            refine ⟨⟨by decide, by rw [if_neg (by decide)]; exact ⟨by constructor <;> omega, by split; constructor <;> omega; trivial⟩⟩, ?_⟩
            rw [if_neg (show ¬ (1 : Int) = 0 by decide)]
            refine fin _ (a.2.2 = 0 ∧ a.2.1 = 1 ∧ 1 < a.1 ∧ isPb a.1) (0, 0, 0) g3 (by split; split <;> decide; decide) ?_ (fun p => by rw [ho, if_pos p]) (fun p => by rw [ho, if_neg p]) rfl rfl rfl
            by_cases d1 : a.2.1 = 1
            · rw [if_pos d1]
              by_cases s0 : a.2.2 = 0
              · rw [if_pos s0]; exact ⟨fun z => absurd z (by decide), fun z => absurd ⟨s0, d1, by have : ¬ a.1 ≤ 1 := fun q => b1 (b1e.2 q); omega, pf.1 cf⟩ z⟩
              · rw [if_neg s0]; exact ⟨fun _ z => s0 z.1, fun _ => rfl⟩
            · rw [if_neg d1]; exact ⟨fun _ z => d1 z.2.1, fun _ => rfl⟩
          · rw [fbN_0 cf]
            refine ⟨⟨by decide, by rw [if_pos rfl]; trivial⟩, ?_⟩
            rw [if_pos rfl]
            refine set none ?_ g3 (by decide) ⟨fun _ => rfl, fun _ => rfl⟩ (fun y hy => by cases hy)
            rw [ho, if_neg (fun z => cf (pf.2 z.2.2.2))]
      rw [if_neg f11]
      rw [if_neg f11] at ho
      have num : ∀ b : Int, (b = 0 ∨ b = 1) → ∀ {K1 : Int → MM → Prop}, (a = (b, 0, 0) → K1 1 m3) → (a ≠ (b, 0, 0) → K1 0 m3) → P_X10_isNumber na b m3 K1 := by
        intro b hb K1 h1 h0
        unfold P_X10_isNumber
        rw [a1, a2, a3]
        refine ⟨ka, ar.1, by rcases hb with z | z <;> (rw [z]; decide), ?_⟩
        have be : bM a.1 = b ↔ a.1 = b := by
          rcases hb with z | z
          · rw [z]; exact ab.2.2.2.1
          · rw [z]; exact ab.2.2.2.2
        by_cases c0 : bM a.1 = b
        · rw [if_pos c0]
          refine ⟨by constructor <;> omega, ?_⟩
          by_cases c1 : a.2.1 = 0
          · rw [if_pos c1]
            refine ⟨by constructor <;> omega, ?_⟩
            by_cases c2 : a.2.2 = 0
            · rw [if_pos c2]; exact h1 (Prod.ext (be.1 c0) (Prod.ext c1 c2))
            · rw [if_neg c2]; exact h0 (fun z => c2 (by rw [z]))
          · rw [if_neg c1]; exact h0 (fun z => c1 (by rw [z]))
        · rw [if_neg c0]; exact h0 (fun z => c0 (be.2 (by rw [z])))
      refine num 0 (Or.inl rfl) (fun z => ⟨by decide, ?_⟩) (fun z => ⟨by decide, ?_⟩)
      · rw [if_neg (by decide)]
        exact fin 1 True (0, 0, 0) g3 (by decide) ⟨fun q => absurd q (by decide), fun q => absurd trivial q⟩ (fun _ => by rw [ho, if_pos (Or.inl z)]) (fun q => absurd trivial q) rfl rfl rfl
      · rw [if_pos rfl]
        refine num 1 (Or.inr rfl) (fun y => ⟨by decide, ?_⟩) (fun y => ⟨by decide, ?_⟩)
        · rw [if_neg (show ¬ (1 : Int) = 0 by decide)]
          exact fin 1 True (0, 0, 0) g3 (by decide) ⟨fun q => absurd q (by decide), fun q => absurd trivial q⟩ (fun _ => by rw [ho, if_pos (Or.inr y)]) (fun q => absurd trivial q) rfl rfl rfl
        · rw [if_pos rfl]
          exact set none (by rw [ho, if_neg (fun q => by rcases q with q | q; exact z q; exact y q)]) g3 (by decide) ⟨fun _ => rfl, fun _ => rfl⟩ (fun y hy => by cases hy)
    · rw [if_neg l1]
      refine bad m3 ?_ g3
      match l, l1 with
      | [], l1 => exact absurd rfl l1
      | [b], _ => show (if f = 0 ∨ f = 2 ∨ f = 3 then fn2S f a b else none) = none; rw [if_neg ftw]
      | b :: b' :: l', _ => rfl
end BUILTM
