set_option maxRecDepth 100000
/-! the model's tasks: what they come to -/
def OutZ (F : Int → FnR) (n : Int) (S : SGm) (ms : MM) (Q : Int → MM → Prop) (E : EVm) (h pb : Int) (T : List Tk) (l : List VV) (m0 : MM) (R : Nat) (r : ER) : Prop := match r with
  | (.ok V, s') => ∀ m', VmS m' F n S ms E h pb T (V :: l) s' → Fvm E.2.2.1 S.2.2.2.1 m0 m' → GoM Q R m'
  | (.error e, s') => ∀ m', m' 582 84 = e → m' 582 90 = s'.1 → m' 582 92 = s'.2 → (0 ≤ m' 582 99 ∧ m' 582 99 ≤ 12000) → VmI m' F n S ms → Fvm 0 S.2.2.2.1 m0 m' → GoM Q R m'
def okFr (m m' : MM) : Prop := ∀ c i, ¬ (c = 582 ∧ (i = 84 ∨ (86 ≤ i ∧ i ≤ 88) ∨ (65 ≤ i ∧ i ≤ 67) ∨ (70 ≤ i ∧ i ≤ 72))) → c ≠ 635 → ¬ (648 ≤ c ∧ c ≤ 650) → m' c i = m c i
section VMO
variable {Q : Int → MM → Prop} {m m' m0 m1 ms : MM} {F : Int → FnR} {n : Int} {S : SGm} {E : EVm} {h pb : Int} {T T' : List Tk} {l l' pre : List VV} {s s' : ES} {R r : Nat} {a : PT} {k cl lo : Int} {e : JE} {x z y : R3} {V U W : VV} {res : EX VV}
theorem okFr.refl : okFr m m := fun _ _ _ _ _ => rfl
theorem okFr.trans (a : okFr m m1) (b : okFr m1 m') : okFr m m' := fun c i q1 q2 q3 => (b c i q1 q2 q3).trans (a c i q1 q2 q3)
theorem Fm.okf {X : Int → Prop} (f : Fm X m m') : okFr m m' := fun c i q1 q2 _ => f.1 c i q2 (by omega)
theorem stM_app : ∀ {pre : List VV}, stM m (pre ++ l) → stM m l := by
  intro pre
  induction pre with
  | nil => intro h; exact h
  | cons v pre ih => intro h; exact ih h.1
theorem VmS.made (H : VmS m F n S ms E h pb T (pre ++ l) s) (f : okFr m m') (fl : ∀ q, 0 ≤ q → q < 882 * (l.length : Int) → m' 635 q = m 635 q) (e84 : m' 582 84 = 0) (e86 : m' 582 86 = (l.length : Int) + 1) (v : VM (m' 635) (882 * (l.length : Int)) U) : VmS m' F n S ms E h pb T (U :: l) s ∧ Fvm E.2.2.1 S.2.2.2.1 m m' :=
  H.chg (fun c i q1 q2 q3 => f c i (by omega) (by omega) q3) e84 (H.tk.fr (fun c i a1 a2 _ _ => f c i (by omega) (by omega) (by omega))) (by rw [f _ _ (by decide) (by decide) (by decide)]; exact H.ts) ⟨(stM_app H.st).fr fl, v⟩ (by rw [e86, List.length_cons]; omega) (by rw [f _ _ (by decide) (by decide) (by decide)]; exact H.s1) (by rw [f _ _ (by decide) (by decide) (by decide)]; exact H.s2) H.bs
theorem VmS.same (H : VmS m F n S ms E h pb T (pre ++ l) s) (f : okFr m m') (fl : ∀ q, 0 ≤ q → q < 882 * (l.length : Int) → m' 635 q = m 635 q) (e84 : m' 582 84 = 0) (e86 : m' 582 86 = (l.length : Int)) : VmS m' F n S ms E h pb T l s ∧ Fvm E.2.2.1 S.2.2.2.1 m m' :=
  H.chg (fun c i q1 q2 q3 => f c i (by omega) (by omega) q3) e84 (H.tk.fr (fun c i a1 a2 _ _ => f c i (by omega) (by omega) (by omega))) (by rw [f _ _ (by decide) (by decide) (by decide)]; exact H.ts) ((stM_app H.st).fr fl) e86 (by rw [f _ _ (by decide) (by decide) (by decide)]; exact H.s1) (by rw [f _ _ (by decide) (by decide) (by decide)]; exact H.s2) H.bs
theorem GoM.le {R' : Nat} (g : GoM Q R m) (hR : R ≤ R') : GoM Q R' m := fun r hr => g r (by omega)
theorem OutZ.fm (hO : OutZ F n S ms Q E h pb T l m0 R (res, s)) (f : Fvm E.2.2.1 S.2.2.2.1 m0 m) (hc : 0 ≤ E.2.2.1) : OutZ F n S ms Q E h pb T l m R (res, s) := by
  unfold OutZ at hO ⊢
  cases res with
  | ok U => exact fun m2 S2 f2 => hO m2 S2 (f.trans f2)
  | error e => exact fun m2 a1 a2 a3 a4 a5 f2 => hO m2 a1 a2 a3 a4 a5 ((f.le hc).trans f2)
theorem OutZ.fm' {rr : ER} (hO : OutZ F n S ms Q E h pb T l m0 R rr) (f : Fvm E.2.2.1 S.2.2.2.1 m0 m) (hc : 0 ≤ E.2.2.1) : OutZ F n S ms Q E h pb T l m R rr := by
  obtain ⟨o, s⟩ := rr
  exact OutZ.fm hO f hc
theorem OutZ.ok (hO : OutZ F n S ms Q E h pb T l m0 R (res, s)) (H : VmS m F n S ms E h pb T (pre ++ l) s) (F1 : Fvm E.2.2.1 S.2.2.2.1 m0 m) (e : res = .ok U) (f : okFr m m') (fl : ∀ q, 0 ≤ q → q < 882 * (l.length : Int) → m' 635 q = m 635 q) (e84 : m' 582 84 = 0) (e86 : m' 582 86 = (l.length : Int) + 1) (v : VM (m' 635) (882 * (l.length : Int)) U) (hr : R ≤ r) : P_X10_eval_10 Q r m' := by
  subst e
  have hO : ∀ m', VmS m' F n S ms E h pb T (U :: l) s → Fvm E.2.2.1 S.2.2.2.1 m0 m' → GoM Q R m' := hO
  obtain ⟨q1, q2⟩ := H.made f fl e84 e86 v
  exact hO m' q1 (F1.trans q2) r hr
theorem VmS.errF (H : VmS m F n S ms E h pb T l s) (f : ∀ c i, ¬ (c = 582 ∧ (i = 84 ∨ (86 ≤ i ∧ i ≤ 88) ∨ i = 90 ∨ i = 92 ∨ i = 99 ∨ (65 ≤ i ∧ i ≤ 67) ∨ (70 ≤ i ∧ i ≤ 72))) → ¬ (635 ≤ c ∧ c ≤ 640) → ¬ (648 ≤ c ∧ c ≤ 650) → m' c i = m c i) : VmI m' F n S ms ∧ Fvm E.2.2.1 S.2.2.2.1 m m' :=
  ⟨H.1.fr (fun c i a1 a2 => f c i (by omega) (by omega) (by omega)) (fun i hi => f _ _ (by omega) (by omega) (by omega)), fun c i a1 a2 a3 a4 a5 a6 a7 => f c i (fun z => a1 z.1) a2 a7, fun i q => f _ _ (by omega) (by omega) (by omega)⟩
theorem OutZ.er {e : Int} (hO : OutZ F n S ms Q E h pb T l m0 R (res, s)) (H : VmS m F n S ms E h pb T' l' s) (F1 : Fvm E.2.2.1 S.2.2.2.1 m0 m) (hT : T'.length ≤ 12000) (e' : res = .error e) (f : okFr m m') (e84 : m' 582 84 = e) (hr : R ≤ r) : P_X10_eval_10 Q r m' := by
  subst e'
  have hO : ∀ m', m' 582 84 = e → m' 582 90 = s.1 → m' 582 92 = s.2 → (0 ≤ m' 582 99 ∧ m' 582 99 ≤ 12000) → VmI m' F n S ms → Fvm 0 S.2.2.2.1 m0 m' → GoM Q R m' := hO
  obtain ⟨q1, q2⟩ := H.errF (m' := m') (fun c i a1 a2 a3 => f c i (by omega) (by omega) a3)
  have ts := H.ts
  have hc := H.2.2.2.2.1
  exact hO m' e84 (by rw [f _ _ (by decide) (by decide) (by decide)]; exact H.s1) (by rw [f _ _ (by decide) (by decide) (by decide)]; exact H.s2) (by rw [f _ _ (by decide) (by decide) (by decide), ts]; omega) q1 ((F1.trans q2).le hc.1) r hr
/-! numbers of bases -/
theorem VmS.mo (H : VmS m F n S ms E h pb T l s) {b : Int} (hb : b = -2 ∨ okb b) (hm : okMo b E.2.1) : okMo b (m 582 89) ∧ muR b (m 582 89) = muR b E.2.1 := by
  have d := H.2.1.2.2.2.2.2.2.2.2
  by_cases c : b < 20000
  · refine ⟨okMo_lt c, ?_⟩
    unfold muR
    by_cases c2 : b = -2
    · rw [if_pos c2, if_pos c2]
    · rw [if_neg c2, if_neg c2, if_pos c, if_pos c]
  · have e : b = 20000 ∨ b = 20001 := by omega
    have e2 : m 582 89 = E.2.1 := by
      refine d ?_
      rcases e with e | e
      · exact (hm.1 e).1.1
      · exact (hm.2 e).1
    rw [e2]
    exact ⟨hm, rfl⟩
theorem VmS.bm (H : VmS m F n S ms E h pb T l s) {b : Int} (hb : okb b) (hm : okMo b E.2.1) : BM m (bM b) (muR b E.2.1) := by
  obtain ⟨q1, q2⟩ := H.mo (.inr hb) hm
  rw [← q2]
  exact muR_BM hb q1 rfl
theorem VR_mo {mo mo' : Int} (he : muR x.1 mo = muR x.1 mo') (v : VR mo x V) : VR mo' x V := ⟨by rw [← he]; exact v.1, v.2⟩
theorem conv_mo {mo mo' : Int} (he : muR z.1 mo = muR z.1 mo') : conv mo x z V = conv mo' x z V := by
  unfold conv
  rw [he]
theorem conv_frac {mo : Int} (hb : x.1 ≠ -2) : conv mo x (frac x) V = V := by
  unfold conv goV
  funext i j
  have es : x.2.2 = (frac x).2.2 := rfl
  rw [if_pos es]
  funext k
  unfold gC
  have e1 : (frac x).1 = (if x.1 = 0 then 1 else x.1) := rfl
  by_cases c : x.1 = 0
  · rw [if_pos c] at e1
    have e2 : muR (frac x).1 mo = 1 := by rw [e1]; exact muR_1
    rw [if_neg (by omega), e2, if_neg (by decide)]
  · rw [if_neg c] at e1
    rw [if_pos e1.symm, if_pos rfl]
/-- where values lie -/
theorem top_at (H : VmS m F n S ms E h pb T (V :: l) s) (hl : l.length ≤ 1800) : VM (m 635) (882 * (l.length : Int)) V ∧ (0 ≤ 882 * (l.length : Int) ∧ 882 * (l.length : Int) + 882 ≤ 1590000) ∧ m 582 86 - 1 = (l.length : Int) := by
  have tp := H.tp
  rw [List.length_cons] at tp
  exact ⟨H.st.2, by omega, by omega⟩
/-- the latest value goes to a ring -/
theorem c_goL {c : Int} (H : VmS m F n S ms E h pb T (V :: l) s) (hl : l.length ≤ 1800) (hc : 0 ≤ c ∧ c < 12000) (hr : rgM m c (some x)) (hx : ok3 x) (hxm : okMo x.1 E.2.1) (hz : ok3 z) (hm : okMo z.1 E.2.1) (hg : gs x z) (v : VR E.2.1 x V) (K : ∀ m', VmS m' F n S ms E h pb T (conv E.2.1 x z V :: l) s → okFr m m' → Fvm E.2.2.1 S.2.2.2.1 m m' → Q 0 m') : P_X10_goLatest c (bM z.1) z.2.1 z.2.2 m Q := by
  obtain ⟨t1, t2, t3⟩ := top_at H hl
  obtain ⟨mx1, mx2⟩ := H.mo (ok3_b hx) hxm
  obtain ⟨mz1, mz2⟩ := H.mo (ok3_b hz) hm
  obtain ⟨r1, r2, r3⟩ := hr
  unfold P_X10_goLatest P_X10_valueAt
  dsimp only
  rw [t3, r1, r2, r3]
  refine ⟨hc, c_convM hx hz mz1 hg rfl (by omega) t1 (VR_mo mx2.symm v) (fun m' f e84 vm => ?_)⟩
  rw [conv_mo mz2] at vm
  have H' : VmS m F n S ms E h pb T ([V] ++ l) s := H
  obtain ⟨q1, q2⟩ := H'.made f.okf (fun q q0 q1 => f.2 q (by unfold SX; omega)) (by rw [e84]; exact H.er) (by rw [f.1 _ _ (by decide) (by decide)]; have := t3; omega) vm
  exact K m' q1 f.okf q2
end VMO
