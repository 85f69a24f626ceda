set_option maxRecDepth 100000
/-! the model's tasks: a part begins -/
/-- behind the steps -/
def RestM (x1 : Int) (Q : Int → MM → Prop) (m2 : MM) : Prop := (0 ≤ x1 ∧ x1 < 12000) ∧ P_X10_isLeft (m2 590 x1) m2 (fun r3 m3 => (RI r3) ∧ (if r3 = 0 then (RI (m3 590 x1)) ∧ (if (m3 590 x1) = 0 then P_X10_newValue m3 (fun r4 m4 => P_X10_set r4 (m4 605 x1) m4 (fun r5 m5 => Q 0 m5)) else (if (m3 590 x1) = 1 then P_X10_newValue m3 (fun r6 m6 => P_X10_set (r6 + 2) 1 m6 (fun r7 m7 => Q 0 m7)) else (if (m3 590 x1) = 2 then P_X10_newValue m3 (fun r8 m8 => P_X10_set (r8 + 14) 1 m8 (fun r9 m9 => Q 0 m9)) else (if (m3 590 x1) = 3 then P_X10_newValue m3 (fun r10 m10 => ∃ nn, P_X10_evalPart_154 Q nn x1 r10 0 m10) else (if (m3 590 x1) = 4 then P_X10_newValue m3 (fun r11 m11 => (RI (m11 596 x1)) ∧ (if (m11 596 x1) = 0 then P_X10_valueAt ((m11 582 93) + (m11 597 x1)) m11 (fun r12 m12 => P_X10_copy r11 r12 882 m12 (fun r13 m13 => ∃ nn, P_X10_evalPart_237 Q nn x1 r11 0 m13)) else ∃ nn, P_X10_evalPart_237 Q nn x1 r11 0 m11)) else (if (m3 590 x1) = 5 then P_X10_arguments x1 (m2 591 x1) 0 m3 (fun r14 m14 => Q 0 m14) else (if (m3 590 x1) = 6 then P_X10_later_2 10 x1 0 0 0 m3 (fun r15 m15 => (0 ≤ (m2 591 x1) ∧ (m2 591 x1) < 12000) ∧ P_X10_later (m15 591 (m2 591 x1)) m15 (fun r16 m16 => Q 0 m16)) else (if (m3 590 x1) = 7 then P_X10_newValue m3 (fun r17 m17 => (0 ≤ (m2 591 x1) ∧ (m2 591 x1) < 12000) ∧ P_X10_later_2 7 x1 (m2 591 x1) (m17 591 (m2 591 x1)) 0 m17 (fun r18 m18 => (0 ≤ (m18 591 (m2 591 x1)) ∧ (m18 591 (m2 591 x1)) < 12000) ∧ P_X10_later (m18 591 (m18 591 (m2 591 x1))) m18 (fun r19 m19 => Q 0 m19))) else P_X10_later_2 (if (m3 590 x1) = 8 then 3 else (if (m3 590 x1) = 9 then 5 else 6 : Int) : Int) x1 0 0 0 m3 (fun r20 m20 => P_X10_later (m2 591 x1) m20 (fun r21 m21 => Q 0 m21)))))))))) else P_X10_later_2 1 x1 0 0 0 m3 (fun r22 m22 => P_X10_later (m2 591 x1) m22 (fun r23 m23 => Q 0 m23))))
theorem evalPart_eq {x1 : Int} {m : MM} {Q : Int → MM → Prop} : P_X10_evalPart x1 m Q = P_X10_stepsOf x1 m (fun r1 m1 => P_X10_step r1 m1 (fun r2 m2 => (RI r2) ∧ (if r2 = 0 then Q 0 m2 else RestM x1 Q m2))) := rfl
section VMP
variable {Q : Int → MM → Prop} {m m' m0 m1 ms : MM} {F : Int → FnR} {n : Int} {S : SGm} {E : EVm} {h pb : Int} {T T' : List Tk} {l l' pre : List VV} {s s' : ES} {R r : Nat} {a : PT} {k cl lo : Int} {e : JE} {x z y : R3} {V U W : VV} {res : EX VV} {ro : Int} {cs : List Int} {rc : List R3}
theorem AnP.ring (A : AnP m e ro a.1 a.2 k) (hx : rgS e a.1 a.2 = some x) : rgM m k (some x) ∧ AnX m e ro a.1 a.2 k := by
  have := A.1
  rw [hx] at this
  exact ⟨this, A.2 x hx⟩
theorem c_weight (hk : 0 ≤ k ∧ k < 12000) (hr : rgM m k (some x)) (hx : ok3 x) (K : Q (wtR x) m) : P_X10_weight k m Q := by
  obtain ⟨r1, r2, r3⟩ := hr
  have ds := ok3_ds hx
  unfold P_X10_weight
  rw [r2, r3]
  refine ⟨hk, by constructor <;> omega, by constructor <;> omega, ?_⟩
  have e : wtR x = (if x.2.2 = 0 then 1 else x.2.2 * x.2.2) * (if x.2.1 = 0 then 1 else if x.2.1 = 1 then 7 else 49) := rfl
  rw [e] at K
  by_cases c : x.2.1 = 0
  · rw [if_pos c]
    rw [if_pos c] at K
    exact K
  · rw [if_neg c]
    rw [if_neg c] at K
    by_cases c1 : x.2.1 = 1
    · rw [if_pos c1]
      rw [if_pos c1] at K
      exact K
    · rw [if_neg c1]
      rw [if_neg c1] at K
      exact K
theorem NdM.kind (N : NdM m e ro a k cs) (hk : 0 ≤ a.1.1 ∧ a.1.1 ≤ 25) : m 590 k = kM a.1.1 := N.2.1.1 (by omega)
theorem kM_cs {d : Int} (hd : 0 ≤ d ∧ d ≤ 25) : 0 ≤ kM d ∧ kM d ≤ 25 ∧ (d ≤ 8 → kM d = d) ∧ (d = 9 → kM d = 11) ∧ (d = 10 → kM d = 12) ∧ (d = 11 → kM d = 9) ∧ (12 ≤ d ∧ d ≤ 21 → kM d = d + 1) ∧ (d = 22 → kM d = 10) ∧ (23 ≤ d → kM d = d) := by
  unfold kM
  refine ⟨?_, ?_, fun c => ?_, fun c => ?_, fun c => ?_, fun c => ?_, fun c => ?_, fun c => ?_, fun c => ?_⟩
  · repeat' split
    all_goals omega
  · repeat' split
    all_goals omega
  · rw [if_pos c]
  · rw [if_neg (by omega), if_pos c]
  · rw [if_neg (by omega), if_neg (by omega), if_pos c]
  · rw [if_neg (by omega), if_neg (by omega), if_neg (by omega), if_pos c]
  · rw [if_neg (by omega), if_neg (by omega), if_neg (by omega), if_neg (by omega), if_pos (by omega)]
  · rw [if_neg (by omega), if_neg (by omega), if_neg (by omega), if_neg (by omega), if_neg (by omega), if_pos c]
  · rw [if_neg (by omega), if_neg (by omega), if_neg (by omega), if_neg (by omega), if_neg (by omega), if_neg (by omega)]
/-- the first item -/
theorem ITM.first {i : Int} (h : ITM m i cs) (hl : 0 < cs.length) : ∃ c, cs[0]? = some c ∧ (0 ≤ i ∧ i < 12000) ∧ m 591 i = c ∧ ITM m (m 594 i) cs.tail := by
  cases cs with
  | nil => exact absurd hl (Nat.lt_irrefl _)
  | cons c cs => exact ⟨c, rfl, h.1, h.2.1, h.2.2⟩
theorem NdM.at (N : NdM m e ro a k cs) (i : Nat) (hi : i < lenT a.2) : ∃ c, cs[i]? = some c := ⟨cs[i]'(by rw [N.2.2.2.2.1]; exact hi), List.getElem?_eq_getElem _⟩
theorem NdM.sub {i : Nat} {c : Int} (N : NdM m e ro a k cs) (hc : cs[i]? = some c) (hr : rgS e (prT a.2 i).1 (prT a.2 i).2 = some y) : (0 ≤ c ∧ c < 12000) ∧ rgM m c (some y) := by
  obtain ⟨lo, hi, q⟩ := N.2.2.2.2.2 i c hc
  have w := q.lk
  have g := q.rg
  rw [hr] at g
  exact ⟨⟨w.1, w.2.1⟩, g⟩
/-- how many steps -/
theorem c_stepsM (N : NdM m e ro a k cs) (hk : 0 ≤ a.1.1 ∧ a.1.1 ≤ 25) (w : okN a.1 a.2) (hx : rgS e a.1 a.2 = some x) (K : Kd F e a x rc) (K6 : a.1.1 = 6 → 0 < lenT a.2) (hQ : Q (wtS e a) m) : P_X10_stepsOf k m Q := by
  obtain ⟨n1, n2, n3, n4, n5, n6⟩ := id N
  obtain ⟨A1, A2⟩ := n4.ring hx
  have x3 := K.1.2.1
  have kk := N.kind hk
  have kc := kM_cs hk
  unfold wtS at hQ
  rw [K.1.1] at hQ
  unfold P_X10_stepsOf
  rw [kk]
  refine ⟨n1, by constructor <;> omega, ?_⟩
  by_cases c1 : a.1.1 = 18 ∨ a.1.1 = 20 ∨ a.1.1 = 21
  · rw [if_pos c1] at hQ
    have h25 : P_X10_stepsOf_25 Q k m := c_weight n1 A1 x3 hQ
    have ek := kc.2.2.2.2.2.2.1 (by omega)
    by_cases q1 : kM a.1.1 = 19
    · rw [if_pos q1]; exact h25
    rw [if_neg q1]
    by_cases q2 : kM a.1.1 = 21
    · rw [if_pos q2]; exact h25
    rw [if_neg q2, if_pos (by omega)]
    exact h25
  rw [if_neg c1] at hQ
  by_cases c2 : a.1.1 = 23
  · rw [if_pos c2] at hQ
    have ek := kc.2.2.2.2.2.2.2.2 (by omega)
    rw [if_neg (by omega), if_neg (by omega), if_neg (by omega), if_pos (by omega)]
    refine c_weight n1 A1 x3 ?_
    have v := w.2.1
    rw [n2.2.2.1 (by omega)]
    refine c_maxL (by constructor <;> omega) (by constructor <;> omega) ?_
    exact hQ
  rw [if_neg c2] at hQ
  by_cases c3 : a.1.1 = 6
  · rw [if_pos c3] at hQ
    have ek := kc.2.2.1 (by omega)
    rw [if_neg (by omega), if_neg (by omega), if_neg (by omega), if_neg (by omega), if_pos (by omega)]
    have a6 := A2.2.2.2 c3
    have f13 := w.2.2.2.2.1 c3
    have f0 := w.2.1.1
    rw [a6]
    refine ⟨by constructor <;> omega, ?_⟩
    have hit := n3.1 (.inr c3)
    obtain ⟨c, cc, ci, ca, -⟩ := hit.first (by rw [n5]; exact K6 c3)
    have sb := N.sub cc (K.1.2.2.2 0 (K6 c3)).1
    have h80 : Q (wtR (rgN e (prT a.2 0))) m → P_X10_stepsOf_80 Q k m := fun q => ⟨n1, ci, by rw [ca]; exact c_weight sb.1 sb.2 (K.1.2.2.2 0 (K6 c3)).2.1 q⟩
    have h117 : Q (wtR x) m → P_X10_stepsOf_117 Q k m := fun q => c_weight n1 A1 x3 q
    by_cases g : a.1.2.2.1 = 0 ∨ a.1.2.2.1 = 3 ∨ a.1.2.2.1 = 8 ∨ a.1.2.2.1 = 9
    · rw [if_pos g] at hQ
      rw [if_neg (by omega), if_neg (by omega)]
      by_cases g0 : a.1.2.2.1 = 0
      · rw [if_pos g0]; exact h117 hQ
      rw [if_neg g0]
      by_cases g3 : a.1.2.2.1 = 3
      · rw [if_pos g3]; exact h117 hQ
      rw [if_neg g3]
      by_cases g8 : a.1.2.2.1 = 8
      · rw [if_pos g8]; exact h117 hQ
      rw [if_neg g8, if_pos (by omega)]
      exact h117 hQ
    rw [if_neg g] at hQ
    by_cases g5 : a.1.2.2.1 = 5 ∨ a.1.2.2.1 = 10
    · rw [if_pos g5] at hQ
      by_cases q5 : a.1.2.2.1 = 5
      · rw [if_pos q5]; exact h80 hQ
      · rw [if_neg q5, if_pos (by omega)]; exact h80 hQ
    · rw [if_neg g5] at hQ
      rw [if_neg (by omega), if_neg (by omega), if_neg (by omega), if_neg (by omega), if_neg (by omega), if_neg (by omega)]
      exact hQ
  rw [if_neg c3] at hQ
  rw [if_neg (by omega), if_neg (by omega), if_neg (by omega), if_neg (by omega), if_neg (by omega)]
  exact hQ
def bdM (E : EVm) (l : List VV) (T : List Tk) (wn sz : Nat) : Prop := (l.length : Int) + wn + 63 * (20 - E.2.2.1) ≤ 1790 ∧ (T.length : Int) + 2 * ((sz : Int) + 1) + 320 * (20 - E.2.2.1) ≤ 11000
/-- a part that is worked -/
def SimE (F : Int → FnR) (n : Int) (S : SGm) (ms : MM) (E : EVm) (h : Int) (a : PT) (s : ES) (r : ER) : Prop := r.1 ≠ .error 99 → ∃ N : Nat, ∀ (k : Int) (Q : Int → MM → Prop) (m : MM) (pb : Int) (T : List Tk) (l : List VV) (R : Nat), VmS m F n S ms E h pb ((0, k, 0, 0, 0) :: T) l s → NmM E h pb l → SbM F S ms E.1 h a k → bdM E l T (wT a) (szT a.2) → OutZ F n S ms Q E h pb T l m R r → GoM Q (R + N) m
/-- the same behind its steps -/
def SimR (F : Int → FnR) (n : Int) (S : SGm) (ms : MM) (E : EVm) (h : Int) (a : PT) (s : ES) (r : ER) : Prop := r.1 ≠ .error 99 → ∃ N : Nat, ∀ (k : Int) (Q : Int → MM → Prop) (m : MM) (pb : Int) (T : List Tk) (l : List VV) (R : Nat), VmS m F n S ms E h pb T l s → NmM E h pb l → SbM F S ms E.1 h a k → bdM E l T (wT a) (szT a.2) → OutZ F n S ms Q E h pb T l m R r → ∀ r', R + N ≤ r' → RestM k (fun _ m2 => P_X10_eval_10 Q r' m2) m
theorem SimE.step {rr : ER} (hE : EvO F n E) (hk : 0 ≤ a.1.1 ∧ a.1.1 ≤ 25) (w : okN a.1 a.2) (wc : wfT a.2) (hx : rgS E.1 a.1 a.2 = some x) (hR : ¬ (20000 < s.1 + wtS E.1 a) → SimR F n S ms E h a (s.1 + wtS E.1 a, s.2) rr) : SimE F n S ms E h a s (if 20000 < s.1 + wtS E.1 a then (.error 6, (20000, s.2)) else rr) := by
  obtain ⟨rc, K, Kf'⟩ := nd_kf hE hk w wc hx
  have wb := wtS_bd K w hk Kf'
  have K6 : a.1.1 = 6 → 0 < lenT a.2 := fun c => by
    rcases Kf'.2.2.1 c with q | q
    · have := q.1; omega
    · have := q.1; omega
  intro ne
  have go : ∀ (N : Nat), (¬ (20000 < s.1 + wtS E.1 a) → ∀ (k : Int) (Q : Int → MM → Prop) (m : MM) (pb : Int) (T : List Tk) (l : List VV) (R : Nat), VmS m F n S ms E h pb T l (s.1 + wtS E.1 a, s.2) → NmM E h pb l → SbM F S ms E.1 h a k → bdM E l T (wT a) (szT a.2) → OutZ F n S ms Q E h pb T l m R rr → ∀ r', R + N ≤ r' → RestM k (fun _ m2 => P_X10_eval_10 Q r' m2) m) → ∃ N : Nat, ∀ (k : Int) (Q : Int → MM → Prop) (m : MM) (pb : Int) (T : List Tk) (l : List VV) (R : Nat), VmS m F n S ms E h pb ((0, k, 0, 0, 0) :: T) l s → NmM E h pb l → SbM F S ms E.1 h a k → bdM E l T (wT a) (szT a.2) → OutZ F n S ms Q E h pb T l m R (if 20000 < s.1 + wtS E.1 a then (.error 6, (20000, s.2)) else rr) → GoM Q (R + N) m := by
    intro N HH
    refine ⟨N + 1, fun k Q m pb T l R H hN hS hb hO => ?_⟩
    have hc := H.2.2.2.2.1
    rw [← Nat.add_assoc]
    refine runT H (by have := hb.2; omega) (by have := hb.1; omega) (fun m1 H1 F1 r' hr => ?_)
    unfold P_X10_task_20
    refine ⟨by show RI 0; decide, ?_⟩
    rw [if_pos rfl, evalPart_eq]
    obtain ⟨cs, N1⟩ := H1.node hS
    refine c_stepsM N1 hk w hx K K6 ?_
    unfold P_X10_step
    rw [H1.er, H1.s1]
    have bs := H1.bs
    refine ⟨by decide, ?_⟩
    rw [if_pos (by decide)]
    refine ⟨by constructor <;> omega, by constructor <;> omega, ?_⟩
    by_cases c : 20000 < s.1 + wtS E.1 a
    · rw [if_neg (by omega)]
      intro m2 e2 m3 e3
      refine ⟨by decide, ?_⟩
      rw [if_pos rfl]
      rw [if_pos c] at hO
      have hO : ∀ m', m' 582 84 = 6 → m' 582 90 = 20000 → m' 582 92 = s.2 → (0 ≤ m' 582 99 ∧ m' 582 99 ≤ 12000) → VmI m' F n S ms → Fvm 0 S.2.2.2.1 m m' → GoM Q R m' := hO
      have f3 : ∀ c i, ¬ (c = 582 ∧ (i = 84 ∨ i = 90)) → m3 c i = m1 c i := fun c i q => by rw [e3, up_ne (by omega), e2, up_ne (by omega)]
      obtain ⟨q1, q2⟩ := H1.errF (m' := m3) (fun c i z _ _ => f3 c i (by omega))
      have ts := H1.ts
      exact hO m3 (by rw [e3, up_neI (by decide), e2, up_at]) (by rw [e3, up_at]) (by rw [f3 _ _ (by decide)]; exact H1.s2) (by rw [f3 _ _ (by decide), ts]; have := hb.2; omega) q1 ((F1.trans q2).le hc.1) r' (by omega)
    · rw [if_pos (by omega)]
      intro m2 e2
      refine ⟨by decide, ?_⟩
      rw [if_neg (by decide)]
      rw [if_neg c] at hO
      have f2 : ∀ c i, ¬ (c = 582 ∧ i = 90) → m2 c i = m1 c i := fun c i q => by rw [e2, up_ne q]
      obtain ⟨H2, F2⟩ := H1.chg (m' := m2) (T' := T) (l' := l) (s' := (s.1 + wtS E.1 a, s.2)) (fun c i q _ _ => f2 c i (by omega)) (by rw [f2 _ _ (by decide)]; exact H1.er) (H1.tk.fr (fun c i _ _ _ _ => f2 c i (by omega))) (by rw [f2 _ _ (by decide)]; exact H1.ts) (H1.st.fr (fun q _ _ => f2 _ _ (by omega))) (by rw [f2 _ _ (by decide)]; exact H1.tp) (by rw [e2, up_at]) (by rw [f2 _ _ (by decide)]; exact H1.s2) ⟨by show 0 ≤ s.1 + wtS E.1 a ∧ s.1 + wtS E.1 a ≤ 20000; omega, bs.2⟩
      exact HH c k Q m2 pb T l R H2 hN hS hb (hO.fm' (F1.trans F2) hc.1) r' (by omega)
  by_cases c : 20000 < s.1 + wtS E.1 a
  · exact go 0 (fun z => absurd c z)
  · have hne : rr.1 ≠ .error 99 := by rw [if_neg c] at ne; exact ne
    obtain ⟨N, HH⟩ := hR c hne
    exact go N (fun _ => HH)
/-! a new value -/
theorem c_newV (H : VmS m F n S ms E h pb T l s) (hl : l.length ≤ 1800) (K : ∀ m1, okFr m m1 → (∀ q, q < 882 * (l.length : Int) → m1 635 q = m 635 q) → m1 582 84 = 0 → m1 582 86 = (l.length : Int) + 1 → Rw (m1 635) (882 * (l.length : Int)) zr 441 → Q (882 * (l.length : Int)) m1) : P_X10_newValue m Q := by
  unfold P_X10_newValue
  intro m1 e1
  rw [H.tp]
  have f1 : ∀ c i, ¬ (c = 582 ∧ i = 86) → m1 c i = m c i := fun c i q => by rw [e1, up_ne q]
  refine c_clear (n := 441) (by omega) (by omega) (fun m2 f2 e2 r2 => ?_)
  refine K m2 (fun c i q1 q2 q3 => (f2.1 c i q2 (by omega)).trans (f1 c i (by omega))) (fun q hq => ?_) ?_ ?_ r2
  · rw [f2.2 q (by omega)]; exact f1 _ _ (by omega)
  · rw [e2, f1 _ _ (by decide)]; exact H.er
  · rw [f2.1 _ _ (by decide) (by decide), e1, up_at, H.tp]
theorem VM_pt {p j : Int} {v : Int} (h : VM (m 635) p zV) (hj : 0 ≤ j ∧ j < 49) : VM ((pt m 635 (p + 2 * j) (v, 1)) 635) p (rvv (setP zr j (v, 1))) := by
  intro i i' hi hi' k k0 k1
  have q := h i i' hi hi' k k0 k1
  have e0 : (zV i i' k : PP) = (0, 1) := rfl
  rw [e0] at q
  unfold in3 at hi hi'
  unfold pt
  by_cases c : i = 0 ∧ i' = 0 ∧ k = j
  · obtain ⟨rfl, rfl, rfl⟩ := c
    rw [rvv_at]
    unfold setP
    rw [if_pos rfl, show p + 98 * (3 * 0 + 0) + 2 * k = p + 2 * k by omega]
    exact ⟨by rw [up_neI (by omega), up_at], by rw [up_at]⟩
  · have e : rvv (setP zr j (v, 1)) i i' k = (0, 1) := by
      by_cases c2 : i = 0 ∧ i' = 0
      · rw [c2.1, c2.2, rvv_at]
        unfold setP
        rw [if_neg (fun z => c ⟨c2.1, c2.2, z⟩)]
        rfl
      · rw [rvv_ne c2]; rfl
    rw [e, up_neI (by omega), up_neI (by omega), up_neI (by omega), up_neI (by omega)]
    exact q
theorem VM_of {g g' : Int → Int} {p q : Int} (h : VM g q V) (f : ∀ i, 0 ≤ i → i < 882 → g' (p + i) = g (q + i)) : VM g' p V := by
  intro i j hi hj k k0 k1
  have w := h i j hi hj k k0 k1
  unfold in3 at hi hj
  have e1 := f (98 * (3 * i + j) + 2 * k) (by omega) (by omega)
  have e2 := f (98 * (3 * i + j) + 2 * k + 1) (by omega) (by omega)
  rw [show p + 98 * (3 * i + j) + 2 * k = p + (98 * (3 * i + j) + 2 * k) by omega, show p + (98 * (3 * i + j) + 2 * k) + 1 = p + (98 * (3 * i + j) + 2 * k + 1) by omega, e1, e2, show q + (98 * (3 * i + j) + 2 * k) = q + 98 * (3 * i + j) + 2 * k by omega, show q + (98 * (3 * i + j) + 2 * k + 1) = q + 98 * (3 * i + j) + 2 * k + 1 by omega]
  exact w
/-- copies of results, of variables -/
theorem c_154 {p v : Int} (hk : 0 ≤ k ∧ k < 12000) (hv : 0 ≤ v ∧ v < 200) (hp : 0 ≤ p ∧ p + 882 ≤ 1590000) (hm : m 597 k = v) (K : ∀ m', (∀ c i, ¬ (c = 635 ∧ p ≤ i ∧ i < p + 882) → m' c i = m c i) → (∀ i, 0 ≤ i → i < 882 → m' 635 (p + i) = m 629 (882 * v + i)) → Q 0 m') : ∃ nn, P_X10_evalPart_154 Q nn k p 0 m := by
  have loop : ∀ (j : Nat) (i : Int) (m' : MM), (j : Int) + i = 882 → 0 ≤ i → (∀ c q, ¬ (c = 635 ∧ p ≤ q ∧ q < p + 882) → m' c q = m c q) → (∀ q, 0 ≤ q → q < i → m' 635 (p + q) = m 629 (882 * v + q)) → P_X10_evalPart_154 Q (j + 1) k p i m' := by
    intro j
    induction j with
    | zero =>
      intro i m' hi i0 f c
      unfold P_X10_evalPart_154
      refine ⟨by constructor <;> omega, ?_⟩
      rw [if_pos (by omega)]
      exact K m' f (fun q q0 q1 => c q q0 (by omega))
    | succ j ih =>
      intro i m' hi i0 f c
      unfold P_X10_evalPart_154
      refine ⟨by constructor <;> omega, ?_⟩
      rw [if_neg (by omega), f 597 k (by omega), hm, f 629 _ (by omega)]
      refine ⟨hk, by omega, by omega, fun m2 e2 => ?_⟩
      refine ih (i + 1) m2 (by omega) (by omega) (fun c q z => by rw [e2, up_ne (by omega)]; exact f c q z) (fun q q0 q1 => ?_)
      by_cases cc : q = i
      · rw [cc, e2, up_at]
      · rw [e2, up_neI (by omega)]; exact c q q0 (by omega)
  exact ⟨883, loop 882 0 m rfl (Int.le_refl _) (fun _ _ _ => rfl) (fun q a b => by omega)⟩
theorem c_237 {p v : Int} (hk : 0 ≤ k ∧ k < 12000) (hv : 0 ≤ v ∧ v < 20) (hp : 0 ≤ p ∧ p + 882 ≤ 1590000) (hr : m 596 k = 1) (hm : m 597 k = v) (K : ∀ m', (∀ c i, ¬ (c = 635 ∧ p ≤ i ∧ i < p + 882) → m' c i = m c i) → (∀ i, 0 ≤ i → i < 882 → m' 635 (p + i) = m 630 (882 * v + i)) → Q 0 m') : ∃ nn, P_X10_evalPart_237 Q nn k p 0 m := by
  have loop : ∀ (j : Nat) (i : Int) (m' : MM), (j : Int) + i = 882 → 0 ≤ i → (∀ c q, ¬ (c = 635 ∧ p ≤ q ∧ q < p + 882) → m' c q = m c q) → (∀ q, 0 ≤ q → q < i → m' 635 (p + q) = m 630 (882 * v + q)) → P_X10_evalPart_237 Q (j + 1) k p i m' := by
    intro j
    induction j with
    | zero =>
      intro i m' hi i0 f c
      unfold P_X10_evalPart_237
      rw [f 596 k (by omega), hr]
      refine ⟨hk, by decide, ?_⟩
      rw [if_pos rfl]
      refine ⟨by constructor <;> omega, ?_⟩
      rw [if_pos (by omega)]
      exact K m' f (fun q q0 q1 => c q q0 (by omega))
    | succ j ih =>
      intro i m' hi i0 f c
      unfold P_X10_evalPart_237
      rw [f 596 k (by omega), hr]
      refine ⟨hk, by decide, ?_⟩
      rw [if_pos rfl]
      refine ⟨by constructor <;> omega, ?_⟩
      rw [if_neg (by omega), f 597 k (by omega), hm, f 630 _ (by omega)]
      refine ⟨by omega, by omega, fun m2 e2 => ?_⟩
      refine ih (i + 1) m2 (by omega) (by omega) (fun c q z => by rw [e2, up_ne (by omega)]; exact f c q z) (fun q q0 q1 => ?_)
      by_cases cc : q = i
      · rw [cc, e2, up_at]
      · rw [e2, up_neI (by omega)]; exact c q q0 (by omega)
  exact ⟨883, loop 882 0 m rfl (Int.le_refl _) (fun _ _ _ => rfl) (fun q a b => by omega)⟩
theorem c_237n {p : Int} (hk : 0 ≤ k ∧ k < 12000) (hr : m 596 k = 0) (K : Q 0 m) : ∃ nn, P_X10_evalPart_237 Q nn k p 0 m := by
  refine ⟨1, ?_⟩
  unfold P_X10_evalPart_237
  rw [hr]
  refine ⟨hk, by decide, ?_⟩
  rw [if_neg (by decide)]
  exact K
/-- what stands left -/
theorem rstM_left (hk : 0 ≤ k ∧ k < 12000) (h9 : 11 ≤ m 590 k ∧ m 590 k ≤ 25) (K : P_X10_later_2 1 k 0 0 0 m (fun _ m22 => P_X10_later (m 591 k) m22 (fun _ m23 => Q 0 m23))) : RestM k Q m := by
  unfold RestM P_X10_isLeft
  refine ⟨hk, by constructor <;> omega, ?_⟩
  rw [if_neg (by omega), if_neg (by omega)]
  refine ⟨by decide, ?_⟩
  rw [if_neg (by decide)]
  exact K
theorem rstM_0 (hk : 0 ≤ k ∧ k < 12000) (h9 : m 590 k = 0) (K : P_X10_newValue m (fun r4 m4 => P_X10_set r4 (m4 605 k) m4 (fun _ m5 => Q 0 m5))) : RestM k Q m := by
  unfold RestM P_X10_isLeft
  refine ⟨hk, by rw [h9]; decide, ?_⟩
  rw [if_pos (by rw [h9]; decide)]
  refine ⟨by decide, ?_⟩
  rw [if_pos rfl, h9]
  refine ⟨by decide, ?_⟩
  rw [if_pos rfl]
  exact K
theorem rstM_1 (hk : 0 ≤ k ∧ k < 12000) (h9 : m 590 k = 1) (K : P_X10_newValue m (fun r4 m4 => P_X10_set (r4 + 2) 1 m4 (fun _ m5 => Q 0 m5))) : RestM k Q m := by
  unfold RestM P_X10_isLeft
  refine ⟨hk, by rw [h9]; decide, ?_⟩
  rw [if_pos (by rw [h9]; decide)]
  refine ⟨by decide, ?_⟩
  rw [if_pos rfl, h9]
  refine ⟨by decide, ?_⟩
  rw [if_neg (by decide), if_pos rfl]
  exact K
theorem rstM_2 (hk : 0 ≤ k ∧ k < 12000) (h9 : m 590 k = 2) (K : P_X10_newValue m (fun r4 m4 => P_X10_set (r4 + 14) 1 m4 (fun _ m5 => Q 0 m5))) : RestM k Q m := by
  unfold RestM P_X10_isLeft
  refine ⟨hk, by rw [h9]; decide, ?_⟩
  rw [if_pos (by rw [h9]; decide)]
  refine ⟨by decide, ?_⟩
  rw [if_pos rfl, h9]
  refine ⟨by decide, ?_⟩
  rw [if_neg (by decide), if_neg (by decide), if_pos rfl]
  exact K
theorem rstM_3 (hk : 0 ≤ k ∧ k < 12000) (h9 : m 590 k = 3) (K : P_X10_newValue m (fun r4 m4 => ∃ nn, P_X10_evalPart_154 Q nn k r4 0 m4)) : RestM k Q m := by
  unfold RestM P_X10_isLeft
  refine ⟨hk, by rw [h9]; decide, ?_⟩
  rw [if_pos (by rw [h9]; decide)]
  refine ⟨by decide, ?_⟩
  rw [if_pos rfl, h9]
  refine ⟨by decide, ?_⟩
  rw [if_neg (by decide), if_neg (by decide), if_neg (by decide), if_pos rfl]
  exact K
theorem rstM_4 (hk : 0 ≤ k ∧ k < 12000) (h9 : m 590 k = 4) (K : P_X10_newValue m (fun r11 m11 => (RI (m11 596 k)) ∧ (if (m11 596 k) = 0 then P_X10_valueAt ((m11 582 93) + (m11 597 k)) m11 (fun r12 m12 => P_X10_copy r11 r12 882 m12 (fun _ m13 => ∃ nn, P_X10_evalPart_237 Q nn k r11 0 m13)) else ∃ nn, P_X10_evalPart_237 Q nn k r11 0 m11))) : RestM k Q m := by
  unfold RestM P_X10_isLeft
  refine ⟨hk, by rw [h9]; decide, ?_⟩
  rw [if_pos (by rw [h9]; decide)]
  refine ⟨by decide, ?_⟩
  rw [if_pos rfl, h9]
  refine ⟨by decide, ?_⟩
  rw [if_neg (by decide), if_neg (by decide), if_neg (by decide), if_neg (by decide), if_pos rfl]
  exact K
theorem rstM_5 (hk : 0 ≤ k ∧ k < 12000) (h9 : m 590 k = 5) (K : P_X10_arguments k (m 591 k) 0 m (fun _ m14 => Q 0 m14)) : RestM k Q m := by
  unfold RestM P_X10_isLeft
  refine ⟨hk, by rw [h9]; decide, ?_⟩
  rw [if_pos (by rw [h9]; decide)]
  refine ⟨by decide, ?_⟩
  rw [if_pos rfl, h9]
  refine ⟨by decide, ?_⟩
  rw [if_neg (by decide), if_neg (by decide), if_neg (by decide), if_neg (by decide), if_neg (by decide), if_pos rfl]
  exact K
theorem rstM_6 (hk : 0 ≤ k ∧ k < 12000) (h9 : m 590 k = 6) (K : P_X10_later_2 10 k 0 0 0 m (fun _ m15 => (0 ≤ (m 591 k) ∧ (m 591 k) < 12000) ∧ P_X10_later (m15 591 (m 591 k)) m15 (fun _ m16 => Q 0 m16))) : RestM k Q m := by
  unfold RestM P_X10_isLeft
  refine ⟨hk, by rw [h9]; decide, ?_⟩
  rw [if_pos (by rw [h9]; decide)]
  refine ⟨by decide, ?_⟩
  rw [if_pos rfl, h9]
  refine ⟨by decide, ?_⟩
  rw [if_neg (by decide), if_neg (by decide), if_neg (by decide), if_neg (by decide), if_neg (by decide), if_neg (by decide), if_pos rfl]
  exact K
theorem rstM_7 (hk : 0 ≤ k ∧ k < 12000) (h9 : m 590 k = 7) (K : P_X10_newValue m (fun _ m17 => (0 ≤ (m 591 k) ∧ (m 591 k) < 12000) ∧ P_X10_later_2 7 k (m 591 k) (m17 591 (m 591 k)) 0 m17 (fun _ m18 => (0 ≤ (m18 591 (m 591 k)) ∧ (m18 591 (m 591 k)) < 12000) ∧ P_X10_later (m18 591 (m18 591 (m 591 k))) m18 (fun _ m19 => Q 0 m19)))) : RestM k Q m := by
  unfold RestM P_X10_isLeft
  refine ⟨hk, by rw [h9]; decide, ?_⟩
  rw [if_pos (by rw [h9]; decide)]
  refine ⟨by decide, ?_⟩
  rw [if_pos rfl, h9]
  refine ⟨by decide, ?_⟩
  rw [if_neg (by decide), if_neg (by decide), if_neg (by decide), if_neg (by decide), if_neg (by decide), if_neg (by decide), if_neg (by decide), if_pos rfl]
  exact K
theorem rstM_8 {w : Int} (hk : 0 ≤ k ∧ k < 12000) (h9 : m 590 k = 8 ∧ w = 3 ∨ m 590 k = 9 ∧ w = 5 ∨ m 590 k = 10 ∧ w = 6) (K : P_X10_later_2 w k 0 0 0 m (fun _ m20 => P_X10_later (m 591 k) m20 (fun _ m21 => Q 0 m21))) : RestM k Q m := by
  unfold RestM P_X10_isLeft
  refine ⟨hk, by constructor <;> omega, ?_⟩
  rw [if_pos (by omega)]
  refine ⟨by decide, ?_⟩
  rw [if_pos rfl]
  refine ⟨by constructor <;> omega, ?_⟩
  rw [if_neg (by omega), if_neg (by omega), if_neg (by omega), if_neg (by omega), if_neg (by omega), if_neg (by omega), if_neg (by omega), if_neg (by omega)]
  have e : (if m 590 k = 8 then (3 : Int) else (if m 590 k = 9 then 5 else 6 : Int)) = w := by
    rcases h9 with q | q | q
    · rw [if_pos q.1]; exact q.2.symm
    · rw [if_neg (by omega), if_pos q.1]; exact q.2.symm
    · rw [if_neg (by omega), if_neg (by omega)]; exact q.2.symm
  rw [e]
  exact K
end VMP
