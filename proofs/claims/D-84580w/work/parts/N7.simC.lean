set_option maxRecDepth 100000
/-! the component's machine: parts, one behind another; choices -/
def stkZ (z : Nat → R3) (g : Nat → VV) : Nat → List SV
  | 0 => []
  | k + 1 => ((z k).2.1, (z k).2.2, g k) :: stkZ z g k
theorem stkZ_len {z : Nat → R3} {g : Nat → VV} : ∀ k, (stkZ z g k).length = k := by
  intro k
  induction k with
  | zero => rfl
  | succ k ih => show (stkZ z g k).length + 1 = k + 1; rw [ih]
theorem stkZ_eq {z : Nat → R3} {g g' : Nat → VV} : ∀ k, (∀ i, i < k → g' i = g i) → stkZ z g' k = stkZ z g k := by
  intro k
  induction k with
  | zero => intro _; rfl
  | succ k ih =>
    intro h
    show ((z k).2.1, (z k).2.2, g' k) :: stkZ z g' k = ((z k).2.1, (z k).2.2, g k) :: stkZ z g k
    rw [h k (by omega), ih (fun i hi => h i (by omega))]
def mtE (r : EX (Nat → VV) × ES) (K : (Nat → VV) → ES → ER) : ER := match r with
  | (.error x, s) => (.error x, s)
  | (.ok g, s) => K g s
theorem evN_er {ev1 : Nat → ES → ER} {j i : Nat} {g : Nat → VV} {s s1 : ES} {x : Int} (h : ev1 i s = (.error x, s1)) : evN ev1 (j + 1) i g s = (.error x, s1) := by
  unfold evN
  rw [h]
theorem evN_on {ev1 : Nat → ES → ER} {j i : Nat} {g : Nat → VV} {s s1 : ES} {V : VV} (h : ev1 i s = (.ok V, s1)) : evN ev1 (j + 1) i g s = evN ev1 j (i + 1) (fun k => if k = i then V else g k) s1 := by
  conv => lhs; unfold evN
  rw [h]
theorem mtE_succ {ev1 : Nat → ES → ER} {j i : Nat} {g : Nat → VV} {s : ES} {K : (Nat → VV) → ES → ER} : mtE (evN ev1 (j + 1) i g s) K = andE (ev1 i s) (fun V s1 => mtE (evN ev1 j (i + 1) (fun k => if k = i then V else g k) s1) K) := by
  rcases h : ev1 i s with ⟨o, s1⟩
  cases o with
  | error x => rw [evN_er h]; rfl
  | ok V => rw [evN_on h]; rfl
section SIMC
variable {F : Int → FnR} {n : Int} {E : EVm} {fl : Int} {code code1 code2 : Int → List Ins} {pre l : List SV} {need need1 : Nat} {x z z1 : R3} {s : ES} {r r1 r2 : ER} {fr : List Fr} {m m' : MM} {V W : VV} {p x2 : Int} {Q : Int → MM → Prop} {R : Nat}
theorem SimG.many {f : Nat → Int → List Ins} {ev1 : Nat → ES → ER} {zz : Nat → R3} {nd : Nat → Nat} {rest : Int → List Ins} {K : (Nat → VV) → ES → ER} : ∀ (j i : Nat) (g : Nat → VV) (s : ES), (∀ k, i ≤ k → k < i + j → ∀ s, SimG F n E fl (f k) [] (nd k) (zz k) s (ev1 k s)) → (∀ k, i ≤ k → k < i + j → k + nd k ≤ need) → (∀ g' s1, evN ev1 j i g s = (.ok g', s1) → SimG F n E fl rest (stkZ zz g' (i + j)) need z s1 (K g' s1)) → SimG F n E fl (fun p => cgN f j i p ++ rest (p + ((cgN f j i p).length : Int))) (stkZ zz g i) need z s (mtE (evN ev1 j i g s) K) := by
  intro j
  induction j with
  | zero =>
    intro i g s _ _ hr
    have e : (fun p => cgN f 0 i p ++ rest (p + ((cgN f 0 i p).length : Int))) = rest := by
      funext p
      show [] ++ rest (p + ((0 : Nat) : Int)) = rest p
      rw [List.nil_append, show p + ((0 : Nat) : Int) = p by omega]
    rw [e]
    exact hr g s rfl
  | succ j ih =>
    intro i g s hf hn hr
    have e : (fun p => cgN f (j + 1) i p ++ rest (p + ((cgN f (j + 1) i p).length : Int))) = (fun p => f i p ++ (fun q => cgN f j (i + 1) q ++ rest (q + ((cgN f j (i + 1) q).length : Int))) (p + ((f i p).length : Int))) := by
      funext p
      show (f i p ++ cgN f j (i + 1) (p + ((f i p).length : Int))) ++ rest (p + (((f i p ++ cgN f j (i + 1) (p + ((f i p).length : Int))).length : Nat) : Int)) = _
      rw [List.append_assoc, List.length_append, show p + (((f i p).length + (cgN f j (i + 1) (p + ((f i p).length : Int))).length : Nat) : Int) = p + ((f i p).length : Int) + ((cgN f j (i + 1) (p + ((f i p).length : Int))).length : Int) by omega]
    rw [e, mtE_succ]
    refine SimG.bind (pre := stkZ zz g i) (code2 := fun q => cgN f j (i + 1) q ++ rest (q + ((cgN f j (i + 1) q).length : Int))) (hf i (Nat.le_refl _) (by omega) s) (fun V s1 h1 => ?_) (by rw [stkZ_len]; exact hn i (Nat.le_refl _) (by omega))
    have e2 : ((zz i).2.1, (zz i).2.2, V) :: stkZ zz g i = stkZ zz (fun k => if k = i then V else g k) (i + 1) := by
      show _ = ((zz i).2.1, (zz i).2.2, (if i = i then V else g i)) :: stkZ zz (fun k => if k = i then V else g k) i
      rw [if_pos rfl, stkZ_eq i (fun k hk => if_neg (by omega))]
    rw [e2]
    refine ih (i + 1) (fun k => if k = i then V else g k) s1 (fun k a b => hf k (by omega) (by omega)) (fun k a b => hn k (by omega) (by omega)) (fun g' s2 h2 => ?_)
    rw [show i + 1 + j = i + (j + 1) by omega]
    refine hr g' s2 ?_
    rw [evN_on h1]
    exact h2
theorem SimG.ned (h : SimG F n E fl code pre need1 z s r) (hn : need1 ≤ need) : SimG F n E fl code pre need z s r := by
  intro ne
  obtain ⟨N, H⟩ := h ne
  exact ⟨N, fun Q x2 m fr l p R hS hN hC hp hb hO => H Q x2 m fr l p R hS hN hC hp (by omega) hO⟩
/-- a jump -/
theorem go_jump {a : Int} (h : MS m F n E fl fr l p s) (hC : CoA m (slF fr) p [(10, a, 0)]) (hp : 0 ≤ p ∧ p < 1200) (k : ∀ m1, MS m1 F n E fl fr l a s → FmC n fr m m1 → Go Q x2 R m1) : Go Q x2 (R + 1) m := by
  refine run1 h hC hp (fun m1 S1 f1 r' hr => ?_)
  unfold P_X6_perform
  simp only [Int.reduceEq, reduceIte]
  refine ⟨by decide, fun m2 e2 => ?_⟩
  have nx : ∀ c i, ¬ (c = 376 ∧ i = 14) → m2 c i = m1 c i := fun c i z => by rw [e2, up_ne z]
  have d := S1.2.1
  refine k m2 (S1.up (v8 := 0) S1.2.2.2.2.2 (fun c i z => nx c i (by omega)) (by rw [e2, up_at]) (by rw [nx _ _ (by decide)]; exact d.2.2.2.2.1) (by rw [nx _ _ (by decide)]; exact d.2.2.2.2.2.1) (d.2.1.eq (fun i => ⟨nx _ _ (by omega), nx _ _ (by omega)⟩)) (by rw [nx _ _ (by decide)]; exact d.2.2.1)) (f1.trans (fm_up (fun c i z => nx c i (by omega)) (frG.in S1.1.2.1))) r' hr
/-- the top cell -/
theorem top_cell {v : Int} (h : MS m F n E fl fr ((0, 0, V) :: l) p s) (hl : l.length ≤ 1280) (e : V 0 0 0 = (v, 1)) : m 379 (m 381 (l.length : Int)) = v ∧ (0 ≤ m 381 (l.length : Int) ∧ m 381 (l.length : Int) < 1159540) := by
  obtain ⟨s0, vx, e1, bx, hd, hs⟩ := st1 h.st (by omega)
  have q := vx 0 0 (by decide) (by decide) 0 (Int.le_refl _) (by decide)
  rw [show m 381 (l.length : Int) + EA 0 0 0 0 + 2 * 0 = m 381 (l.length : Int) by unfold EA; omega, e] at q
  exact ⟨q.1, by omega⟩
/-- the top is dropped, the machine goes on at a place -/
theorem MS.drop {v : SV} {q : Int} (h : MS m F n E fl fr (v :: l) p s) (f : ∀ c i, ¬ (c = 376 ∧ (i = 8 ∨ i = 14)) → m' c i = m c i) (e8 : m' 376 8 = (l.length : Int)) (e14 : m' 376 14 = q) : MS m' F n E fl fr l q s ∧ FmC n fr m m' := by
  have d := h.2.1
  have f' : ∀ c i, ¬ (c = 376 ∧ (i = 8 ∨ i = 14 ∨ i = 15 ∨ i = 16)) → m' c i = m c i := fun c i z => f c i (by omega)
  refine ⟨h.up (v8 := 0) h.2.2.2.2.2 f' e14 (by rw [f _ _ (by decide)]; exact d.2.2.2.2.1) (by rw [f _ _ (by decide)]; exact d.2.2.2.2.2.1) ?_ e8, fm_up f' (frG.in h.1.2.1)⟩
  obtain ⟨d1, d2, d3⟩ := v
  exact stG.eq (m := m) d.2.1.1 (fun i => ⟨f _ _ (by omega), f _ _ (by omega)⟩)
/-- if -/
theorem SimG.choose {v : Int} (hv : v = 0 ∨ v = 1) (ev : V 0 0 0 = (v, 1)) (h1 : v ≠ 0 → SimG F n E fl code1 [] need z s r1) (h2 : v = 0 → SimG F n E fl code2 [] need z s r2) : SimG F n E fl (fun q => (11, q + 1 + ((code1 (q + 1)).length : Int) + 1, 0) :: (code1 (q + 1) ++ ((10, q + 1 + ((code1 (q + 1)).length : Int) + 1 + ((code2 (q + 1 + ((code1 (q + 1)).length : Int) + 1)).length : Int), 0) :: code2 (q + 1 + ((code1 (q + 1)).length : Int) + 1)))) [(0, 0, V)] need z s (if (V 0 0 0).1 = 0 then r2 else r1) := by
  intro ne
  rw [ev] at ne ⊢
  by_cases c : v = 0
  · rw [if_pos c] at ne ⊢
    obtain ⟨N, H⟩ := h2 c ne
    refine ⟨N + 1, fun Q x2 m fr l p R hS hN hC hp hb hO => ?_⟩
    have bd := hS.bd hb
    have hC1 := CoA.cons.1 hC
    have hC2 := CoA.app.1 hC1.2
    have hC3 := CoA.cons.1 hC2.2
    simp only [List.length_cons, List.length_append] at hp hO
    rw [← Nat.add_assoc]
    refine run1 hS (CoA.cons.2 ⟨hC1.1, CoA.nil⟩) (by omega) (fun m1 S1 f1 r' hr => ?_)
    have S1 : MS m1 F n E fl fr ((0, 0, V) :: l) (p + 1) s := S1
    obtain ⟨t1, t2⟩ := top_cell S1 (by omega) ev
    have tp : m1 376 8 - 1 = (l.length : Int) := by rw [S1.tp]; show ((l.length + 1 : Nat) : Int) - 1 = _; omega
    unfold P_X6_perform
    simp only [Int.reduceEq, reduceIte]
    refine ⟨by decide, fun m2 e2 => ?_⟩
    have nx : ∀ c i, ¬ (c = 376 ∧ i = 8) → m2 c i = m1 c i := fun c i z => by rw [e2, up_ne z]
    have e8 : m2 376 8 = (l.length : Int) := by rw [e2, up_at, tp]
    rw [e8, nx 381 _ (by omega), nx 379 _ (by omega), t1]
    refine ⟨by omega, t2, by omega, ?_⟩
    rw [if_pos c]
    intro m3 e3
    have ny : ∀ c i, ¬ (c = 376 ∧ i = 14) → m3 c i = m2 c i := fun c i z => by rw [e3, up_ne z]
    obtain ⟨S3, f3⟩ := MS.drop (m' := m3) (q := p + 1 + ((code1 (p + 1)).length : Int) + 1) S1 (fun c i z => by rw [ny _ _ (by omega), nx _ _ (by omega)]) (by rw [ny _ _ (by decide)]; exact e8) (by rw [e3, up_at])
    have ff := f1.trans f3
    refine H Q x2 m3 fr l _ R S3 hN (hC3.2.fm ff hS.ne) (by omega) hb ?_ r' (by omega)
    rw [show p + (((code1 (p + 1)).length + ((code2 (p + 1 + ((code1 (p + 1)).length : Int) + 1)).length + 1) + 1 : Nat) : Int) = p + 1 + ((code1 (p + 1)).length : Int) + 1 + ((code2 (p + 1 + ((code1 (p + 1)).length : Int) + 1)).length : Int) by omega] at hO
    exact hO.fm ff
  · rw [if_neg c] at ne ⊢
    obtain ⟨N, H⟩ := h1 c ne
    refine ⟨1 + N + 1, fun Q x2 m fr l p R hS hN hC hp hb hO => ?_⟩
    have bd := hS.bd hb
    have hC1 := CoA.cons.1 hC
    have hC2 := CoA.app.1 hC1.2
    have hC3 := CoA.cons.1 hC2.2
    simp only [List.length_cons, List.length_append] at hp hO
    rw [← Nat.add_assoc, ← Nat.add_assoc]
    refine run1 hS (CoA.cons.2 ⟨hC1.1, CoA.nil⟩) (by omega) (fun m1 S1 f1 r' hr => ?_)
    have S1 : MS m1 F n E fl fr ((0, 0, V) :: l) (p + 1) s := S1
    obtain ⟨t1, t2⟩ := top_cell S1 (by omega) ev
    have tp : m1 376 8 - 1 = (l.length : Int) := by rw [S1.tp]; show ((l.length + 1 : Nat) : Int) - 1 = _; omega
    unfold P_X6_perform
    simp only [Int.reduceEq, reduceIte]
    refine ⟨by decide, fun m2 e2 => ?_⟩
    have nx : ∀ c i, ¬ (c = 376 ∧ i = 8) → m2 c i = m1 c i := fun c i z => by rw [e2, up_ne z]
    have e8 : m2 376 8 = (l.length : Int) := by rw [e2, up_at, tp]
    rw [e8, nx 381 _ (by omega), nx 379 _ (by omega), t1]
    refine ⟨by omega, t2, by omega, ?_⟩
    rw [if_neg c]
    obtain ⟨S3, f3⟩ := MS.drop (m' := m2) (q := p + 1) S1 (fun c i z => by rw [nx _ _ (by omega)]) e8 (by rw [nx _ _ (by decide)]; exact S1.2.1.2.2.2.1)
    have ff := f1.trans f3
    refine H Q x2 m2 fr l _ (R + 1) S3 hN (hC2.1.fm ff hS.ne) (by omega) hb ?_ r' (by omega)
    rw [show p + (((code1 (p + 1)).length + ((code2 (p + 1 + ((code1 (p + 1)).length : Int) + 1)).length + 1) + 1 : Nat) : Int) = p + 1 + ((code1 (p + 1)).length : Int) + 1 + ((code2 (p + 1 + ((code1 (p + 1)).length : Int) + 1)).length : Int) by omega] at hO
    have hO := hO.fm ff
    have hne := hS.ne
    unfold OutK at hO ⊢
    generalize r1 = rr at hO ⊢
    obtain ⟨o, s2⟩ := rr
    cases o with
    | ok U =>
      intro m4 S4 f4
      refine go_jump S4 (CoA.cons.2 ⟨?_, CoA.nil⟩) (by omega) (fun m5 S5 f5 => hO m5 S5 (f4.trans f5))
      have q := ((CoA.cons.2 ⟨hC3.1, hC3.2⟩).fm (ff.trans f4) hne)
      exact (CoA.cons.1 q).1
    | error e => exact fun m4 fr' a1 a2 a3 a4 f4 => (hO m4 fr' a1 a2 a3 a4 f4).le (by omega)
/-- or, and -/
theorem SimG.both {op v : Int} (hop : op = 12 ∨ op = 13) (hv : v = 0 ∨ v = 1) (ev : V 0 0 0 = (v, 1)) (h1 : v ≠ (if op = 12 then 1 else 0) → SimG F n E fl code1 [] need (-2, 0, 0) s r1) : SimG F n E fl (fun q => (op, q + 1 + ((code1 (q + 1)).length : Int), 0) :: code1 (q + 1)) [(0, 0, V)] need (-2, 0, 0) s (if (V 0 0 0).1 = (if op = 12 then 1 else 0) then (.ok V, s) else r1) := by
  intro ne
  rw [ev] at ne ⊢
  have key : ∀ (m1 : MM) (fr : List Fr) (l : List SV) (p a : Int) (Q' : Int → MM → Prop), MS m1 F n E fl fr ((0, 0, V) :: l) p s → l.length ≤ 1280 → (v = (if op = 12 then 1 else 0) → ∀ m2, (∀ c i, ¬ (c = 376 ∧ i = 14) → m2 c i = m1 c i) → m2 376 14 = a → Q' 0 m2) → (v ≠ (if op = 12 then 1 else 0) → ∀ m2, (∀ c i, ¬ (c = 376 ∧ i = 8) → m2 c i = m1 c i) → m2 376 8 = (l.length : Int) → Q' 0 m2) → P_X6_perform op a 0 m1 Q' := by
    intro m1 fr l p a Q' S1 bd k1 k2
    obtain ⟨t1, t2⟩ := top_cell S1 (by omega) ev
    have tp : m1 376 8 - 1 = (l.length : Int) := by rw [S1.tp]; show ((l.length + 1 : Nat) : Int) - 1 = _; omega
    have h534 : P_X6_perform_534 Q' op a m1 := by
      unfold P_X6_perform_534
      rw [tp, t1]
      refine ⟨by omega, t2, by constructor <;> omega, by constructor <;> omega, by split <;> decide, ?_⟩
      by_cases c : v = (if op = 12 then 1 else 0)
      · rw [if_pos c]
        intro m2 e2
        exact k1 c m2 (fun c i z => by rw [e2, up_ne z]) (by rw [e2, up_at])
      · rw [if_neg c]
        intro m2 e2
        exact k2 c m2 (fun c i z => by rw [e2, up_ne z]) (by rw [e2, up_at])
    unfold P_X6_perform
    rcases hop with rfl | rfl
    · simp only [Int.reduceEq, reduceIte]
      exact ⟨by decide, h534⟩
    · simp only [Int.reduceEq, reduceIte]
      exact ⟨by decide, h534⟩
  by_cases c : v = (if op = 12 then 1 else 0)
  · rw [if_pos c] at ne ⊢
    refine ⟨1, fun Q x2 m fr l p R hS hN hC hp hb hO => ?_⟩
    have bd := hS.bd hb
    have hC1 := CoA.cons.1 hC
    simp only [List.length_cons] at hp hO
    refine run1 hS (CoA.cons.2 ⟨hC1.1, CoA.nil⟩) (by omega) (fun m1 S1 f1 r' hr => ?_)
    have S1 : MS m1 F n E fl fr ((0, 0, V) :: l) (p + 1) s := S1
    refine key m1 fr l (p + 1) _ _ S1 (by omega) (fun _ m2 nx e14 => ?_) (fun z => absurd c z)
    have d := S1.2.1
    have S2 := S1.up (v8 := 0) S1.2.2.2.2.2 (fun c i z => nx c i (by omega)) e14 (by rw [nx _ _ (by decide)]; exact d.2.2.2.2.1) (by rw [nx _ _ (by decide)]; exact d.2.2.2.2.2.1) (d.2.1.eq (fun i => ⟨nx _ _ (by omega), nx _ _ (by omega)⟩)) (by rw [nx _ _ (by decide)]; exact d.2.2.1)
    have f2 : FmC n fr m1 m2 := fm_up (fun c i z => nx c i (by omega)) (frG.in S1.1.2.1)
    rw [show p + (((code1 (p + 1)).length + 1 : Nat) : Int) = p + 1 + ((code1 (p + 1)).length : Int) by omega] at hO
    exact hO m2 S2 (f1.trans f2) r' hr
  · rw [if_neg c] at ne ⊢
    obtain ⟨N, H⟩ := h1 c ne
    refine ⟨N + 1, fun Q x2 m fr l p R hS hN hC hp hb hO => ?_⟩
    have bd := hS.bd hb
    have hC1 := CoA.cons.1 hC
    simp only [List.length_cons] at hp hO
    rw [← Nat.add_assoc]
    refine run1 hS (CoA.cons.2 ⟨hC1.1, CoA.nil⟩) (by omega) (fun m1 S1 f1 r' hr => ?_)
    have S1 : MS m1 F n E fl fr ((0, 0, V) :: l) (p + 1) s := S1
    refine key m1 fr l (p + 1) _ _ S1 (by omega) (fun z => absurd z c) (fun _ m2 nx e8 => ?_)
    obtain ⟨S3, f3⟩ := MS.drop (m' := m2) (q := p + 1) S1 (fun c i z => by rw [nx _ _ (by omega)]) e8 (by rw [nx _ _ (by decide)]; exact S1.2.1.2.2.2.1)
    have ff := f1.trans f3
    refine H Q x2 m2 fr l _ R S3 hN (hC1.2.fm ff hS.ne) (by omega) hb ?_ r' (by omega)
    rw [show p + (((code1 (p + 1)).length + 1 : Nat) : Int) = p + 1 + ((code1 (p + 1)).length : Int) by omega] at hO
    exact hO.fm ff
end SIMC
