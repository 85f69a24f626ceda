set_option maxRecDepth 100000
/-! the component's machine: pieces of code -/
/-- what follows a piece of code -/
def OutK (F : Int → FnR) (n : Int) (Q : Int → MM → Prop) (x2 : Int) (E : EVm) (fl : Int) (fr : List Fr) (l : List SV) (z : R3) (q : Int) (m0 : MM) (R : Nat) (r : ER) : Prop := match r with
  | (.ok V, s') => ∀ m', MS m' F n E fl fr ((z.2.1, z.2.2, V) :: l) q s' → FmC n fr m0 m' → Go Q x2 R m'
  | (.error e, s') => ∀ m' fr', MsI m' F n fr' → m' 378 2 = e → m' 376 15 = s'.1 → m' 376 16 = s'.2 → FmC n [] m0 m' → Go Q x2 R m'
def SimG (F : Int → FnR) (n : Int) (E : EVm) (fl : Int) (code : Int → List Ins) (pre : List SV) (need : Nat) (z : R3) (s : ES) (r : ER) : Prop := r.1 ≠ .error 99 → ∃ N : Nat, ∀ (Q : Int → MM → Prop) (x2 : Int) (m : MM) (fr : List Fr) (l : List SV) (p : Int) (R : Nat), MS m F n E fl fr (pre ++ l) p s → NmO E fl fr l → CoA m (slF fr) p (code p) → (0 ≤ p ∧ p + ((code p).length : Int) ≤ 1199) → ((l.length : Int) + need + 59 * (20 - E.2.2.1) ≤ 1280) → OutK F n Q x2 E fl fr l z (p + ((code p).length : Int)) m R r → Go Q x2 (R + N) m
section SIMS
variable {F : Int → FnR} {n : Int} {E : EVm} {fl : Int} {code code1 code2 : Int → List Ins} {pre l : List SV} {need need1 : Nat} {z z1 : R3} {s : ES} {r r1 : ER} {fr : List Fr} {m m' : MM} {x2 q : Int} {R : Nat} {Q : Int → MM → Prop}
theorem FmC.nil (h : FmC n fr m m') : FmC n [] m m' := ⟨fun x hx => (by cases hx), h.2⟩
theorem NmO.app (h : NmO E fl fr l) : NmO E fl fr (pre ++ l) := by
  refine ⟨h.1, fun hf w i y hy => ?_⟩
  obtain ⟨p1, s1, h1, h2⟩ := h.2 hf w i y hy
  exact ⟨pre ++ p1, s1, by rw [h1, List.append_assoc], h2⟩
theorem Go.le {R' : Nat} (h : Go Q x2 R m) (hR : R ≤ R') : Go Q x2 R' m := fun r hr => h r (by omega)
theorem CoA.fm {p : Int} {c : List Ins} (h : CoA m (slF fr) p c) (f : FmC n fr m m') (hf : fr ≠ []) : CoA m' (slF fr) p c := by
  cases fr with
  | nil => exact absurd rfl hf
  | cons x fr =>
    have e : slF (x :: fr) = 389 + 4 * x.1 := rfl
    rw [e] at h ⊢
    exact h.fr (fun c i hc _ _ => f.1 x (by simp) c i (by omega) (by omega))
theorem MS.ne {p : Int} (h : MS m F n E fl fr l p s) : fr ≠ [] := by
  intro e
  have a := h.2.2.2.1
  have b := h.2.2.2.2.1
  rw [e, List.length_nil] at a; omega
/-- one piece, then another -/
theorem SimG.bind {k : VV → ES → ER} (h1 : SimG F n E fl code1 [] need1 z1 s r1) (h2 : ∀ V s1, r1 = (.ok V, s1) → SimG F n E fl code2 ((z1.2.1, z1.2.2, V) :: pre) need z s1 (k V s1)) (hn : pre.length + need1 ≤ need) : SimG F n E fl (fun p => code1 p ++ code2 (p + ((code1 p).length : Int))) pre need z s (andE r1 k) := by
  intro ne
  obtain ⟨o, s1⟩ := r1
  cases o with
  | error e =>
    have ne : (Except.error e : EX VV) ≠ .error 99 := ne
    obtain ⟨N, H⟩ := h1 ne
    refine ⟨N, fun Q x2 m fr l p R hS hN hC hp hb hO => ?_⟩
    have hC := CoA.app.1 hC
    simp only [List.length_append] at hp
    exact H Q x2 m fr (pre ++ l) p R hS hN.app hC.1 (by omega) (by rw [List.length_append]; omega) hO
  | ok V =>
    obtain ⟨N1, H1⟩ := h1 (fun z => by cases z)
    obtain ⟨N2, H2⟩ := h2 V s1 rfl ne
    refine ⟨N2 + N1, fun Q x2 m fr l p R hS hN hC hp hb hO => ?_⟩
    have hC := CoA.app.1 hC
    simp only [List.length_append] at hp hO
    rw [← Nat.add_assoc]
    refine H1 Q x2 m fr (pre ++ l) p (R + N2) hS hN.app hC.1 (by omega) (by rw [List.length_append]; omega) (fun m' S' f' => ?_)
    refine H2 Q x2 m' fr l _ R S' hN (hC.2.fm f' hS.ne) (by omega) hb ?_
    rw [show p + (((code1 p).length + (code2 (p + ((code1 p).length : Int))).length : Nat) : Int) = p + ((code1 p).length : Int) + ((code2 (p + ((code1 p).length : Int))).length : Int) by omega] at hO
    have hO : OutK F n Q x2 E fl fr l z (p + ((code1 p).length : Int) + ((code2 (p + ((code1 p).length : Int))).length : Int)) m R (k V s1) := hO
    unfold OutK at hO ⊢
    generalize k V s1 = kr at hO ⊢
    obtain ⟨o, s2⟩ := kr
    cases o with
    | ok U => exact fun m2 S2 f2 => hO m2 S2 (f'.trans f2)
    | error e => exact fun m2 fr' a1 a2 a3 a4 f2 => hO m2 fr' a1 a2 a3 a4 (f'.nil.trans f2)
theorem OutK.fm {m0 : MM} {p : Int} (h : OutK F n Q x2 E fl fr l z p m0 R r) (f : FmC n fr m0 m) : OutK F n Q x2 E fl fr l z p m R r := by
  unfold OutK at h ⊢
  obtain ⟨o, s2⟩ := r
  cases o with
  | ok U => exact fun m2 S2 f2 => h m2 S2 (f.trans f2)
  | error e => exact fun m2 fr' a1 a2 a3 a4 f2 => h m2 fr' a1 a2 a3 a4 (f.nil.trans f2)
/-- steps are told -/
theorem SimG.step {wt : Int} (hw : 0 ≤ wt ∧ wt ≤ 6000) (h : ¬ (20000 < s.1 + wt) → SimG F n E fl code pre need z (s.1 + wt, s.2) r) : SimG F n E fl (fun p => (0, wt, 0) :: code (p + 1)) pre need z s (if 20000 < s.1 + wt then (.error 6, (20000, s.2)) else r) := by
  intro ne
  have go : ∀ (N : Nat), (¬ (20000 < s.1 + wt) → ∀ (Q : Int → MM → Prop) (x2 : Int) (m : MM) (fr : List Fr) (l : List SV) (p : Int) (R : Nat), MS m F n E fl fr (pre ++ l) p (s.1 + wt, s.2) → NmO E fl fr l → CoA m (slF fr) p (code p) → (0 ≤ p ∧ p + ((code p).length : Int) ≤ 1199) → ((l.length : Int) + need + 59 * (20 - E.2.2.1) ≤ 1280) → OutK F n Q x2 E fl fr l z (p + ((code p).length : Int)) m R r → Go Q x2 (R + N) m) → ∃ N : Nat, ∀ (Q : Int → MM → Prop) (x2 : Int) (m : MM) (fr : List Fr) (l : List SV) (p : Int) (R : Nat), MS m F n E fl fr (pre ++ l) p s → NmO E fl fr l → CoA m (slF fr) p ((0, wt, 0) :: code (p + 1)) → (0 ≤ p ∧ p + (((0, wt, 0) :: code (p + 1) : List Ins).length : Int) ≤ 1199) → ((l.length : Int) + need + 59 * (20 - E.2.2.1) ≤ 1280) → OutK F n Q x2 E fl fr l z (p + (((0, wt, 0) :: code (p + 1) : List Ins).length : Int)) m R (if 20000 < s.1 + wt then (.error 6, (20000, s.2)) else r) → Go Q x2 (R + N) m := by
    intro N H
    refine ⟨N + 1, fun Q x2 m fr l p R hS hN hC hp hb hO => ?_⟩
    have hC := CoA.cons.1 hC
    rw [List.length_cons] at hp hO
    rw [← Nat.add_assoc]
    refine run1 hS (CoA.cons.2 ⟨hC.1, CoA.nil⟩) (by omega) (fun m1 S1 f1 r' hr => ?_)
    obtain ⟨I1, ⟨d1, d2, d3, d4, d5, d6, d7⟩, V1, L1, L2, L3⟩ := S1
    unfold P_X6_perform
    simp only [reduceIte]
    rw [d5]
    refine ⟨by decide, by constructor <;> omega, ?_⟩
    by_cases c : 20000 < s.1 + wt
    · rw [if_neg (by omega)]
      intro m2 e2 m3 e3
      have hO : OutK F n Q x2 E fl fr l z (p + (((code (p + 1)).length + 1 : Nat) : Int)) m R (.error 6, (20000, s.2)) := by
        rw [if_pos c] at hO; exact hO
      have nx : ∀ c i, ¬ (c = 378 ∧ i = 2) → ¬ (c = 376 ∧ i = 15) → m3 c i = m1 c i := fun c i z1 z2 => by rw [e3, up_ne z2, e2, up_ne z1]
      have f3 : FmC n [] m1 m3 := ⟨fun x hx => (by cases hx), fun c i a1 a2 _ _ => nx c i (by omega) (by omega)⟩
      exact (hO m3 fr (I1.eq (fun c i a => nx c i (by omega) (by omega)) (by rw [nx _ _ (by decide) (by decide), nx _ _ (by decide) (by decide)]; exact I1.2.2.2.2.2.2.2)) (by rw [e3, up_ne (by decide), e2, up_at]) (by rw [e3, up_at]) (by rw [nx _ _ (by decide) (by decide)]; exact d6) (f1.nil.trans f3)).le (by omega) r' hr
    · rw [if_pos (by omega)]
      intro m2 e2
      rw [if_neg c] at hO
      have nx : ∀ c i, ¬ (c = 376 ∧ i = 15) → m2 c i = m1 c i := fun c i z => by rw [e2, up_ne z]
      have S2 : MS m2 F n E fl fr (pre ++ l) (p + 1) (s.1 + wt, s.2) := MS.up (v8 := 0) (m := m1) ⟨I1, ⟨d1, d2, d3, d4, d5, d6, d7⟩, V1, L1, L2, L3⟩ ⟨by show 0 ≤ s.1 + wt ∧ s.1 + wt ≤ 20000; omega, L3.2⟩ (fun c i z => nx c i (by omega)) (by rw [nx _ _ (by decide)]; exact d4) (by rw [e2, up_at]) (by rw [nx _ _ (by decide)]; exact d6) (d2.eq (fun i => ⟨nx _ _ (by omega), nx _ _ (by omega)⟩)) (by rw [nx _ _ (by decide)]; exact d3)
      have f2 : FmC n fr m1 m2 := fm_up (fun c i z => nx c i (by omega)) (frG.in I1.2.1)
      have ff := f1.trans f2
      refine H c Q x2 m2 fr l (p + 1) R S2 hN (hC.2.fm ff hS.ne) (by omega) hb ?_ r' (by omega)
      rw [show p + (((code (p + 1)).length + 1 : Nat) : Int) = p + 1 + ((code (p + 1)).length : Int) by omega] at hO
      exact hO.fm ff
  by_cases c : 20000 < s.1 + wt
  · exact go 0 (fun z => absurd c z)
  · have hne : r.1 ≠ .error 99 := by rw [if_neg c] at ne; exact ne
    obtain ⟨N, H⟩ := h c hne
    exact go N (fun _ => H)
/-- one instruction that answers by the top -/
theorem SimG.op {op x y : Int} {res : EX VV} (h : ∀ (m1 : MM) (fr : List Fr) (l : List SV) (p : Int) (Q' : Int → MM → Prop), MS m1 F n E fl fr (pre ++ l) p s → NmO E fl fr l → ((l.length : Int) + need + 59 * (20 - E.2.2.1) ≤ 1280) → OutS m1 res z.2.1 z.2.2 l Q' → P_X6_perform op x y m1 Q') : SimG F n E fl (fun _ => [(op, x, y)]) pre need z s (res, s) := by
  intro _
  refine ⟨1, fun Q x2 m fr l p R hS hN hC hp hb hO => ?_⟩
  rw [List.length_singleton] at hp hO
  refine run1 hS hC (by omega) (fun m1 S1 f1 r' hr => ?_)
  refine h m1 fr l (p + 1) _ S1 hN hb ⟨fun U m2 e fk er st tp => ?_, fun e m2 ee fk er => ?_⟩
  · subst e
    have hO : ∀ m', MS m' F n E fl fr ((z.2.1, z.2.2, U) :: l) (p + 1) s → FmC n fr m m' → Go Q x2 R m' := hO
    exact hO m2 (S1.fk fk er st (by rw [tp, List.length_cons]; omega)) (f1.trans (fk.fm (frG.in S1.1.2.1))) r' hr
  · subst ee
    have hO : ∀ m' fr', MsI m' F n fr' → m' 378 2 = e → m' 376 15 = s.1 → m' 376 16 = s.2 → FmC n [] m m' → Go Q x2 R m' := hO
    have d := S1.2.1
    exact hO m2 fr (S1.1.fk fk) er (by rw [fk.1 _ _ (by decide) (by decide) (by decide) (by decide) (by decide) (by decide) (by decide)]; exact d.2.2.2.2.1) (by rw [fk.1 _ _ (by decide) (by decide) (by decide) (by decide) (by decide) (by decide) (by decide)]; exact d.2.2.2.2.2.1) (f1.nil.trans (fk.fm (fr := []) (fun x hx => by cases hx))) r' hr
/-- the same for one that can't go wrong -/
theorem SimG.opo {op x y : Int} {U : VV} (h : ∀ (m1 : MM) (fr : List Fr) (l : List SV) (p : Int) (Q' : Int → MM → Prop), MS m1 F n E fl fr (pre ++ l) p s → NmO E fl fr l → ((l.length : Int) + need + 59 * (20 - E.2.2.1) ≤ 1280) → (∀ m', FKm m1 m' → m' 378 2 = m1 378 2 → stG m' ((z.2.1, z.2.2, U) :: l) → m' 376 8 = (l.length : Int) + 1 → Q' 0 m') → P_X6_perform op x y m1 Q') : SimG F n E fl (fun _ => [(op, x, y)]) pre need z s (.ok U, s) :=
  SimG.op (fun m1 fr l p Q' S hN hb hO => h m1 fr l p Q' S hN hb (fun m' fk er st tp => hO.1 U m' rfl fk (by rw [er]; exact S.2.1.1) st tp))
end SIMS
