set_option maxRecDepth 100000
/-! the model: powers, what goes; parts of one; items -/
section LEFT2
variable {Q : Int → MM → Prop} {T : MM → Prop} {e : JE} {ro : Int} {d : ND} {c : TT} {m m1 m2 : MM} {n : Nte} {lo hi k sp : Int} {rc : List R3} {x : R3} {dep : Nat}
theorem own_pow {x : R3} (hk : d.1 = 23) : ownS e d [x] = if x.1 ≠ -2 ∧ d.2.2.1 ≤ 12 then some x else none := by
  rw [own_one (Or.inr (Or.inr hk)), if_neg (by omega), if_neg (by omega)]
/-- the node's own ring is cleared -/
theorem clrM (f : FJm lo hi sp m m1) (hk : lo ≤ k ∧ k < hi) : FJm lo hi sp m (up m1 598 k (-9)) := fun c' i q1 q2 q3 q4 => by rw [up_ne (fun z => q1 ⟨by omega, by omega, by omega⟩)]; exact f c' i q1 q2 q3 q4
theorem leftPowM {z : Nat} {a : ND} {u : Unit} {ca : TT} {cl ch mid na : Int} (hk : d.1 = 23) (hc : c = .inner z a u ca .leaf) (w : okN d c) (wc : wfT c) (hb : (0 ≤ lo ∧ lo ≤ k ∧ k < hi ∧ hi ≤ 12000) ∧ (lo ≤ cl ∧ cl ≤ ch ∧ ch ≤ hi) ∧ (k < cl ∨ ch ≤ k)) (hmid : cl ≤ mid ∧ mid ≤ ch) (hN : NM m d k) (hL : LKm m d k [na]) (f1 : FJm lo hi sp m m1) (E1 : EMj m1 e ro) (Ta : TNM m1 (AnP m1 e ro) a ca cl mid na) (n1 : NN' m1 (mn n (ntS e a ca))) (post : PostM m e ro d c lo hi k sp n Q) : W_X10_judgeLeft (R_X10_judge dep) k m1 Q T := by
  have h30 : d.1 < 30 := by omega
  have hX : noX d := by unfold noX; omega
  have hX2 : d.1 ≠ 3 ∧ d.1 ≠ 4 := ⟨hX.1, hX.2.1⟩
  have h5 : d.1 = 5 → e.2.2.1 d.2.2.2 := fun q => absurd q hX.2.2.1
  have kb : 0 ≤ k ∧ k < 12000 := by omega
  have ka := Ta.lk
  obtain ⟨l6a, l6b, l6c⟩ := hL.2.2.2.2.2.1 hk
  have q1 : na = m 591 k := by cases l6a; rfl
  have e91 : m1 591 k = na := by rw [f1.st 591 k (by omega), q1]
  have e92 : m1 592 k = -1 := by rw [f1.st 592 k (by omega)]; exact l6b
  have e93 : m1 593 k = -1 := by rw [f1.st 593 k (by omega)]; exact l6c
  have wab : okN a ca ∧ wfT ca := by rw [hc] at wc; exact ⟨wc.1, wc.2.1⟩
  have v0 := w.2.1
  have J1 : (jdS e c).1 = [rgS e a ca] ∧ (jdS e c).2 = ntS e a ca := by rw [hc]; exact ⟨rfl, mn_none⟩
  have K : KidsM m m1 e ro d c lo hi k sp n [na] := by
    refine ⟨cl, ch, hb, hN, hL, f1, ?_, by rw [J1.2]; exact n1⟩
    rw [hc]
    exact ⟨na, [], mid, rfl, hmid.2, Ta, rfl, hmid.2⟩
  have oka := fun x hx => rgS_ok E1.ok wab.1 wab.2 (x := x) hx
  have f3 : FJm k (k + 1) sp m1 (up m1 598 k (-9)) := clrM (FJm.refl m1) (by omega)
  have e33 : up m1 598 k (-9) 582 13 = m1 582 13 := up_ne (by omega)
  have e34 : up m1 598 k (-9) 582 14 = m1 582 14 := up_ne (by omega)
  have r9 : up m1 598 k (-9) 598 k = -9 := up_at ..
  have ra3 : rgM (up m1 598 k (-9)) na (rgS e a ca) := Ta.rg.fr (fun c' _ _ => up_ne (by omega))
  have ek : up m1 598 k (-9) 590 k = 23 := by rw [up_ne (by omega), f1.st 590 k (by omega), hN.1 h30, hk]; rfl
  have e05 : up m1 598 k (-9) 605 k = d.2.2.1 := by rw [up_ne (by omega), f1.st 605 k (by omega)]; exact hN.2.2.1 (by omega)
  unfold W_X10_judgeLeft
  rw [e91, e92, e93]
  clear f1 hN hL l6a l6b l6c q1 e91 e92 e93 n1 Ta hmid wab wc
  refine ⟨kb, by decide, ?_⟩
  rw [if_pos (by decide)]
  refine ⟨by decide, ?_⟩
  rw [if_pos (by decide)]
  refine ⟨kb, ?_⟩
  rintro m3 rfl
  obtain ⟨m3, hm3⟩ : ∃ m3, m3 = up m1 598 k (-9) := ⟨_, rfl⟩
  rw [← hm3] at f3 e33 e34 r9 ra3 ek e05 ⊢
  have ria := ra3.ri oka
  refine ⟨⟨ka.1, ka.2.1⟩, ria.1, ?_⟩
  rcases ha : rgS e a ca with - | x
  · rw [if_pos (ria.2.2 ha)]
    exact km_none post K h30 h5 (by rw [J1.1, ha]; rfl) f3 e33 e34 r9
  rw [if_neg (fun q => by have := ria.2.1 q; rw [ha] at this; cases this)]
  refine ⟨by decide, ?_⟩
  rw [if_pos (by decide)]
  refine ⟨by decide, ?_⟩
  rw [if_pos (by decide)]
  have hrc : allS (jdS e c).1 = some [x] := by rw [J1.1, ha]; rfl
  have own := own_pow (e := e) (x := x) hk
  rw [ha] at ra3
  obtain ⟨a1, a2, a3⟩ := ra3
  have ox := oka x ha
  have xb := bM_bd (ok3_b ox)
  have xr := ok3_bd ox
  refine ⟨kb, by rw [ek]; decide, ?_⟩
  rw [ek, if_neg (by decide), if_neg (by decide), if_neg (by decide), if_neg (by decide), if_neg (by decide), if_neg (by decide), if_neg (by decide), if_neg (by decide), if_neg (by decide), if_neg (by decide), if_neg (by decide), if_neg (by decide), if_pos rfl, a1, a2, a3, e05]
  refine ⟨⟨ka.1, ka.2.1⟩, xr.1, ?_⟩
  by_cases xB : x.1 = -2
  · rw [if_pos (xb.2.2.1.2 xB)]
    exact km_bad post K h30 hX2 h5 w.1 hrc (own.trans (if_neg (fun q => q.1 xB))) f3 e33 e34
  · rw [if_neg (fun q => xB (xb.2.2.1.1 q))]
    refine ⟨by constructor <;> omega, ?_⟩
    by_cases v12 : 12 < d.2.2.1
    · rw [if_pos v12]
      exact km_bad post K h30 hX2 h5 w.1 hrc (own.trans (if_neg (fun q => by have := q.2; omega))) f3 e33 e34
    · rw [if_neg v12]
      exact km_set post K h30 hX hrc (own.trans (if_pos ⟨xB, by omega⟩)) f3 e33 e34 rfl rfl rfl
/-- what goes, and goes back -/
theorem leftGoM {z : Nat} {a : ND} {u : Unit} {ca s : TT} {cl ch mid na nr : Int} (hk : d.1 = 24 ∨ d.1 = 25) (hc : c = .inner z a u ca s) (hty : isTy s) (hht : htT s ≤ 16) (w : okN d c) (wc : wfT c) (hb : (0 ≤ lo ∧ lo ≤ k ∧ k < hi ∧ hi ≤ 12000) ∧ (lo ≤ cl ∧ cl ≤ ch ∧ ch ≤ hi) ∧ (k < cl ∨ ch ≤ k)) (hmid : cl ≤ mid ∧ mid ≤ ch) (hN : NM m d k) (hL : LKm m d k [na, nr]) (f1 : FJm lo hi sp m m1) (E1 : EMj m1 e ro) (Ta : TNM m1 (AnP m1 e ro) a ca cl mid na) (Tr : TM m1 Tt s mid ch [nr]) (ha25 : 0 ≤ a.1 ∧ a.1 ≤ 25) (n1 : NN' m1 (mn n (ntS e a ca))) (post : PostM m e ro d c lo hi k sp n Q) : W_X10_judgeLeft (R_X10_judge dep) k m1 Q T := by
  have h30 : d.1 < 30 := by omega
  have hX : noX d := by unfold noX; omega
  have hX2 : d.1 ≠ 3 ∧ d.1 ≠ 4 := ⟨hX.1, hX.2.1⟩
  have h5 : d.1 = 5 → e.2.2.1 d.2.2.2 := fun q => absurd q hX.2.2.1
  have kb : 0 ≤ k ∧ k < 12000 := by omega
  have ka := Ta.lk
  have kr : 0 ≤ nr ∧ nr < 12000 ∧ mid ≤ nr ∧ nr < ch := by
    cases s with
    | leaf => exact hty.elim
    | inner zs ds us cs' ss => obtain ⟨n', ns', mc, i0, i1, ⟨cl', ch', cs', i2, i3⟩, i4⟩ := Tr; cases i0; omega
  obtain ⟨l7a, l7b⟩ := hL.2.2.2.2.2.2.1 hk
  have q1 : na = m 591 k := by cases l7a; rfl
  have q2 : nr = m 593 k := by cases l7a; rfl
  have e91 : m1 591 k = na := by rw [f1.st 591 k (by omega), q1]
  have e92 : m1 592 k = -1 := by rw [f1.st 592 k (by omega)]; exact l7b
  have e93 : m1 593 k = nr := by rw [f1.st 593 k (by omega), q2]
  have wab : okN a ca ∧ wfT ca ∧ wfT s := by rw [hc] at wc; exact ⟨wc.1, wc.2.1, wc.2.2⟩
  have J1 : (jdS e c).1 = [rgS e a ca, (tyO e.2.2.2.2 s).1] ∧ (jdS e c).2 = mn (ntS e a ca) (tyO e.2.2.2.2 s).2 := by
    rw [hc]
    cases s with
    | leaf => exact hty.elim
    | inner zs ds us cs ss =>
      obtain ⟨hs1, rfl⟩ := hty
      have q : nodeS e ds cs (jdS e cs) = tyO e.2.2.2.2 (nd ds cs lf) := by
        unfold nodeS
        rw [if_pos (by omega)]
      have q2 : tyO e.2.2.2.2 (nd ds cs lf) = tyO e.2.2.2.2 (.inner zs ds us cs .leaf) := rfl
      constructor
      · show rgS e a ca :: (nodeS e ds cs (jdS e cs)).1 :: [] = _
        rw [q, q2]
      · show mn (ntS e a ca) (mn (nodeS e ds cs (jdS e cs)).2 none) = _
        rw [mn_none, q, q2]
  have oka := fun x hx => rgS_ok E1.ok wab.1 wab.2.1 (x := x) hx
  have okt := fun x hx => tyO_ok (R := e.2.2.2.2) (fun x hx => (E1.2.1 x hx).1) s wab.2.2 hty x hx
  unfold W_X10_judgeLeft
  rw [e91, e92, e93]
  refine ⟨kb, by decide, ?_⟩
  rw [if_pos (by decide)]
  refine ⟨by constructor <;> omega, ?_⟩
  rw [if_neg (by omega)]
  refine c_judgeRingM E1.2.1 s wab.2.2 hty (n := mn n (ntS e a ca)) (lo := mid) (hi := ch) (by omega) E1.1 Tr n1 (fun m2 g2 n2 t2 r2 => ?_)
  have f2 : FJm mid ch sp m1 m2 := fun c' i q1 q2 _ _ => g2 c' i (fun z => q1 ⟨by omega, z.2⟩) (fun z => q2 ⟨z.1, by omega⟩)
  have K : KidsM m m2 e ro d c lo hi k sp n [na, nr] := by
    refine ⟨cl, ch, hb, hN, hL, f1.trans (f2.mono (by omega) (by omega) (Int.le_refl _)), ?_, by rw [J1.2, ← mn_assoc]; exact n2⟩
    rw [hc]
    refine ⟨na, [nr], mid, rfl, hmid.2, ?_, ?_⟩
    · obtain ⟨cl', ch', cs', a1, a2, a3, a4, a5⟩ := Ta
      exact ⟨cl', ch', cs', a1, a2.fr f2.st (fun q => by omega), a3.fr f2.st, a4.fr (fun c' _ _ => f2 _ _ (by omega) (by omega) (by omega) (by omega)), a5.jm f2 (by omega)⟩
    · -- a written ring's nodes
      have ty : ∀ (t : TT), wfT t → (isTy t ∨ t = .leaf) → ∀ {lo hi : Int} {ns : List Int}, TM m2 (AnT m2 e.2.2.2.2) t lo hi ns → TM m2 (AnP m2 e ro) t lo hi ns := by
        intro t
        induction t with
        | leaf => intro _ _ lo hi ns h; exact h
        | inner zs ds us cs ss ihc ihs =>
          intro wt ht lo hi ns h
          rcases ht with ht | ht
          · obtain ⟨w0, wc', -⟩ := wt
            obtain ⟨h3, rfl⟩ := ht
            obtain ⟨n', ns', mc, i0, i1, ⟨cl', ch', cs', i2, i3, i4, i5, i6⟩, i7⟩ := h
            have cty : isTy cs ∨ cs = .leaf := by
              rcases w0.2.2.2.2.2.2.2.2 with q | q | q | q
              · exfalso; have := q.1; unfold arT at this; omega
              · exfalso; omega
              · exact Or.inr q.2
              · exact Or.inl q.2
            refine ⟨n', ns', mc, i0, i1, ⟨cl', ch', cs', i2, i3, i4, ⟨?_, fun x _ => ⟨fun q => by omega, fun q => by omega, fun q => by omega, fun q => by omega⟩⟩, ihc wc' cty i6⟩, i7⟩
            have q : rgS e ds cs = (tyO e.2.2.2.2 (nd ds cs lf)).1 := by
              unfold rgS nodeS
              rw [if_pos (by omega)]
            rw [q]
            exact i5
          · cases ht
      exact ty s wab.2.2 (Or.inl hty) t2
  have ra : rgM m2 na (rgS e a ca) := Ta.rg.fr (fun c' _ _ => f2 _ _ (by omega) (by omega) (by omega) (by omega))
  have f3 : FJm k (k + 1) sp m2 (up m2 598 k (-9)) := clrM (FJm.refl m2) (by omega)
  have e33 : up m2 598 k (-9) 582 13 = m2 582 13 := up_ne (by omega)
  have e34 : up m2 598 k (-9) 582 14 = m2 582 14 := up_ne (by omega)
  have r9 : up m2 598 k (-9) 598 k = -9 := up_at ..
  have ra3 : rgM (up m2 598 k (-9)) na (rgS e a ca) := ra.fr (fun c' _ _ => up_ne (by omega))
  have rr3 : rgM (up m2 598 k (-9)) nr (tyO e.2.2.2.2 s).1 := r2.fr (fun c' _ _ => up_ne (by omega))
  have ek : up m2 598 k (-9) 590 k = kM d.1 := by rw [up_ne (by omega), f2.st 590 k (by omega), f1.st 590 k (by omega)]; exact hN.1 h30
  have ek2 : kM d.1 = d.1 := by rcases hk with q | q <;> (rw [q]; rfl)
  rw [ek2] at ek
  clear f1 hN hL l7a l7b q1 q2 e91 e92 e93 n1 Ta Tr hmid wab wc ra r2 t2 n2 g2 f2 E1 hht
  refine ⟨kb, ?_⟩
  rintro m3 rfl
  obtain ⟨m3, hm3⟩ : ∃ m3, m3 = up m2 598 k (-9) := ⟨_, rfl⟩
  rw [← hm3] at f3 e33 e34 r9 ra3 rr3 ek ⊢
  have ria := ra3.ri oka
  have rir := rr3.ri okt
  refine ⟨⟨ka.1, ka.2.1⟩, ria.1, ?_⟩
  rcases ha : rgS e a ca with - | x
  · rw [if_pos (ria.2.2 ha)]
    exact km_none post K h30 h5 (by rw [J1.1, ha]; rfl) f3 e33 e34 r9
  rw [if_neg (fun q => by have := ria.2.1 q; rw [ha] at this; cases this)]
  refine ⟨by decide, ?_⟩
  rw [if_pos (by decide)]
  refine ⟨by constructor <;> omega, ?_⟩
  rw [if_neg (by omega)]
  refine ⟨⟨kr.1, kr.2.1⟩, rir.1, ?_⟩
  rcases ht : (tyO e.2.2.2.2 s).1 with - | y
  · rw [if_pos (rir.2.2 ht)]
    exact km_none post K h30 h5 (by rw [J1.1, ha, ht]; rfl) f3 e33 e34 r9
  rw [if_neg (fun q => by have := rir.2.1 q; rw [ht] at this; cases this)]
  have hrc : allS (jdS e c).1 = some [x, y] := by rw [J1.1, ha, ht]; rfl
  have own := own_turn (e := e) (x := x) (y := y) hk
  rw [ha] at ra3
  rw [ht] at rr3
  obtain ⟨a1, a2, a3⟩ := ra3
  obtain ⟨b1, b2, b3⟩ := rr3
  have ox := oka x ha
  have oy := okt y ht
  refine ⟨kb, by rw [ek]; constructor <;> omega, ?_⟩
  rw [ek, if_neg (by omega), if_neg (by omega), if_neg (by omega), if_neg (by omega), if_neg (by omega), if_neg (by omega), if_neg (by omega), if_neg (by omega), if_neg (by omega), if_neg (by omega), if_neg (by omega), if_neg (by omega), if_neg (by omega), a1, a2, a3, b1, b2, b3]
  have fin : ∀ (m4 : MM) (v : Int) (P : Prop), (v = 0 ∧ ¬ P ∨ v = 1 ∧ P) → FJm k (k + 1) sp m2 m4 → m4 582 13 = m2 582 13 → m4 582 14 = m2 582 14 → (P → ownS e d [x, y] = some y) → (¬ P → ownS e d [x, y] = none) → m4 598 nr = bM y.1 → m4 599 nr = y.2.1 → m4 600 nr = y.2.2 → (RI v) ∧ (if v = 0 then P_X10_wrong k m4 (fun _ m' => Q 0 m') else P_X10_setRing k (m4 598 nr) (m4 599 nr) (m4 600 nr) m4 (fun _ m' => Q 0 m')) := by
    intro m4 v P hv f4 g3 g4 h1 h0 c1 c2 c3
    rcases hv with ⟨rfl, hp⟩ | ⟨rfl, hp⟩
    · refine ⟨by decide, ?_⟩
      rw [if_pos rfl]
      exact km_bad post K h30 hX2 h5 w.1 hrc (h0 hp) f4 g3 g4
    · refine ⟨by decide, ?_⟩
      rw [if_neg (by decide)]
      exact km_set post K h30 hX hrc (h1 hp) f4 g3 g4 c1 c2 c3
  by_cases k24 : d.1 = 24
  · rw [if_pos k24] at own ⊢
    refine ⟨⟨ka.1, ka.2.1⟩, ⟨kr.1, kr.2.1⟩, c_goesM ox oy ?_⟩
    refine fin _ _ (jn x y = some y) (by by_cases g : jn x y = some y; right; exact ⟨if_pos g, g⟩; left; exact ⟨if_neg g, g⟩) (jmFJ f3) (by rw [jm_o (by omega)]; exact e33) (by rw [jm_o (by omega)]; exact e34) (fun g => own.trans (if_pos g)) (fun g => own.trans (if_neg g)) (by rw [jm_o (by omega)]; exact b1) (by rw [jm_o (by omega)]; exact b2) (by rw [jm_o (by omega)]; exact b3)
  · rw [if_neg k24] at own ⊢
    refine ⟨⟨kr.1, kr.2.1⟩, ⟨ka.1, ka.2.1⟩, c_goesM oy ox ?_⟩
    refine fin _ _ (jn y x = some x) (by by_cases g : jn y x = some x; right; exact ⟨if_pos g, g⟩; left; exact ⟨if_neg g, g⟩) (jmFJ f3) (by rw [jm_o (by omega)]; exact e33) (by rw [jm_o (by omega)]; exact e34) (fun g => own.trans (if_pos g)) (fun g => own.trans (if_neg g)) (by rw [jm_o (by omega)]; exact b1) (by rw [jm_o (by omega)]; exact b2) (by rw [jm_o (by omega)]; exact b3)
/-! items one behind another -/
theorem itemsM {rec : RecT} {Lp : Nat → Int → Int → Int → MM → Prop} {K : Int → Int → MM → Prop} (hstep : ∀ (n : Nat) (x2 x3 x4 : Int) (m : MM), ((RI x4) ∧ (if x4 < 0 then K x2 x3 m else (0 ≤ x4 ∧ x4 < 12000) ∧ rec 0 [(m 591 x4)] m (fun _ m1 => ((RI x2) ∧ (if x2 = 0 then True else ((0 ≤ (m1 591 x4) ∧ (m1 591 x4) < 12000) ∧ (RI (m1 598 (m1 591 x4)))))) ∧ Lp n (if x2 = 0 then 0 else (if (m1 598 (m1 591 x4)) = (-9) then 0 else 1 : Int) : Int) (x3 + 1) (m1 594 x4) m1) T)) → Lp (n + 1) x2 x3 x4 m) : ∀ (t : TT), JCm rec e ro T t → allP t → wfT t → ∀ {m : MM} {n : Nte} {lo hi i x2 x3 : Int} {cs : List Int}, EMj m e ro → TM m Tt t lo hi cs → ITM m i cs → NN' m n → m 582 68 = sp → (0 ≤ sp ∧ sp + (szT t : Int) ≤ 5000) → (x2 = 0 ∨ x2 = 1) → (∀ m' x2', FJm lo hi sp m m' → NN' m' (mn n (jdS e t).2) → TM m' (AnP m' e ro) t lo hi cs → (x2' = 0 ∨ x2' = 1) → (x2' = 1 ↔ x2 = 1 ∧ allS (jdS e t).1 ≠ none) → K x2' (x3 + (lenT t : Int)) m') → Lp (lenT t + 1) x2 x3 i m := by
  intro t
  induction t with
  | leaf =>
    intro _ _ _ m n lo hi i x2 x3 cs hE hT hI hn h68 hsp hx h
    obtain ⟨rfl, hlh⟩ := hT
    have i1 : i = -1 := hI
    refine hstep 0 x2 x3 i m ⟨by rw [i1]; decide, ?_⟩
    rw [if_pos (by rw [i1]; decide)]
    have := h m x2 (FJm.refl m) (by rw [show (jdS e .leaf).2 = none from rfl, mn_none]; exact hn) ⟨rfl, hlh⟩ hx ⟨fun q => ⟨q, fun z => by cases z⟩, fun q => q.1⟩
    rw [show x3 + ((lenT .leaf : Nat) : Int) = x3 by show x3 + 0 = x3; omega] at this
    exact this
  | inner z d u c s ihc ihs =>
    intro hC hP w m n lo hi i x2 x3 cs hE hT hI hn h68 hsp hx h
    obtain ⟨k, ns', mid, rfl, t2, tn, t3⟩ := TM_cons.1 hT
    obtain ⟨i0, i1, i2⟩ := hI
    have kk := tn.lk
    have hs : (szT (Std.DTreeMap.Internal.Impl.inner z d u c s) : Int) = szT c + szT s + 1 := by show ((szT c + szT s + 1 : Nat) : Int) = _; omega
    rw [hs] at hsp
    show Lp (lenT s + 1 + 1) x2 x3 i m
    refine hstep (lenT s + 1) x2 x3 i m ⟨by constructor <;> omega, ?_⟩
    rw [if_neg (by omega), i1]
    refine ⟨i0, hC.1 (by have := hP.1; omega) m n lo mid k sp _ hE tn hn h68 (by omega) (fun m1 f1 n1 T1 => ?_)⟩
    have ok := fun x hx => rgS_ok hE.ok w.1 w.2.1 (x := x) hx
    have r1 := T1.rg.ri ok
    have e91 : m1 591 i = k := by rw [f1.st 591 i (by omega)]; exact i1
    have e94 : m1 594 i = m 594 i := f1.st 594 i (by omega)
    rw [e91, e94]
    have t3' : TM m1 Tt s mid hi ns' := t3.jt f1 (Or.inr (Int.le_refl _))
    have hlm : lo ≤ mid := by omega
    refine ⟨⟨by constructor <;> omega, by split; trivial; exact ⟨⟨kk.1, kk.2.1⟩, r1.1⟩⟩, ?_⟩
    refine ihs hC.2 hP.2 w.2.2 (n := mn n (ntS e d c)) (hE.jm f1) t3' (i2.fr f1.st) n1 (by rw [f1 582 68 (by omega) (by omega) (by omega) (by omega)]; exact h68) (by omega) (by split; exact Or.inl rfl; split; exact Or.inl rfl; exact Or.inr rfl) (fun m2 x2' f2 n2 T2 b2 i2' => ?_)
    have T1' : TNM m2 (AnP m2 e ro) d c lo mid k := by
      obtain ⟨cl', ch', cs', a1, a2, a3, a4, a5⟩ := T1
      exact ⟨cl', ch', cs', a1, a2.fr f2.st (fun q => by have := hP.1; omega), a3.fr f2.st, a4.fr (fun c' _ _ => f2 _ _ (by omega) (by omega) (by omega) (by omega)), a5.jm f2 (by omega)⟩
    have := h m2 x2' ((f1.mono (Int.le_refl _) t2 (Int.le_refl _)).trans (f2.mono hlm (Int.le_refl _) (Int.le_refl _))) (by rw [show (jdS e (.inner z d u c s)).2 = mn (ntS e d c) (jdS e s).2 from rfl, ← mn_assoc]; exact n2) ⟨k, ns', mid, rfl, t2, T1', T2⟩ b2 ?_
    · rw [show x3 + 1 + (lenT s : Int) = x3 + ((lenT (Std.DTreeMap.Internal.Impl.inner z d u c s) : Nat) : Int) by show x3 + 1 + (lenT s : Int) = x3 + ((lenT s + 1 : Nat) : Int); omega]
      exact this
    · rw [show (jdS e (.inner z d u c s)).1 = rgS e d c :: (jdS e s).1 from rfl, allS_cons, i2']
      by_cases x0 : x2 = 0
      · rw [if_pos x0]
        exact ⟨fun z => absurd z.1 (by decide), fun z => by omega⟩
      · rw [if_neg x0]
        by_cases q : rgS e d c = none
        · rw [if_pos (r1.2.2 q)]
          exact ⟨fun z => absurd z.1 (by decide), fun z => absurd q z.2.1⟩
        · rw [if_neg (fun z => q (r1.2.1 z))]
          exact ⟨fun z => ⟨by omega, q, z.2⟩, fun z => ⟨rfl, z.2.2⟩⟩
end LEFT2
