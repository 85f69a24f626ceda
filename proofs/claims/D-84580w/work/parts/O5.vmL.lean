set_option maxRecDepth 100000
/-! the model's tasks: behind the first part -/
theorem addV_negV {mu d s : Int} {V : VV} (hM : MU mu) (hd : 0 ≤ d ∧ d ≤ 2) (nV : NN mu d s V) : ∃ U, addV mu 1 d s zV V = .ok U ∧ ∀ i j k, in3 i → in3 j → 0 ≤ k → U i j k = negV mu V i j k := by
  have nr : ∀ i j, NR mu (cof d) (V i j) := fun i j => ⟨fun k => nV.1 i j k, fun k hk => nV.2 i j k (by omega)⟩
  cases hU : addV mu 1 d s zV V with
  | error e =>
    exfalso
    exact rowG_err (P := fun _ => False) (f := fun i j => addR mu 1 (cof d).toNat (zV i j) (V i j)) (fun i j e h => by
      obtain ⟨w', h1, -⟩ := addR_neg hM hd (nr i j)
      have h : addR mu 1 (cof d).toNat zr (V i j) = .error e := h
      rw [h1] at h; cases h) _ _ _ _ hU
  | ok U =>
    refine ⟨U, rfl, fun i j k hi hj hk => ?_⟩
    obtain ⟨q1, q2⟩ := matS_ok hU
    have r0 : rws s = max 1 s := rfl
    unfold in3 at hi hj
    by_cases c : (0 ≤ i ∧ i < ((rws s).toNat : Int)) ∧ (0 ≤ j ∧ j < ((rws s).toNat : Int))
    · obtain ⟨w', h1, h2⟩ := addR_neg hM hd (nr i j)
      have h3 : addR mu 1 (cof d).toNat zr (V i j) = .ok (U i j) := q1 i j c.1 c.2
      rw [h1] at h3
      injection h3 with h3
      rw [← h3]
      exact h2 k hk
    · rw [q2 i j c]
      show (0, 1) = negN mu (V i j k)
      rw [nV.2 i j k (by omega), negN_z]
theorem VM_eq {g : Int → Int} {p : Int} {U V : VV} (h : VM g p U) (e : ∀ i j k, in3 i → in3 j → 0 ≤ k → U i j k = V i j k) : VM g p V := by
  intro i j hi hj k k0 k1
  rw [← e i j k hi hj k0]
  exact h i j hi hj k k0 k1
section VML
variable {Q : Int → MM → Prop} {m m' m0 m1 ms : MM} {F : Int → FnR} {n : Int} {S : SGm} {E : EVm} {h pb : Int} {T T' : List Tk} {l l' pre : List VV} {s s' : ES} {R r NB r' : Nat} {a b : PT} {k cl lo : Int} {e : JE} {x z y : R3} {V U W : VV} {res : EX VV} {ro : Int} {cs : List Int} {rc : List R3} {rA rB rr : ER}
theorem rows0 (K : Q 1 m) : P_X10_rows 0 m Q := ⟨by decide, by rw [if_pos rfl]; exact K⟩
theorem width0 (K : Q 2 m) : P_X10_width 0 m Q := ⟨by decide, by rw [if_pos rfl]; exact K⟩
theorem goBackB {p : Int} (he0 : m 582 84 = 0) (hp : 0 ≤ p ∧ p + 882 ≤ 1590000) (vp : VM (m 635) p V) (nV : NN 0 0 0 V) (K : Q 0 m) : P_X10_goBack p (-2) 0 0 (-2) 0 0 m Q := by
  have row : Rw (m 635) p (V 0 0) 49 := by
    have := vp 0 0 (by decide) (by decide)
    rw [show p + 98 * (3 * 0 + 0) = p by omega] at this
    exact this
  have r48 : Rw (m 635) (p + 98 * (3 * 0 + 0) + 2) (fun j => V 0 0 (j + 1)) ((48 : Nat) : Int) := fun j j0 j1 => by
    have j1 : j < 48 := j1
    have q := row (j + 1) (by omega) (by omega)
    rw [show p + 2 * (j + 1) = p + 98 * (3 * 0 + 0) + 2 + 2 * j by omega] at q
    exact q
  have zz : ∀ j, 0 ≤ j → V 0 0 (j + 1) = (0, 1) := fun j j0 => nV.2 0 0 (j + 1) (by rw [cof0]; omega)
  have az : allZ (fun j => V 0 0 (j + 1)) 48 0 = true := (allZ_iff 48 0).2 (fun j j0 _ => by show (V 0 0 (j + 1)).1 = 0; rw [zz j j0])
  unfold P_X10_goBack
  refine ⟨by decide, by decide, ?_⟩
  rw [if_pos (by decide)]
  refine ⟨2, ?_⟩
  unfold P_X10_goBack_165
  refine rows0 ?_
  refine ⟨by decide, by decide, ?_⟩
  rw [if_neg (by decide), he0]
  refine ⟨by decide, ?_⟩
  rw [if_pos rfl]
  refine ⟨2, ?_⟩
  unfold P_X10_goBack_185
  refine rows0 ?_
  refine ⟨by decide, by decide, ?_⟩
  rw [if_neg (by decide)]
  refine c_entryAt (width0 (width0 ?_))
  refine c_isZero (n := 48) (by omega) (by omega) r48 (fun j j0 j1 => by show RL (V 0 0 (j + 1)).1; rw [zz j j0]; decide) ?_
  rw [az]
  refine ⟨by decide, ?_⟩
  rw [if_neg (by decide)]
  refine ⟨1, ?_⟩
  unfold P_X10_goBack_236
  refine ⟨by decide, ?_⟩
  rw [if_neg (by decide)]
  refine ⟨by decide, ?_⟩
  rw [if_neg (by decide)]
  unfold P_X10_goBack_185
  refine rows0 ?_
  refine ⟨by decide, by decide, ?_⟩
  rw [if_pos (by decide)]
  unfold P_X10_goBack_165
  refine rows0 ?_
  refine ⟨by decide, by decide, ?_⟩
  rw [if_pos (by decide)]
  exact K
theorem VmS.pop (H : VmS m F n S ms E h pb T (V :: l) s) (f : ∀ c i, ¬ (c = 582 ∧ i = 86) → m' c i = m c i) (e : m' 582 86 = (l.length : Int)) : VmS m' F n S ms E h pb T l s ∧ Fvm E.2.2.1 S.2.2.2.1 m m' := by
  have H' : VmS m F n S ms E h pb T ([V] ++ l) s := H
  exact H'.same (fun c i q _ _ => f c i (by omega)) (fun q _ _ => f _ _ (by omega)) (by rw [f _ _ (by decide)]; exact H.er) e
theorem top_bit {v : Int} (H : VmS m F n S ms E h pb T (V :: l) s) (ev : V 0 0 0 = (v, 1)) : m 635 (882 * (l.length : Int)) = v := by
  have q := H.st.2 0 0 (by decide) (by decide) 0 (Int.le_refl _) (by decide)
  rw [show 882 * (l.length : Int) + 98 * (3 * 0 + 0) + 2 * 0 = 882 * (l.length : Int) by omega, ev] at q
  exact q.1
theorem task1 {s0 : Int} (K : P_X10_evalLeft k s0 m (fun _ m2 => Q 0 m2)) : P_X10_task_20 Q 1 k 0 0 0 s0 m := by
  unfold P_X10_task_20
  refine ⟨by decide, ?_⟩
  rw [if_neg (by decide), if_pos rfl]
  exact K
/-- or, and -/
theorem simT_bool {t : Int} (hk : a.1.1 = 9 ∧ t = 1 ∨ a.1.1 = 10 ∧ t = 0) (w : okN a.1 a.2) (l2 : lenT a.2 = 2) (wB : wT (prT a.2 1) ≤ wT a) (v : VR E.2.1 (-2, 0, 0) V) (hB : SimE F n S ms E h (prT a.2 1) s rB) : SimT F n S ms E h 1 a V s (if (V 0 0 0).1 = t then (.ok V, s) else rB) := by
  obtain ⟨b, b01, eb⟩ := VR_num_of v rfl
  rw [eb]
  have key : ∀ (k : Int) (Q : Int → MM → Prop) (m : MM) (pb : Int) (T : List Tk) (l : List VV), VmS m F n S ms E h pb T (V :: l) s → SbM F S ms E.1 h a k → bdM E l T (wT a) (szT a.2) → (b = t → Q 0 m) → (b ≠ t → ∀ (c : Int) (m1 : MM), SbM F S ms E.1 h (prT a.2 1) c → VmS m1 F n S ms E h pb T l s → Fvm E.2.2.1 S.2.2.2.1 m m1 → P_X10_later c m1 (fun _ m2 => Q 0 m2)) → P_X10_task_20 Q 1 k 0 0 0 (882 * (l.length : Int)) m := by
    intro k Q m pb T l H hS hb k1 k2
    obtain ⟨cs, N⟩ := H.node hS
    have b1 := hb.1
    have hc := H.2.2.2.2.1
    have kk := N.kind (by omega)
    have kc := kM_cs (d := a.1.1) (by omega)
    obtain ⟨t1, t2, t3⟩ := top_at H (by omega)
    have tb := top_bit H eb
    refine task1 ?_
    have h92 : P_X10_evalLeft_92 (fun _ m2 => Q 0 m2) k (882 * (l.length : Int)) (m 590 k) m := by
      unfold P_X10_evalLeft_92
      rw [tb, kk]
      refine ⟨by omega, by constructor <;> omega, by constructor <;> omega, by split <;> decide, by split <;> decide, ?_⟩
      have eq : ((if b = 1 then (1 : Int) else 0) = (if kM a.1.1 = 11 then (1 : Int) else 0)) ↔ b = t := by
        rcases hk with ⟨q1, q2⟩ | ⟨q1, q2⟩
        · rw [kc.2.2.2.1 q1, if_pos rfl, q2]
          by_cases c : b = 1
          · rw [if_pos c]; exact ⟨fun _ => c, fun _ => rfl⟩
          · rw [if_neg c]; exact ⟨fun z => by omega, fun z => absurd z c⟩
        · rw [kc.2.2.2.2.1 q1, if_neg (show ¬ ((12 : Int) = 11) by decide), q2]
          by_cases c : b = 1
          · rw [if_pos c]; exact ⟨fun z => by omega, fun z => by omega⟩
          · rw [if_neg c]; exact ⟨fun _ => by omega, fun _ => rfl⟩
      by_cases c : b = t
      · rw [if_pos (eq.2 c)]; exact k1 c
      · rw [if_neg (fun z => c (eq.1 z))]
        intro m1 e1
        have f1 : ∀ c i, ¬ (c = 582 ∧ i = 86) → m1 c i = m c i := fun c i q => by rw [e1, up_ne q]
        obtain ⟨H1, F1⟩ := H.pop f1 (by rw [e1, up_at]; omega)
        refine ⟨N.1, ?_⟩
        have ec : cs = [m 591 k, m 592 k] := (N.2.2.1.2.2.2.1 (by omega)).1
        have hc1 : cs[1]? = some (m 592 k) := by rw [ec]; rfl
        rw [f1 592 k (by omega)]
        exact k2 c _ m1 (hS.part (by omega) w H.1.2.2.2.2.1 N hc1) H1 F1
    unfold P_X10_evalLeft
    refine ⟨N.1, by rw [kk]; constructor <;> omega, ?_⟩
    by_cases c11 : m 590 k = 11
    · rw [if_pos c11]; exact h92
    · rw [if_neg c11, if_pos (by rw [kk]; rcases hk with ⟨q1, q2⟩ | ⟨q1, q2⟩; · exact absurd (by rw [kk]; exact kc.2.2.2.1 q1) c11
                                 · exact kc.2.2.2.2.1 q1)]
      exact h92
  intro ne
  by_cases c : b = t
  · rw [if_pos c]
    refine ⟨0, fun k Q m pb T l R H hN hS hb hO r' hr => key k _ m pb T l H hS hb (fun _ => ?_) (fun z => absurd c z)⟩
    have hO : ∀ m', VmS m' F n S ms E h pb T (V :: l) s → Fvm E.2.2.1 S.2.2.2.1 m m' → GoM Q R m' := hO
    exact hO m H Fvm.refl r' hr
  · rw [if_neg c] at ne ⊢
    obtain ⟨N, HB⟩ := hB ne
    refine ⟨N, fun k Q m pb T l R H hN hS hb hO r' hr => key k _ m pb T l H hS hb (fun z => absurd z c) (fun _ c1 m1 hS1 H1 F1 => ?_)⟩
    have hc := H.2.2.2.2.1
    exact go_one HB H1 hN hS1 (hb.part0 (by omega) wB) (hO.fm' F1 hc.1) hr
theorem SQ_low {p q : Int} (h : q < p) (hp : p + 882 ≤ 1590000) : ¬ SQ p q := by unfold SQ; omega
/-- an operation on the latest value -/
theorem fin1 {X : Int → Prop} (hO : OutZ F n S ms Q E h pb T l m R (res, s)) (H : VmS m F n S ms E h pb T (V :: l) s) (hT : T.length ≤ 12000) (hX : ∀ q, 0 ≤ q → q < 882 * (l.length : Int) → ¬ X q) (hr : R ≤ r') : OutW X m res (882 * (l.length : Int)) (fun _ m2 => P_X10_eval_10 Q r' m2) := by
  have tp := H.tp
  rw [List.length_cons] at tp
  refine ⟨fun U m' e f e84 vm => ?_, fun e m' e' f e84 => ?_⟩
  · exact hO.ok (pre := [V]) H Fvm.refl e f.okf (fun q q0 q1 => f.2 q (hX q q0 q1)) e84 (by rw [f.1 _ _ (by decide) (by decide)]; omega) vm hr
  · exact hO.er H Fvm.refl hT e' f.okf e84 hr
theorem simT_pow (hk : a.1.1 = 23) (v0 : 0 ≤ a.1.2.2.1 ∧ a.1.2.2.1 ≤ 12) (hx : rgS E.1 a.1 a.2 = some x) (x3 : ok3 x) (xb : x.1 ≠ -2) (xm : okMo x.1 E.2.1) (v : VR E.2.1 x V) : SimT F n S ms E h 1 a V s (powS (muR x.1 E.2.1) x.2.1 x.2.2 a.1.2.2.1 V, s) := by
  refine fun _ => ⟨0, fun k Q m pb T l R H hN hS hb hO r' hr => task1 ?_⟩
  obtain ⟨cs, N⟩ := H.node hS
  have b1 := hb.1
  have b2 := hb.2
  have hc := H.2.2.2.2.1
  have kk := N.kind (by omega)
  have kc := (kM_cs (d := a.1.1) (by omega)).2.2.2.2.2.2.2.2 (by omega)
  obtain ⟨t1, t2, t3⟩ := top_at H (by omega)
  obtain ⟨⟨A1, A2, A3⟩, -⟩ := N.2.2.2.1.ring hx
  have ds := ok3_ds x3
  unfold P_X10_evalLeft
  rw [kk, kc, hk]
  refine ⟨N.1, by decide, ?_⟩
  rw [if_neg (by decide), if_neg (by decide), if_pos rfl]
  refine c_X10_evalPower N.1 ds.1 ds.2 v0 A1 A2 A3 (N.2.1.2.2.1 (by omega)) (H.bm (by rcases x3 with q | q; exact absurd q.1 xb; exact q.1) xm) H.er t2 t1 v.1 (fin1 hO H (by omega) (fun q q0 q1 => SQ_low q1 t2.2) (by omega))
theorem simT_goes (hk : a.1.1 = 24) (hx : rgS E.1 a.1 a.2 = some x) (x3 : ok3 x) (xm : okMo x.1 E.2.1) (hr0 : rgS E.1 (prT a.2 0).1 (prT a.2 0).2 = some y) (y3 : ok3 y) (ym : okMo y.1 E.2.1) (hg : gs y x) (v : VR E.2.1 y V) : SimT F n S ms E h 1 a V s (.ok (conv E.2.1 y x V), s) := by
  refine fun _ => ⟨0, fun k Q m pb T l R H hN hS hb hO r' hr => task1 ?_⟩
  obtain ⟨cs, N⟩ := H.node hS
  have b1 := hb.1
  have hc := H.2.2.2.2.1
  have kk := N.kind (by omega)
  have kc := (kM_cs (d := a.1.1) (by omega)).2.2.2.2.2.2.2.2 (by omega)
  obtain ⟨⟨A1, A2, A3⟩, -⟩ := N.2.2.2.1.ring hx
  have ec : cs = [m 591 k, m 593 k] := (N.2.2.1.2.2.2.2.2.2.1 (by omega)).1
  have sb := N.sub (i := 0) (c := m 591 k) (by rw [ec]; rfl) hr0
  unfold P_X10_evalLeft
  rw [kk, kc, hk]
  refine ⟨N.1, by decide, ?_⟩
  rw [if_neg (by decide), if_neg (by decide), if_neg (by decide), if_pos rfl, A1, A2, A3]
  refine c_goL H (by omega) sb.1 sb.2 y3 ym x3 xm hg v (fun m' H' f' F' => ?_)
  have hO : ∀ m', VmS m' F n S ms E h pb T (conv E.2.1 y x V :: l) s → Fvm E.2.2.1 S.2.2.2.1 m m' → GoM Q R m' := hO
  exact hO m' H' F' r' (by omega)
theorem simT_back (hk : a.1.1 = 25) (hx : rgS E.1 a.1 a.2 = some x) (x3 : ok3 x) (hr0 : rgS E.1 (prT a.2 0).1 (prT a.2 0).2 = some y) (y3 : ok3 y) (ym : okMo y.1 E.2.1) (hg : gs x y) (v : VR E.2.1 y V) : SimT F n S ms E h 1 a V s (backS (if y.1 = x.1 then 0 else 1) (muR y.1 E.2.1) x.2.1 y.2.2 x.2.2 V, s) := by
  refine fun _ => ⟨0, fun k Q m pb T l R H hN hS hb hO r' hr => task1 ?_⟩
  obtain ⟨cs, N⟩ := H.node hS
  have b1 := hb.1
  have b2 := hb.2
  have hc := H.2.2.2.2.1
  have kk := N.kind (by omega)
  have kc := (kM_cs (d := a.1.1) (by omega)).2.2.2.2.2.2.2.2 (by omega)
  obtain ⟨t1, t2, t3⟩ := top_at H (by omega)
  obtain ⟨⟨A1, A2, A3⟩, -⟩ := N.2.2.2.1.ring hx
  have ec : cs = [m 591 k, m 593 k] := (N.2.2.1.2.2.2.2.2.2.1 (by omega)).1
  have sb := N.sub (i := 0) (c := m 591 k) (by rw [ec]; rfl) hr0
  obtain ⟨B1, B2, B3⟩ := sb.2
  have g := gs_vals x3 y3 hg
  have ds := ok3_ds x3
  have dy := ok3_ds y3
  unfold P_X10_evalLeft
  rw [kk, kc, hk]
  refine ⟨N.1, by decide, ?_⟩
  rw [if_neg (by decide), if_neg (by decide), if_neg (by decide), if_neg (by decide), if_pos rfl]
  refine ⟨sb.1, ?_⟩
  rw [A1, A2, A3, B1, B2, B3]
  by_cases cb : y.1 = -2
  · have e := g.2.2.2.2 cb
    subst e
    have e2 := B_eq x3 cb
    subst e2
    have nv : NN 0 0 0 V := v.1
    show P_X10_goBack _ (-2) 0 0 (-2) 0 0 m _
    refine goBackB H.er t2 t1 nv ?_
    rw [if_pos rfl, backS_ok (okB_B nv)] at hO
    have hO : ∀ m', VmS m' F n S ms E h pb T (backV 0 0 V :: l) s → Fvm E.2.2.1 S.2.2.2.1 m m' → GoM Q R m' := hO
    have H' : VmS m F n S ms E h pb T ([V] ++ l) s := H
    obtain ⟨H2, F2⟩ := H'.made (m' := m) (U := backV 0 0 V) okFr.refl (fun _ _ _ => rfl) H.er (by omega) (VM_eq t1 (fun i j q _ _ q0 => by unfold backV; rw [if_pos q0, if_pos rfl]))
    exact hO m H2 F2 r' (by omega)
  · have ob : okb y.1 := by
      rcases y3 with q | q
      · exact absurd q.1 cb
      · exact q.1
    have xb : okb x.1 := by
      rcases x3 with q | q
      · exact absurd (by rw [← g.2.2.2.1 q.1]; exact q.1) cb
      · exact q.1
    have inj := bM_inj (.inr ob) (.inr xb)
    refine c_X10_goBack (ch := if y.1 = x.1 then 0 else 1) dy.1 ds.1 dy.2 ds.2 (by rcases g.2.2.1 with e | e; exact .inl e.symm; exact .inr e) ?_ ?_ (H.bm ob ym) H.er t2 t1 v.1 (fin1 hO H (by omega) (fun q q0 q1 z => by unfold SX at z; omega) (by omega))
    · by_cases q : y.1 = x.1
      · rw [if_pos q, if_pos (inj.2 q)]
      · rw [if_neg q, if_neg (fun z => q (inj.1 z))]
    · rcases g.1 with q | q
      · exact .inl (by rw [q])
      · exact .inr (by rw [q.1]; rfl)
/-- not -/
theorem simT_not (hk : a.1.1 = 11) (v : VR E.2.1 (-2, 0, 0) V) : SimT F n S ms E h 5 a V s (.ok (numV (1 - (V 0 0 0).1)), s) := by
  obtain ⟨b, b01, eb⟩ := VR_num_of v rfl
  rw [eb]
  refine fun _ => ⟨0, fun k Q m pb T l R H hN hS hb hO r' hr => ?_⟩
  have b1 := hb.1
  have hc := H.2.2.2.2.1
  obtain ⟨t1, t2, t3⟩ := top_at H (by omega)
  have tb := top_bit H eb
  unfold P_X10_task_20
  refine ⟨by decide, ?_⟩
  rw [if_neg (by decide), if_neg (by decide), if_neg (by decide), if_neg (by decide), if_neg (by decide), if_pos rfl, tb]
  refine ⟨by omega, c_set (by omega) ?_⟩
  have f2 : ∀ c i, c ≠ 635 → pt m 635 (882 * (l.length : Int)) (1 - b, 1) c i = m c i := fun c i q => pt_oth q
  refine hO.ok (pre := [V]) H Fvm.refl rfl (fun c i q1 q2 q3 => f2 c i q2) (fun q q0 q1 => (Fm.ofPt (S := fun q => 882 * (l.length : Int) ≤ q) (by omega) (by omega)).2 q (by omega)) (by rw [f2 _ _ (by decide)]; exact H.er) (by rw [f2 _ _ (by decide)]; omega) ?_ (by omega)
  have z0 : VM (m 635) (882 * (l.length : Int)) (fun i j q => if i = 0 ∧ j = 0 ∧ q = 0 then (b, 1) else (0, 1)) := VM_eq t1 (fun i j q hi hj q0 => by
    by_cases c : i = 0 ∧ j = 0 ∧ q = 0
    · rw [if_pos c, c.1, c.2.1, c.2.2, eb]
    · rw [if_neg c]
      have nv : NN 0 0 0 V := v.1
      refine nv.2 i j q ?_
      have r0 : rws 0 = 1 := rfl
      rw [cof0]
      omega)
  intro i j hi hj q q0 q1
  have w := z0 i j hi hj q q0 q1
  unfold in3 at hi hj
  unfold pt
  by_cases c : i = 0 ∧ j = 0 ∧ q = 0
  · obtain ⟨rfl, rfl, rfl⟩ := c
    rw [numV_0, show 882 * (l.length : Int) + 98 * (3 * 0 + 0) + 2 * 0 = 882 * (l.length : Int) by omega]
    exact ⟨by rw [up_neI (by omega), up_at], by rw [up_at]⟩
  · dsimp only at w ⊢
    rw [if_neg c] at w
    have e : numV (1 - b) i j q = (0, 1) := by
      unfold numV
      by_cases c2 : i = 0 ∧ j = 0
      · rw [c2.1, c2.2, rvv_at]
        unfold numR
        rw [if_neg (fun z => c ⟨c2.1, c2.2, z⟩)]
      · rw [rvv_ne c2]; rfl
    rw [e, up_neI (by omega), up_neI (by omega), up_neI (by omega), up_neI (by omega)]
    exact w
/-- minus -/
theorem simT_neg (hk : a.1.1 = 22) (hx : rgS E.1 a.1 a.2 = some x) (x3 : ok3 x) (xb : x.1 ≠ -2) (xm : okMo x.1 E.2.1) (v : VR E.2.1 x V) : SimT F n S ms E h 6 a V s (.ok (negV (muR x.1 E.2.1) V), s) := by
  refine fun _ => ⟨0, fun k Q m pb T l R H hN hS hb hO r' hr => ?_⟩
  obtain ⟨cs, N⟩ := H.node hS
  have b1 := hb.1
  have b2 := hb.2
  have hc := H.2.2.2.2.1
  obtain ⟨t1, t2, t3⟩ := top_at H (by omega)
  obtain ⟨⟨A1, A2, A3⟩, -⟩ := N.2.2.2.1.ring hx
  have ds := ok3_ds x3
  have ob : okb x.1 := by rcases x3 with q | q; exact absurd q.1 xb; exact q.1
  have hM := muR_MU (ok3_b x3) xm
  unfold P_X10_task_20
  refine ⟨by decide, ?_⟩
  rw [if_neg (by decide), if_neg (by decide), if_neg (by decide), if_neg (by decide), if_neg (by decide), if_neg (by decide), if_pos rfl]
  refine c_copy (n := 882) (by omega) (by omega) (.inr (by right; omega)) (fun m1 f1 e1 g1 => ?_)
  have v1 : VM (m1 635) 1593000 V := VM_of t1 (fun i i0 i1 => g1 i i0 i1)
  refine c_clear (n := 441) (by omega) (by omega) (fun m2 f2 e2 r2 => ⟨N.1, ?_⟩)
  have v2 : VM (m2 635) 1593000 V := v1.fm f2 (fun i i0 i1 => by omega)
  have z2 : VM (m2 635) (882 * (l.length : Int)) zV := VM_clear r2
  have c598 : ∀ c, 598 ≤ c → c ≤ 600 → m2 c k = m c k := fun c c0 c1 => by rw [f2.1 c k (by omega) (by omega), f1.1 c k (by omega) (by omega)]
  rw [c598 598 (by decide) (by decide), c598 599 (by decide) (by decide), c598 600 (by decide) (by decide), A1, A2, A3]
  have bm : BM m2 (bM x.1) (muR x.1 E.2.1) := by
    have bm := H.bm ob xm
    obtain ⟨q1, q2, q3, q4, q5⟩ := bm
    refine ⟨q1, q2, ?_, q4, q5⟩
    unfold muM at q3 ⊢
    rw [f2.1 582 89 (by decide) (by decide), f1.1 582 89 (by decide) (by decide)]
    exact q3
  obtain ⟨U, u1, u2⟩ := addV_negV hM ds.1 v.1
  refine c_X10_addValues (.inr rfl) ds.1 ds.2 bm (by rw [e2, e1]; exact H.er) (by omega) (by decide) (by left; omega) z2 v2 (NN_z hM) v.1 ⟨fun U' m3 e3 f3 e84 vm => ?_, fun e m3 e3 => by rw [u1] at e3; cases e3⟩
  rw [u1] at e3
  injection e3 with e3
  subst e3
  refine hO.ok (pre := [V]) H Fvm.refl rfl ((f1.okf.trans f2.okf).trans f3.okf) (fun q q0 q1 => ?_) e84 ?_ (VM_eq vm u2) (by omega)
  · rw [f3.2 q (by unfold SX; omega), f2.2 q (by omega), f1.2 q (by omega)]
  · rw [f3.1 _ _ (by decide) (by decide), f2.1 _ _ (by decide) (by decide), f1.1 _ _ (by decide) (by decide)]; omega
end VML
