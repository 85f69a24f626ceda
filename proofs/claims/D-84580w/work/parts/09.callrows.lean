set_option maxRecDepth 100000
/-! ROWS: calls -/
/-- a method's words -/
def MF (mi : MI) (stt : Bool) (np : Nat) : Prop := Cond.code mi.1 mi.2.1 mi.2.2.1 mi.2.2.2 ∈ lw_all ∧ Cond.initialized mi.1.cls ∈ lw_all ∧ (mi.1.cls ≠ "java/lang/invoke/MethodHandle" ∧ mi.1.cls ≠ "java/lang/invoke/VarHandle") ∧ (parseMethodDescriptor mi.1.desc).map (fun d => d.parameters.length) = some np ∧ mi.2.2.1 ≤ 33 ∧ (stt = true → Cond.static mi.1 ∈ lw_all) ∧ (stt = false → Cond.instanceMethod mi.1 ∈ lw_all)
/-- a method as a class's constant says it -/
def LK (own : String) (idx : Nat) (y : MethodName) : Prop := Cond.methodLink own idx y ∈ lw_all ∨ ∃ host, Cond.methodLinkNest own idx y host ∈ lw_tbl
theorem cats_le (E : EV) : ∀ st : List AV, ((st.map (cv E)).map fun v => v.category).sum ≤ 2 * st.length := by
  intro st
  induction st with
  | nil => simp
  | cons v t ih =>
    have h : (cv E v).category ≤ 2 := by rw [cat_cv]; split <;> omega
    simp only [List.map_cons, List.sum_cons, List.length_cons]
    omega
/-- what is the same for every kind of call: from the callee's contract to the walk behind the call -/
theorem call_fin {f f' : Nat} {mi mi' : MI} {pc : Nat} {ls st as : List AV} {σ : SG} {Q Q' : Int → SG → Prop} {T T' : SG → Prop} {np : Nat} {stt : Bool}
    (mf : MF mi' stt np) (hM : CT f' mi' as σ Q' T') (hf : f' + 1 ≤ f) (hst : st.length ≤ 10) (hnr : mi.1.name ≠ "reads")
    (kQ : ∀ x σ', Q' x σ' → A f mi (pc + 3) ls (rs mi'.2.2.2 x ++ st) σ' Q T) (kT : ∀ σ', T' σ' → T σ')
    {E : EV} {p : Program} {e : Env} {R : Room} {s : State} {m : MethodId} {args : Array Value} {below : List Frame} {meth : Method} {c : Code} {n0 : Nat} {H : Heap} {locs : List Loc} {lC : Array Slot}
    (X : CX E f mi n0 p R s m args meth c) (hn : n0 ≤ σ.1) (hW : WH E σ H) (hS : va_S (fun q => eZ E ≤ q) s.heap H locs) (hL : LR E ls lC) (hlen : ls.length = mi.2.2.1)
    {T0 : State} (hT : T0.heap = H) {vm₁ : Vm} (X₁ : Stand p (eL E) e R s m args below meth c (T0.setVm vm₁) locs (σ.1 - n0) (szN σ.1 - szN n0)) {mk : MethodId} (hnamed : s.methodNamed? mi'.1 = some mk) {ig : Instr} (hd : decode mi.2.1 pc = .ok (ig, 3)) {G0 : State}
    (hstep : ∀ tg, (∀ acts, Steps p.tables e below (doInvoke e ((T0.setVm vm₁).setTop (F0 m pc lC (st.map (cv E)))) acts mk (as.map (cv E)).toArray).1 tg) → Steps p.tables e below G0 tg) :
    ∃ t, Steps p.tables e below G0 t ∧ FQ E mi n0 below s Q T t := by
  obtain ⟨hexec, hb, hml, hown, hts, hrr, hlocks, hname, hSK, hsz, hR1, hR2, hR3, hR4, hn0, hex⟩ := id X
  have hex := hex.1 hnr
  obtain ⟨w1, w2, w3, w4, w5, w6, w7⟩ := mf
  have hcodeU : (Cond.code mi'.1 mi'.2.1 mi'.2.2.1 mi'.2.2.2).before (as.map (cv E)).toArray (T0.setVm vm₁) = true := pay_in hts lw_self _ w1 _ _ X₁.warmed
  have hnU : (T0.setVm vm₁).methodNamed? mi'.1 = some mk := X₁.named hnamed
  obtain ⟨methY, cY, y1, y2, y3, y4, -⟩ := Cond.code_spec hnU hcodeU
  have hlow : ∀ q, q < eZ E → H[q]? = (eS E).heap[q]? := hW.2.2.1
  have hm1 := szN_le hn
  have hm2 := szN_le hW.2.1
  obtain ⟨σ', U', L, hle, hWH, X', hLq, hend⟩ := call_core (E := E) (mi := mi') (σ := σ) (Q := Q') (T := T') (bytes := mi'.2.1) (maxL := mi'.2.2.1) (ret := mi'.2.2.2) (hM E) X₁ (g := F0 m pc lC (st.map (cv E))) rfl (by rw [hml, ← hlen]; exact hL.1) (ig := ig) (by rw [hb]; exact hd) (Wd := 20) (by show 2 * 0 + ((st.map (cv E)).map fun v => v.category).sum ≤ 20; have := cats_le E st; omega) hnU
    (a := (as.map (cv E)).toArray) (atoms_intro fun w hw => pay_in hts (lw_meth w1) w hw _ _ X₁.warmed)
    (fun mY cY2 h1 h2 => by cases y1.symm.trans h1; cases y2.symm.trans h2; exact y4) ⟨methY, cY, y1, y2⟩ (pay_in hts lw_self _ w2 _ _ X₁.warmed)
    (by show f' + 1 ≤ R.frames; omega) (by show 20 + (mi'.2.2.1 + 11) + 64 * f' ≤ R.locals; omega) (by show _ + (NT - σ.1) ≤ R.cells; have := hW.2.1; omega) (by show _ + (szN NT - szN σ.1) ≤ R.slots; omega)
    ⟨rfl, by show WH E σ T0.heap; rw [hT]; exact hW, hSK.moved X₁.warmed (fun q hq => by show T0.heap[q]? = _; rw [hT]; exact hlow q hq)⟩
  have hm3 := szN_le hle
  have hS' : va_S (fun q => eZ E ≤ q) s.heap U'.heap (locs ++ L) := by
    refine ⟨by rw [hsz, hWH.1]; omega, fun q h1 h2 => ?_, fun q hq => ?_⟩
    · rw [hWH.2.2.1 q (Nat.not_le.mp h2), hSK.2.2 q (Nat.not_le.mp h2)]
    · rcases List.mem_append.mp hq with h | h
      · exact hS.2.2 q h
      · exact hLq q h
  rw [show σ.1 - n0 + (σ'.1 - σ.1) = σ'.1 - n0 by omega, show szN σ.1 - szN n0 + (szN σ'.1 - szN σ.1) = szN σ'.1 - szN n0 by omega] at X'
  rcases hend with ⟨x, hx, hsteps⟩ | ⟨hx, hsteps⟩
  · obtain ⟨t, a1, b1⟩ := kQ x σ' hx E p e R s m args below meth c n0 U'.heap _ lC X (by omega) hWH hS' hL U' rfl X'
    rw [List.map_append, rs_rv] at a1
    exact ⟨t, hstep t fun acts => by rw [doInvoke_state]; exact hsteps.trans a1, b1⟩
  · obtain ⟨h1, h2, h3, h4, h5⟩ := X'.leaveThrown (eX E (-4)) (g := F0 m pc lC (st.map (cv E))) rfl rfl rfl (by rw [hex]; intro x hx; cases hx)
    exact ⟨_, hstep _ fun acts => by rw [doInvoke_state]; exact hsteps.trans h1, .threw (eX E (-4)), h2, h3, σ', Or.inr ⟨rfl, kT _ hx⟩, by omega, (by show WH E σ' U'.heap; exact hWH), h4, _, h5, hS'.2.2⟩
section CALLS
variable {f f' pc : Nat} {mi mi' : MI} {ls st as stk : List AV} {σ : SG} {Q Q' : Int → SG → Prop} {T T' : SG → Prop} {np : Nat} {a : Int}
theorem a_callV {idx ci : Nat} (hd : decode mi.2.1 pc = .ok (.invokevirtual idx, 3)) (mf : MF mi' false np) (hse : Cond.selects mi'.1.cls mi'.1 mi'.1 ∈ lw_all) (lk : LK mi.1.cls idx mi'.1) (ha : isAt σ a (.inr ci)) (hC : (vwCl[ci]?).map (fun q => q.1) = some mi'.1.cls) (hM : CT f' mi' (vR a :: as) σ Q' T') (hf : f' + 1 ≤ f) (hn : as.length = np) (hs : as.reverse ++ vR a :: st = stk) (hst : st.length ≤ 10) (hnr : mi.1.name ≠ "reads") (hlen : ls.length = mi.2.2.1)
    (kQ : ∀ x σ', Q' x σ' → A f mi (pc + 3) ls (rs mi'.2.2.2 x ++ st) σ' Q T) (kT : ∀ σ', T' σ' → T σ') : A f mi pc ls stk σ Q T := by
  subst hs
  intro E p e R s m args below meth c n0 H locs lC X hn0 hW hS hL T0 hT X0
  obtain ⟨hexec, hb, hml, hown, hts, hrr, hlocks, hname, hSK, hsz, -⟩ := id X
  obtain ⟨w1, w2, w3, w4, w5, w6, w7⟩ := id mf
  obtain ⟨mk, methM, hnamed, hmethM, hstM, habM⟩ := Cond.instanceMethod_spec (hts _ (w7 rfl))
  obtain ⟨methM', cM, hmethM', -, -, -, -, -, -, hsigM⟩ := Cond.code_spec hnamed (hts _ w1)
  cases hmethM.symm.trans hmethM'
  obtain ⟨c2, r2, m2, q1, q2, q3, q4, kP, hkP, hkPi⟩ := Cond.selects_spec (hts _ hse)
  have h0 := (lyA_pos ha.1).1
  obtain ⟨q, h1, cellB, g1, g2, g3, -⟩ := hW.at ha
  rw [h1] at hC
  have hC : q.1 = mi'.1.cls := Option.some.inj hC
  have hcls : s.vm.findClass mi'.1.cls = some cellB.cls := by
    rw [← hC, g2]
    exact (hSK.K.1 ci q h1).2.1
  cases hcls.symm.trans q1
  cases (State.methodFound?_of_named hnamed w3).symm.trans q2
  cases hnamed.symm.trans q3
  have hselP : selectMethod e.platform s.vm cellB.cls mk = .method mk := by rw [Launch.admits_selectMethod X0.admits]; exact q4
  have hst2 : (F0 m pc lC ((as.reverse ++ vR a :: st).map (cv E))).stack = (as.map (cv E)).reverse ++ .ref (adr E a) :: st.map (cv E) := by
    show (as.reverse ++ vR a :: st).map (cv E) = _
    rw [List.map_append, List.map_reverse, List.map_cons, show cv E (vR a) = cr E a from rfl, cr_pos h0]
  have hlen2 : (as.map (cv E)).length = methM.sig.parameters.length := by
    rw [hsigM] at w4
    rw [List.length_map, hn]
    exact (Option.some.inj w4).symm
  have hargs : (Value.ref (adr E a) :: as.map (cv E)).toArray = ((vR a :: as).map (cv E)).toArray := by
    rw [List.map_cons, show cv E (vR a) = cr E a from rfl, cr_pos h0]
  rcases lk with lk | ⟨host, lk⟩
  · obtain ⟨vm₁, X₁, hstep₁⟩ := X0.invokevirtual hexec hown (hts _ lk) hnamed hmethM hstM hkP hkPi w3 (a := adr E a) (cell := cellB) (by rw [hT]; exact g1)
      (fun z h => by rw [g3] at h; cases h) hselP hmethM habM hkP hkPi (g := F0 m pc lC ((as.reverse ++ vR a :: st).map (cv E))) rfl (argsL := as.map (cv E)) (rest := st.map (cv E)) hlen2 hst2 (by rw [hb]; exact hd)
    rw [hargs] at hstep₁
    exact call_fin mf hM hf hst hnr kQ kT X hn0 hW hS hL hlen hT X₁ hnamed hd hstep₁
  · obtain ⟨vm₁, X₁, hstep₁⟩ := X0.invokevirtualNest hexec hown (hSK.NM lk) hnamed hmethM hstM hkP hkPi w3 (a := adr E a) (cell := cellB) (by rw [hT]; exact g1)
      (fun z h => by rw [g3] at h; cases h) hselP hmethM habM hkP hkPi (g := F0 m pc lC ((as.reverse ++ vR a :: st).map (cv E))) rfl (argsL := as.map (cv E)) (rest := st.map (cv E)) hlen2 hst2 (by rw [hb]; exact hd)
    rw [hargs] at hstep₁
    exact call_fin mf hM hf hst hnr kQ kT X hn0 hW hS hL hlen hT X₁ hnamed hd hstep₁
theorem a_callS {idx : Nat} (hd : decode mi.2.1 pc = .ok (.invokestatic idx, 3)) (mf : MF mi' true np) (lk : LK mi.1.cls idx mi'.1) (hM : CT f' mi' as σ Q' T') (hf : f' + 1 ≤ f) (hn : as.length = np) (hs : as.reverse ++ st = stk) (hst : st.length ≤ 10) (hnr : mi.1.name ≠ "reads") (hlen : ls.length = mi.2.2.1)
    (kQ : ∀ x σ', Q' x σ' → A f mi (pc + 3) ls (rs mi'.2.2.2 x ++ st) σ' Q T) (kT : ∀ σ', T' σ' → T σ') : A f mi pc ls stk σ Q T := by
  subst hs
  intro E p e R s m args below meth c n0 H locs lC X hn0 hW hS hL T0 hT X0
  obtain ⟨hexec, hb, hml, hown, hts, hrr, hlocks, hname, hSK, hsz, -⟩ := id X
  obtain ⟨w1, w2, w3, w4, w5, w6, w7⟩ := id mf
  obtain ⟨mk, hnamed⟩ := Cond.code_named (hts _ w1)
  obtain ⟨methM, cM, hmethM, -, -, -, -, -, -, hsigM⟩ := Cond.code_spec hnamed (hts _ w1)
  have hstatic : methM.isStatic = true := Cond.static_spec hnamed hmethM (hts _ (w6 rfl))
  obtain ⟨kP, hkP, -⟩ := className_of_methodNamed hnamed
  have hinitP : kP.init = .initialized := Cond.initialized_spec (findClass_of_methodNamed hnamed) hkP (hts _ w2)
  have hst2 : (F0 m pc lC ((as.reverse ++ st).map (cv E))).stack = (as.map (cv E)).reverse ++ st.map (cv E) := by
    show (as.reverse ++ st).map (cv E) = _
    rw [List.map_append, List.map_reverse]
  have hlen2 : (as.map (cv E)).length = methM.sig.parameters.length := by
    rw [hsigM] at w4
    rw [List.length_map, hn]
    exact (Option.some.inj w4).symm
  rcases lk with lk | ⟨host, lk⟩
  · obtain ⟨vm₁, X₁, hstep₁⟩ := X0.invokestatic hexec hown (hts _ lk) hnamed hmethM hstatic hkP hinitP w3 (g := F0 m pc lC ((as.reverse ++ st).map (cv E))) rfl (argsL := as.map (cv E)) (rest := st.map (cv E)) hlen2 hst2 (by rw [hb]; exact hd)
    exact call_fin mf hM hf hst hnr kQ kT X hn0 hW hS hL hlen hT X₁ hnamed hd hstep₁
  · obtain ⟨vm₁, X₁, hstep₁⟩ := X0.invokestaticNest hexec hown (hSK.NM lk) hnamed hmethM hstatic hkP hinitP w3 (g := F0 m pc lC ((as.reverse ++ st).map (cv E))) rfl (argsL := as.map (cv E)) (rest := st.map (cv E)) hlen2 hst2 (by rw [hb]; exact hd)
    exact call_fin mf hM hf hst hnr kQ kT X hn0 hW hS hL hlen hT X₁ hnamed hd hstep₁
theorem a_callI {idx : Nat} (hd : decode mi.2.1 pc = .ok (.invokespecial idx, 3)) (mf : MF mi' false np) (hret : mi'.2.2.2 = none) (hnm : mi'.1.name = "<init>") (lk : LK mi.1.cls idx mi'.1) (h0 : 0 < a) (hM : CT f' mi' (vR a :: as) σ Q' T') (hf : f' + 1 ≤ f) (hn : as.length = np) (hs : as.reverse ++ vR a :: st = stk) (hst : st.length ≤ 10) (hnr : mi.1.name ≠ "reads") (hlen : ls.length = mi.2.2.1)
    (kQ : ∀ x σ', Q' x σ' → A f mi (pc + 3) ls (rs mi'.2.2.2 x ++ st) σ' Q T) (kT : ∀ σ', T' σ' → T σ') : A f mi pc ls stk σ Q T := by
  subst hs
  intro E p e R s m args below meth c n0 H locs lC X hn0 hW hS hL T0 hT X0
  obtain ⟨hexec, hb, hml, hown, hts, hrr, hlocks, hname, hSK, hsz, -⟩ := id X
  obtain ⟨w1, w2, w3, w4, w5, w6, w7⟩ := id mf
  have hcode := hts _ w1
  rw [hret] at hcode
  have hpl : e.platform.magicAccessors = ({} : Platform).magicAccessors := by rw [X0.admits.platform]
  have hst2 : (F0 m pc lC ((as.reverse ++ vR a :: st).map (cv E))).stack = (as.map (cv E)).reverse ++ .ref (adr E a) :: st.map (cv E) := by
    show (as.reverse ++ vR a :: st).map (cv E) = _
    rw [List.map_append, List.map_reverse, List.map_cons, show cv E (vR a) = cr E a from rfl, cr_pos h0]
  have hlen2 : ∀ sig, parseMethodDescriptor mi'.1.desc = some sig → (as.map (cv E)).length = sig.parameters.length := by
    intro sig hsig
    rw [hsig] at w4
    rw [List.length_map, hn]
    exact (Option.some.inj w4).symm
  have hargs : (Value.ref (adr E a) :: as.map (cv E)).toArray = ((vR a :: as).map (cv E)).toArray := by
    rw [List.map_cons, show cv E (vR a) = cr E a from rfl, cr_pos h0]
  rcases lk with lk | ⟨host, lk⟩
  · obtain ⟨mk, methM, cM, kP, vm₁, hnamed, hmethM, hcodeM, -, hlocalsM, -, hkP, -, hW₁, hstep₁⟩ := Steps.initColdArgs (e := e) X0.here hexec X0.warmed hpl hown hnm w3 (hts _ lk) (hts _ (w7 rfl)) hcode (f := F0 m pc lC ((as.reverse ++ vR a :: st).map (cv E))) rfl hlen2 hst2 (by rw [hb]; exact hd)
    rw [hargs] at hstep₁
    exact call_fin mf hM hf hst hnr kQ kT X hn0 hW hS hL hlen hT (X0.noted hW₁) hnamed hd hstep₁
  · obtain ⟨mk, methM, cM, kP, vm₁, hnamed, hmethM, hcodeM, -, hlocalsM, -, hkP, -, hW₁, hstep₁⟩ := Steps.initColdArgsNest (e := e) X0.here hexec X0.warmed hpl hown hnm w3 (hSK.NM lk) (hts _ (w7 rfl)) hcode (f := F0 m pc lC ((as.reverse ++ vR a :: st).map (cv E))) rfl hlen2 hst2 (by rw [hb]; exact hd)
    rw [hargs] at hstep₁
    exact call_fin mf hM hf hst hnr kQ kT X hn0 hW hS hL hlen hT (X0.noted hW₁) hnamed hd hstep₁
end CALLS
