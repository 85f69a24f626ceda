set_option maxRecDepth 100000
/-! ROWS: a method with a handler (Parser.reads): its contract, a call whose Fault it catches, a call of it -/
abbrev hh0 : List (Nat × Nat × Nat × Nat) := [(41, 45, 48, 94)]
def CTW (f : Nat) (mi : MI) (as : List AV) (σ : SG) (Q : Int → SG → Prop) (T : SG → Prop) : Prop :=
  ∀ E : EV, MetFree (eL E) mi.1 (headSpec (wsW_ mi.1 mi.2.1 mi.2.2.1 mi.2.2.2 hh0) (rmX f σ.1)) (fun a U => a = (as.map (cv E)).toArray ∧ WH E σ U.heap ∧ SK E U) (fun _ _ _ _ _ => True) (fun _ s o t => EQ E mi σ.1 s Q T o t)
theorem CTW.of {f : Nat} {mi : MI} {as : List AV} {σ : SG} {Q : Int → SG → Prop} {T : SG → Prop} (hy : plainFor mi.1 = true) (hrd : mi.1.name = "reads") (hl : (exl as).length ≤ mi.2.2.1) (h : A f mi 0 (enL as mi.2.2.1) [] σ Q T) : CTW f mi as σ Q T := by
  intro E
  refine MetFree.of_bodySF (code := mi.2.1) (maxLocals := mi.2.2.1) (ret := mi.2.2.2) hy ?_ ?_
  · intro args s m h hn
    obtain ⟨m', meth, c, h0, h1, h2, h3, h4, -, h5, h6, -⟩ := Cond.codeWith_spec (atoms_spec (ws := wsW_ mi.1 mi.2.1 mi.2.2.1 mi.2.2.2 hh0) h _ List.mem_cons_self)
    cases hn.symm.trans h0
    exact ⟨meth, c, h1, h2, h3, h4, h5, h6⟩
  · intro p e s m args below meth c s₁ B hml hP _
    obtain ⟨rfl, hW, hS⟩ := hP
    have hh0 : s₁.heap = s.heap := by rw [B.state]; rfl
    have X₀ := Stand.of_body B
    have hts := atoms_spec (ws := wsW_ mi.1 mi.2.1 mi.2.2.1 mi.2.2.2 [(41, 45, 48, 94)]) B.pre
    have k := h E p e (rmX f σ.1) s m _ below meth c σ.1 s.heap [] _ ⟨B.exec, B.bytes, hml, findClass_of_methodNamed B.named, fun w h => hts w (List.mem_cons_of_mem _ h), B.returns, B.notSynchronized, (name_of_methodNamed B.named B.method).1, hS, hW.1, Nat.le_refl _, Nat.le_refl _, Nat.le_refl _, Nat.le_refl _, hW.2.1, fun z => absurd hrd z, B.named⟩ (Nat.le_refl _) hW va_S.rf (LR.entry E as hl)
    rw [Nat.sub_self, Nat.sub_self] at k
    rw [lg_entry_eq]
    obtain ⟨t, a1, o, b1, b2, b3⟩ := k s₁ hh0 X₀
    exact ⟨t, o, a1, b1, b2, b3⟩
/-- the only handler takes the object at hand -/
theorem rd_step {e : Env} {s : State} {f : JFrame} {a : Addr} {meth : Method} {code : Code} {x : ExceptionTableEntry} {cT : ClassId} {cell : Cell} (hm : s.vm.method? f.method = some meth) (hc : meth.code = some code) (ht : code.exceptionTable.toList = [x]) (hx : covers x f.pc = true) (h0 : x.catchType ≠ 0) (hl : s.vm.ClassLinks e.platform f.method.cls x.catchType cT) (hcell : s.heap[a]? = some cell) (hobj : ∀ k, cell.vm ≠ .statics k) (hk : ∃ k, s.vm.classes[cell.cls]? = some k) (hcl : ∃ k, s.vm.classes[cT]? = some k) (hfit : s.vm.assignable cell.cls cT = true) (r : List Frame) : (stepThrowing e s a (.java f :: r)).Is ((s.setVm (s.vm.noted f.method.cls x.catchType (.cls cT))).setFrames (.java { f with pc := x.handlerPc, stack := [.ref a] } :: r)) [] := by
  have al : s.vm.Alike (s.vm.noted f.method.cls x.catchType (.cls cT)) := (Vm.Alike.refl s.vm).noted _ _ _
  obtain ⟨ra, rt⟩ := (resolveClass_links e.toSetting hl).op (op := VmOp.resolveClass f.method.cls x.catchType) rfl
  obtain ⟨k1, q1⟩ := hk
  obtain ⟨k2, q2⟩ := hcl
  obtain ⟨k1', q1', -⟩ := al.2.2 _ _ q1
  obtain ⟨k2', q2', -⟩ := al.2.2 _ _ q2
  have fit' : (s.vm.noted f.method.cls x.catchType (.cls cT)).assignable cell.cls cT = true := by rw [al.assignable]; exact hfit
  have key : ∀ (Q : Handler → Pre) (E : CtlPost) (d : Bool) (acts : List Action), wp (findHandler f a) Q E e d acts s ↔ Q (.found x.handlerPc) d acts (s.setVm (s.vm.noted f.method.cls x.catchType (.cls cT))) := by
    intro Q E d acts
    rw [W.findHandler_eq hm hc, ht]
    have hx' := hx
    simp only [covers] at hx'
    simp [findHandler.go, hx', h0, ra, rt, hcell, hobj, q1', q2', fit', VmOp.dirties, VmOp.acts]
  simp only [stepThrowing, searchFrame, vmDo]
  generalize hr : Sem.go _ e false [] s = res
  obtain ⟨as, rfl, ha⟩ := Sem.eq_ok_of hr (a := Handler.found x.handlerPc) (s' := s.setVm (s.vm.noted f.method.cls x.catchType (.cls cT))) (acts' := []) (by simp [key _ _ _ _])
  exact ⟨rfl, ha⟩
theorem rd_catch {p : Program} {l : Launch} {e : Env} {R : Room} {s : State} {m : MethodId} {args : Array Value} {below : List Frame} {meth : Method} {c : Code} {T : State} {locs : List Loc} {cells slots : Nat} (X : Stand p l e R s m args below meth c T locs cells slots) (a : Addr) {g : JFrame} (hg : g.method = m) {own name : String} (hown : s.vm.findClass own = some m.cls) {x : ExceptionTableEntry} (ht : c.exceptionTable.toList = [x]) (hx : covers x g.pc = true) (h0 : x.catchType ≠ 0) (hlink : (Cond.classLink own x.catchType name).before args s = true) {cT : ClassId} {cell : Cell} (hcT : s.vm.findClass name = some cT) (hcell : T.heap[a]? = some cell) (hobj : cell.vm.isStatics = false) (hfit : s.vm.assignable cell.cls cT = true) :
    ∃ vm', Stand p l e R s m args below meth c (T.setVm vm') locs cells slots ∧ ∀ target, Steps p.tables e below ((T.setVm vm').setTop { g with pc := x.handlerPc, stack := [.ref a] }) target → Steps p.tables e below ((T.setTop g).pushFrame (.throwing a)) target := by
  obtain ⟨c', hc', hcl⟩ := Cond.classLink_spec hown hlink e.platform (by rw [X.admits.platform])
  cases hcT.symm.trans hc'
  obtain ⟨dk, _, _, kt, hd, _, _, _, _, hkt, _, hopen⟩ := hcl.here
  have al := X.warmed.alike
  obtain ⟨kt', hkt', -⟩ := al.2.2 _ _ hkt
  have fit' : T.vm.assignable cell.cls cT = true := by rw [al.assignable]; exact hfit
  refine ⟨_, X.noted (X.warmed.noted hd hopen (State.rightAt_cls hcl)), fun target rest => ?_⟩
  subst hg
  have h := X.here
  obtain ⟨go, w⟩ := h.throwing a
  refine Steps.head go w ?_
  rw [stepThread_throwing (frames_entered h.top _), (rd_step (s := (T.setTop g).pushFrame (.throwing a)) (meth := meth) (code := c) X.method' X.code ht hx h0 (X.warmed.classLinks hcl) hcell (VmData.ne_statics_of hobj) (Vm.classAt_of_assignable fit' ⟨kt', hkt'⟩) ⟨kt', hkt'⟩ fit' _).1]
  obtain ⟨g₀, e0⟩ := Option.isSome_iff_exists.mp h.top
  obtain ⟨r, er⟩ := State.topJava?_eq_some.mp e0
  have er' : (T.setVm (T.vm.noted g.method.cls x.catchType (.cls cT))).frames = .java g₀ :: r := er
  have sw : ∀ (u : State) (v : Vm) (F G : List Frame), ((u.setFrames F).setVm v).setFrames G = (u.setVm v).setFrames G := fun u v F G => by
    rw [show (u.setFrames F).setVm v = (u.setVm v).setFrames F from rfl, State.setFrames_setFrames]
  rw [State.setTop_of_frames _ er'] at rest
  rw [er, List.tail_cons, State.pushFrame, sw, State.setTop_of_frames _ er, sw]
  exact rest
/-- the Fault's cell -/
theorem fault_at {E : EV} {σ : SG} {s U : State} (hS : SK E s) (hW : WH E σ U.heap) : ∃ cell cT, U.heap[eX E (-4)]? = some cell ∧ cell.vm.isStatics = false ∧ s.vm.findClass "AlgebraHouse$Fault" = some cT ∧ s.vm.assignable cell.cls cT = true := by
  obtain ⟨ok, hw, hq⟩ := hS
  obtain ⟨cell, h1, h2, h3, h4⟩ := ok.2.2.2.2.2.2.2.2.2.2.2.2.2.2
  obtain ⟨c3, cT, g1, g2, g3⟩ := Cond.castable_spec (ok.2.1 _ q2603)
  cases g1.symm.trans g2
  cases h3.symm.trans g1
  refine ⟨cell, cell.cls, by rw [hW.2.2.1 _ (Nat.not_le.mp h4)]; exact h1, h2, by rw [hw.alike.findClass]; exact h3, by rw [hw.alike.assignable]; exact g3⟩
/-- what is the same for every kind of call, whatever the callee's words, whatever is done with what it throws -/
theorem call_gen {f f' : Nat} {mi mi' : MI} {pc : Nat} {ls st as : List AV} {σ : SG} {Q Q' : Int → SG → Prop} {T T' : SG → Prop} {ws : List Cond} (hf : f' + 1 ≤ f) (hst : st.length ≤ 10) (hm33 : mi'.2.2.1 ≤ 33) (hgood : GoodIn lw_all ws) (hini : Cond.initialized mi'.1.cls ∈ lw_all)
    (kQ : ∀ x σ', Q' x σ' → A f mi (pc + 3) ls (rs mi'.2.2.2 x ++ st) σ' Q T)
    {E : EV} {p : Program} {e : Env} {R : Room} {s : State} {m : MethodId} {args : Array Value} {below : List Frame} {meth : Method} {c : Code} {n0 : Nat} {H : Heap} {locs : List Loc} {lC : Array Slot}
    (X : CX E f mi n0 p R s m args meth c) (hn : n0 ≤ σ.1) (hW : WH E σ H) (hS : va_S (fun q => eZ E ≤ q) s.heap H locs) (hL : LR E ls lC) (hlen : ls.length = mi.2.2.1)
    {T0 : State} (hT : T0.heap = H) {vm₁ : Vm} (X₁ : Stand p (eL E) e R s m args below meth c (T0.setVm vm₁) locs (σ.1 - n0) (szN σ.1 - szN n0)) {mk : MethodId} (hnamed : s.methodNamed? mi'.1 = some mk) {ig : Instr} (hd : decode mi.2.1 pc = .ok (ig, 3)) {G0 : State}
    (hstep : ∀ tg, (∀ acts, Steps p.tables e below (doInvoke e ((T0.setVm vm₁).setTop (F0 m pc lC (st.map (cv E)))) acts mk (as.map (cv E)).toArray).1 tg) → Steps p.tables e below G0 tg)
    (hM : MetFree (eL E) mi'.1 (headSpec ws (rmX f' σ.1)) (fun a U => a = (as.map (cv E)).toArray ∧ WH E σ U.heap ∧ SK E U) (fun _ _ _ _ _ => True) (fun _ s o t => EQ E mi' σ.1 s Q' T' o t))
    (hY : ∃ methY cY, (T0.setVm vm₁).vm.method? mk = some methY ∧ methY.code = some cY ∧ cY.maxLocals = mi'.2.2.1)
    (kX : ∀ (σ' : SG) (U' : State) (locs' : List Loc), T' σ' → n0 ≤ σ'.1 → WH E σ' U'.heap → va_S (fun q => eZ E ≤ q) s.heap U'.heap locs' → Stand p (eL E) e R s m args below meth c U' locs' (σ'.1 - n0) (szN σ'.1 - szN n0) → ∃ t, Steps p.tables e below ((U'.setTop (F0 m pc lC (st.map (cv E)))).pushFrame (.throwing (eX E (-4)))) t ∧ FQ E mi n0 below s Q T t) :
    ∃ t, Steps p.tables e below G0 t ∧ FQ E mi n0 below s Q T t := by
  obtain ⟨hexec, hb, hml, hown, hts, hrr, hlocks, hname, hSK, hsz, hR1, hR2, hR3, hR4, hn0, -⟩ := id X
  have hnU : (T0.setVm vm₁).methodNamed? mi'.1 = some mk := X₁.named hnamed
  obtain ⟨methY, cY, y1, y2, y4⟩ := hY
  have hlow : ∀ q, q < eZ E → H[q]? = (eS E).heap[q]? := hW.2.2.1
  have hm1 := szN_le hn
  have hm2 := szN_le hW.2.1
  obtain ⟨σ', U', L, hle, hWH, X', hLq, hend⟩ := call_core (E := E) (mi := mi') (σ := σ) (Q := Q') (T := T') (bytes := mi'.2.1) (maxL := mi'.2.2.1) (ret := mi'.2.2.2) hM X₁ (g := F0 m pc lC (st.map (cv E))) rfl (by rw [hml, ← hlen]; exact hL.1) (ig := ig) (by rw [hb]; exact hd) (Wd := 20) (by show 2 * 0 + ((st.map (cv E)).map fun v => v.category).sum ≤ 20; have := cats_le E st; omega) hnU
    (a := (as.map (cv E)).toArray) (atoms_intro fun w hw => pay_in hts hgood w hw _ _ X₁.warmed)
    (fun mY cY2 h1 h2 => by cases y1.symm.trans h1; cases y2.symm.trans h2; exact y4) ⟨methY, cY, y1, y2⟩ (pay_in hts lw_self _ hini _ _ X₁.warmed)
    (by show f' + 1 ≤ R.frames; omega) (by show 20 + (mi'.2.2.1 + 11) + 64 * f' ≤ R.locals; omega) (by show _ + (NT - σ.1) ≤ R.cells; have := hW.2.1; omega) (by show _ + (szN NT - szN σ.1) ≤ R.slots; omega)
    ⟨rfl, by show WH E σ T0.heap; rw [hT]; exact hW, hSK.moved X₁.warmed (fun q hq => by show T0.heap[q]? = _; rw [hT]; exact hlow q hq)⟩
  have hm3 := szN_le hle
  have hS' : va_S (fun q => eZ E ≤ q) s.heap U'.heap (locs ++ L) := by
    refine ⟨by rw [hsz, hWH.1]; omega, fun q h1 h2 => ?_, fun q hq => ?_⟩
    · rw [hWH.2.2.1 q (Nat.not_le.mp h2), hSK.2.2 q (Nat.not_le.mp h2)]
    · rcases List.mem_append.mp hq with h | h
      · exact hS.2.2 q h
      · exact hLq q h
  rw [show σ.1 - n0 + (σ'.1 - σ.1) = σ'.1 - n0 by omega, show szN σ.1 - szN n0 + (szN σ'.1 - szN σ.1) = szN σ'.1 - szN n0 by omega] at X'
  rcases hend with ⟨x, hx, hsteps⟩ | ⟨hx, hsteps⟩
  · obtain ⟨t, a1, b1⟩ := kQ x σ' hx E p e R s m args below meth c n0 U'.heap _ lC X (by omega) hWH hS' hL U' rfl X'
    rw [List.map_append, rs_rv] at a1
    exact ⟨t, hstep t fun acts => by rw [doInvoke_state]; exact hsteps.trans a1, b1⟩
  · obtain ⟨t, a1, b1⟩ := kX σ' U' _ hx (by omega) hWH hS' X'
    exact ⟨t, hstep t fun acts => by rw [doInvoke_state]; exact hsteps.trans a1, b1⟩
/-- Parser.reads calls: what is thrown between 41 and 45 goes to 48 -/
theorem call_finC {f f' : Nat} {mi mi' : MI} {pc : Nat} {ls st as : List AV} {σ : SG} {Q Q' : Int → SG → Prop} {T T' : SG → Prop} {np : Nat} {stt : Bool}
    (mf : MF mi' stt np) (hM : CT f' mi' as σ Q' T') (hf : f' + 1 ≤ f) (hst : st.length ≤ 10) (hwd : Cond.codeWith mi.1 mi.2.1 mi.2.2.1 mi.2.2.2 hh0 ∈ lw_all) (hcl : Cond.classLink mi.1.cls 94 "AlgebraHouse$Fault" ∈ lw_all) (hpc : ∀ σ', T' σ' → 41 ≤ pc ∧ pc < 45)
    (kQ : ∀ x σ', Q' x σ' → A f mi (pc + 3) ls (rs mi'.2.2.2 x ++ st) σ' Q T) (kT : ∀ σ', T' σ' → A f mi 48 ls [vR (-4)] σ' Q T)
    {E : EV} {p : Program} {e : Env} {R : Room} {s : State} {m : MethodId} {args : Array Value} {below : List Frame} {meth : Method} {c : Code} {n0 : Nat} {H : Heap} {locs : List Loc} {lC : Array Slot}
    (X : CX E f mi n0 p R s m args meth c) (hn : n0 ≤ σ.1) (hW : WH E σ H) (hS : va_S (fun q => eZ E ≤ q) s.heap H locs) (hL : LR E ls lC) (hlen : ls.length = mi.2.2.1)
    {T0 : State} (hT : T0.heap = H) {vm₁ : Vm} (X₁ : Stand p (eL E) e R s m args below meth c (T0.setVm vm₁) locs (σ.1 - n0) (szN σ.1 - szN n0)) {mk : MethodId} (hnamed : s.methodNamed? mi'.1 = some mk) {ig : Instr} (hd : decode mi.2.1 pc = .ok (ig, 3)) {G0 : State}
    (hstep : ∀ tg, (∀ acts, Steps p.tables e below (doInvoke e ((T0.setVm vm₁).setTop (F0 m pc lC (st.map (cv E)))) acts mk (as.map (cv E)).toArray).1 tg) → Steps p.tables e below G0 tg) :
    ∃ t, Steps p.tables e below G0 t ∧ FQ E mi n0 below s Q T t := by
  obtain ⟨w1, w2, w3, w4, w5, w6, w7⟩ := mf
  obtain ⟨hexec, hb, hml, hown, hts, hrr, hlocks, hname, hSK, hsz, hR1, hR2, hR3, hR4, hn0, -, hnm⟩ := id X
  have hcodeU : (Cond.code mi'.1 mi'.2.1 mi'.2.2.1 mi'.2.2.2).before (as.map (cv E)).toArray (T0.setVm vm₁) = true := pay_in hts lw_self _ w1 _ _ X₁.warmed
  obtain ⟨methY, cY, y1, y2, y3, y4, -⟩ := Cond.code_spec (X₁.named hnamed) hcodeU
  refine call_gen hf hst w5 (lw_meth w1) w2 kQ X hn hW hS hL hlen hT X₁ hnamed hd hstep (hM E) ⟨methY, cY, y1, y2, y4⟩ (fun σ' U' locs' hx hn' hWH hS' X' => ?_)
  have htab : c.exceptionTable.toList = [⟨41, 45, 48, 94⟩] := by
    obtain ⟨m', meth', c', a1, a2, a3, -, -, a4, -⟩ := Cond.codeWith_spec (hts _ hwd)
    cases hnm.symm.trans a1
    cases a2.symm.trans X'.method
    cases a3.symm.trans X'.code
    have := congrArg tableOf a4
    rw [table_eq] at this
    exact this
  have hpc' := hpc σ' hx
  obtain ⟨cell, cT, u1, u2, u3, u4⟩ := fault_at hSK hWH
  obtain ⟨vm', XV, st'⟩ := rd_catch X' (eX E (-4)) (g := F0 m pc lC (st.map (cv E))) rfl hown htab (by show (decide (41 ≤ pc) && decide (pc < 45)) = true; simp [hpc'.1, hpc'.2]) (by decide) (hts _ hcl) u3 u1 u2 u4
  obtain ⟨t, a1, b1⟩ := kT σ' hx E p e R s m args below meth c n0 U'.heap _ lC X hn' hWH hS' hL (U'.setVm vm') rfl XV
  exact ⟨t, st' t a1, b1⟩
/-- Parser.reads is called: nothing is thrown -/
theorem call_finR {f f' : Nat} {mi mi' : MI} {pc : Nat} {ls st as : List AV} {σ : SG} {Q Q' : Int → SG → Prop} {T T' : SG → Prop}
    (hwd : Cond.codeWith mi'.1 mi'.2.1 mi'.2.2.1 mi'.2.2.2 hh0 ∈ lw_all) (hini : Cond.initialized mi'.1.cls ∈ lw_all) (hm33 : mi'.2.2.1 ≤ 33) (hM : CTW f' mi' as σ Q' T') (hf : f' + 1 ≤ f) (hst : st.length ≤ 10)
    (kQ : ∀ x σ', Q' x σ' → A f mi (pc + 3) ls (rs mi'.2.2.2 x ++ st) σ' Q T) (kT : ∀ σ', T' σ' → False)
    {E : EV} {p : Program} {e : Env} {R : Room} {s : State} {m : MethodId} {args : Array Value} {below : List Frame} {meth : Method} {c : Code} {n0 : Nat} {H : Heap} {locs : List Loc} {lC : Array Slot}
    (X : CX E f mi n0 p R s m args meth c) (hn : n0 ≤ σ.1) (hW : WH E σ H) (hS : va_S (fun q => eZ E ≤ q) s.heap H locs) (hL : LR E ls lC) (hlen : ls.length = mi.2.2.1)
    {T0 : State} (hT : T0.heap = H) {vm₁ : Vm} (X₁ : Stand p (eL E) e R s m args below meth c (T0.setVm vm₁) locs (σ.1 - n0) (szN σ.1 - szN n0)) {mk : MethodId} (hnamed : s.methodNamed? mi'.1 = some mk) {ig : Instr} (hd : decode mi.2.1 pc = .ok (ig, 3)) {G0 : State}
    (hstep : ∀ tg, (∀ acts, Steps p.tables e below (doInvoke e ((T0.setVm vm₁).setTop (F0 m pc lC (st.map (cv E)))) acts mk (as.map (cv E)).toArray).1 tg) → Steps p.tables e below G0 tg) :
    ∃ t, Steps p.tables e below G0 t ∧ FQ E mi n0 below s Q T t := by
  obtain ⟨hexec, hb, hml, hown, hts, hrr, hlocks, hname, hSK, hsz, hR1, hR2, hR3, hR4, hn0, -, hnm⟩ := id X
  have hcodeU : (Cond.codeWith mi'.1 mi'.2.1 mi'.2.2.1 mi'.2.2.2 hh0).before (as.map (cv E)).toArray (T0.setVm vm₁) = true := pay_in hts lw_self _ hwd _ _ X₁.warmed
  obtain ⟨m', methY, cY, y0, y1, y2, y3, y4, -⟩ := Cond.codeWith_spec hcodeU
  cases (X₁.named hnamed).symm.trans y0
  exact call_gen hf hst hm33 (lw_methW hwd) hini kQ X hn hW hS hL hlen hT X₁ hnamed hd hstep (hM E) ⟨methY, cY, y1, y2, y4⟩ (fun σ' _ _ hx _ _ _ _ => (kT σ' hx).elim)
theorem a_callVC {f f' pc : Nat} {mi mi' : MI} {ls st as stk : List AV} {σ : SG} {Q Q' : Int → SG → Prop} {T T' : SG → Prop} {np : Nat} {a : Int} {idx ci : Nat} (hd : decode mi.2.1 pc = .ok (.invokevirtual idx, 3)) (mf : MF mi' false np) (hse : Cond.selects mi'.1.cls mi'.1 mi'.1 ∈ lw_all) (lk : LK mi.1.cls idx mi'.1) (ha : isAt σ a (.inr ci)) (hC : (vwCl[ci]?).map (fun q => q.1) = some mi'.1.cls) (hM : CT f' mi' (vR a :: as) σ Q' T') (hf : f' + 1 ≤ f) (hn : as.length = np) (hs : as.reverse ++ vR a :: st = stk) (hst : st.length ≤ 10) (hwd : Cond.codeWith mi.1 mi.2.1 mi.2.2.1 mi.2.2.2 hh0 ∈ lw_all) (hcl : Cond.classLink mi.1.cls 94 "AlgebraHouse$Fault" ∈ lw_all) (hpc : ∀ σ', T' σ' → 41 ≤ pc ∧ pc < 45) (hlen : ls.length = mi.2.2.1)
    (kQ : ∀ x σ', Q' x σ' → A f mi (pc + 3) ls (rs mi'.2.2.2 x ++ st) σ' Q T) (kT : ∀ σ', T' σ' → A f mi 48 ls [vR (-4)] σ' Q T) : A f mi pc ls stk σ Q T := by
  subst hs
  intro E p e R s m args below meth c n0 H locs lC X hn0 hW hS hL T0 hT X0
  obtain ⟨hexec, hb, hml, hown, hts, hrr, hlocks, hname, hSK, hsz, -⟩ := id X
  obtain ⟨w1, w2, w3, w4, w5, w6, w7⟩ := id mf
  have w7 := w7 rfl
  obtain ⟨mk, methM, hnamed, hmethM, hstM, habM⟩ := Cond.instanceMethod_spec (hts _ w7)
  obtain ⟨methM', cM, hmethM', -, -, -, -, -, -, hsigM⟩ := Cond.code_spec hnamed (hts _ w1)
  cases hmethM.symm.trans hmethM'
  obtain ⟨c2, r2, m2, q1, q2, q3, q4, kP, hkP, hkPi⟩ := Cond.selects_spec (hts _ hse)
  have h0 := (lyA_pos ha.1).1
  obtain ⟨q, h1, cellB, g1, g2, g3, -⟩ := hW.at ha
  rw [h1] at hC
  have hC : q.1 = mi'.1.cls := Option.some.inj hC
  have hcls : s.vm.findClass mi'.1.cls = some cellB.cls := by
    rw [← hC, g2]
    exact (hSK.K.1 ci q h1).2.1
  cases hcls.symm.trans q1
  cases (State.methodFound?_of_named hnamed w3).symm.trans q2
  cases hnamed.symm.trans q3
  have hselP : selectMethod e.platform s.vm cellB.cls mk = .method mk := by rw [Launch.admits_selectMethod X0.admits]; exact q4
  have hst2 : (F0 m pc lC ((as.reverse ++ vR a :: st).map (cv E))).stack = (as.map (cv E)).reverse ++ .ref (adr E a) :: st.map (cv E) := by
    show (as.reverse ++ vR a :: st).map (cv E) = _
    rw [List.map_append, List.map_reverse, List.map_cons, show cv E (vR a) = cr E a from rfl, cr_pos h0]
  have hlen2 : (as.map (cv E)).length = methM.sig.parameters.length := by
    rw [hsigM] at w4
    rw [List.length_map, hn]
    exact (Option.some.inj w4).symm
  have hargs : (Value.ref (adr E a) :: as.map (cv E)).toArray = ((vR a :: as).map (cv E)).toArray := by
    rw [List.map_cons, show cv E (vR a) = cr E a from rfl, cr_pos h0]
  rcases lk with lk | ⟨host, lk⟩
  · obtain ⟨vm₁, X₁, hstep₁⟩ := X0.invokevirtual hexec hown (hts _ lk) hnamed hmethM hstM hkP hkPi w3 (a := adr E a) (cell := cellB) (by rw [hT]; exact g1)
      (fun z h => by rw [g3] at h; cases h) hselP hmethM habM hkP hkPi (g := F0 m pc lC ((as.reverse ++ vR a :: st).map (cv E))) rfl (argsL := as.map (cv E)) (rest := st.map (cv E)) hlen2 hst2 (by rw [hb]; exact hd)
    rw [hargs] at hstep₁
    exact call_finC mf hM hf hst hwd hcl hpc kQ kT X hn0 hW hS hL hlen hT X₁ hnamed hd hstep₁
  · obtain ⟨vm₁, X₁, hstep₁⟩ := X0.invokevirtualNest hexec hown (hSK.NM lk) hnamed hmethM hstM hkP hkPi w3 (a := adr E a) (cell := cellB) (by rw [hT]; exact g1)
      (fun z h => by rw [g3] at h; cases h) hselP hmethM habM hkP hkPi (g := F0 m pc lC ((as.reverse ++ vR a :: st).map (cv E))) rfl (argsL := as.map (cv E)) (rest := st.map (cv E)) hlen2 hst2 (by rw [hb]; exact hd)
    rw [hargs] at hstep₁
    exact call_finC mf hM hf hst hwd hcl hpc kQ kT X hn0 hW hS hL hlen hT X₁ hnamed hd hstep₁
theorem a_callVR {f f' pc : Nat} {mi mi' : MI} {ls st as stk : List AV} {σ : SG} {Q Q' : Int → SG → Prop} {T T' : SG → Prop} {np : Nat} {a : Int} {idx ci : Nat} (hd : decode mi.2.1 pc = .ok (.invokevirtual idx, 3)) (hwd : Cond.codeWith mi'.1 mi'.2.1 mi'.2.2.1 mi'.2.2.2 hh0 ∈ lw_all) (hini : Cond.initialized mi'.1.cls ∈ lw_all) (hm33 : mi'.2.2.1 ≤ 33) (w3 : mi'.1.cls ≠ "java/lang/invoke/MethodHandle" ∧ mi'.1.cls ≠ "java/lang/invoke/VarHandle") (w4 : (parseMethodDescriptor mi'.1.desc).map (fun d => d.parameters.length) = some np) (w7 : Cond.instanceMethod mi'.1 ∈ lw_all) (hse : Cond.selects mi'.1.cls mi'.1 mi'.1 ∈ lw_all) (lk : LK mi.1.cls idx mi'.1) (ha : isAt σ a (.inr ci)) (hC : (vwCl[ci]?).map (fun q => q.1) = some mi'.1.cls) (hM : CTW f' mi' (vR a :: as) σ Q' T') (hf : f' + 1 ≤ f) (hn : as.length = np) (hs : as.reverse ++ vR a :: st = stk) (hst : st.length ≤ 10)  (hlen : ls.length = mi.2.2.1)
    (kQ : ∀ x σ', Q' x σ' → A f mi (pc + 3) ls (rs mi'.2.2.2 x ++ st) σ' Q T) (kT : ∀ σ', T' σ' → False) : A f mi pc ls stk σ Q T := by
  subst hs
  intro E p e R s m args below meth c n0 H locs lC X hn0 hW hS hL T0 hT X0
  obtain ⟨hexec, hb, hml, hown, hts, hrr, hlocks, hname, hSK, hsz, -⟩ := id X
  have hts0 := hts
  obtain ⟨mk, methM, hnamed, hmethM, hstM, habM⟩ := Cond.instanceMethod_spec (hts _ w7)
  obtain ⟨mk0, methM', cM, u0, hmethM', -, -, -, -, -, -, hsigM⟩ := Cond.codeWith_spec (hts _ hwd)
  cases hnamed.symm.trans u0
  cases hmethM.symm.trans hmethM'
  obtain ⟨c2, r2, m2, q1, q2, q3, q4, kP, hkP, hkPi⟩ := Cond.selects_spec (hts _ hse)
  have h0 := (lyA_pos ha.1).1
  obtain ⟨q, h1, cellB, g1, g2, g3, -⟩ := hW.at ha
  rw [h1] at hC
  have hC : q.1 = mi'.1.cls := Option.some.inj hC
  have hcls : s.vm.findClass mi'.1.cls = some cellB.cls := by
    rw [← hC, g2]
    exact (hSK.K.1 ci q h1).2.1
  cases hcls.symm.trans q1
  cases (State.methodFound?_of_named hnamed w3).symm.trans q2
  cases hnamed.symm.trans q3
  have hselP : selectMethod e.platform s.vm cellB.cls mk = .method mk := by rw [Launch.admits_selectMethod X0.admits]; exact q4
  have hst2 : (F0 m pc lC ((as.reverse ++ vR a :: st).map (cv E))).stack = (as.map (cv E)).reverse ++ .ref (adr E a) :: st.map (cv E) := by
    show (as.reverse ++ vR a :: st).map (cv E) = _
    rw [List.map_append, List.map_reverse, List.map_cons, show cv E (vR a) = cr E a from rfl, cr_pos h0]
  have hlen2 : (as.map (cv E)).length = methM.sig.parameters.length := by
    rw [hsigM] at w4
    rw [List.length_map, hn]
    exact (Option.some.inj w4).symm
  have hargs : (Value.ref (adr E a) :: as.map (cv E)).toArray = ((vR a :: as).map (cv E)).toArray := by
    rw [List.map_cons, show cv E (vR a) = cr E a from rfl, cr_pos h0]
  rcases lk with lk | ⟨host, lk⟩
  · obtain ⟨vm₁, X₁, hstep₁⟩ := X0.invokevirtual hexec hown (hts _ lk) hnamed hmethM hstM hkP hkPi w3 (a := adr E a) (cell := cellB) (by rw [hT]; exact g1)
      (fun z h => by rw [g3] at h; cases h) hselP hmethM habM hkP hkPi (g := F0 m pc lC ((as.reverse ++ vR a :: st).map (cv E))) rfl (argsL := as.map (cv E)) (rest := st.map (cv E)) hlen2 hst2 (by rw [hb]; exact hd)
    rw [hargs] at hstep₁
    exact call_finR hwd hini hm33 hM hf hst kQ kT X hn0 hW hS hL hlen hT X₁ hnamed hd hstep₁
  · obtain ⟨vm₁, X₁, hstep₁⟩ := X0.invokevirtualNest hexec hown (hSK.NM lk) hnamed hmethM hstM hkP hkPi w3 (a := adr E a) (cell := cellB) (by rw [hT]; exact g1)
      (fun z h => by rw [g3] at h; cases h) hselP hmethM habM hkP hkPi (g := F0 m pc lC ((as.reverse ++ vR a :: st).map (cv E))) rfl (argsL := as.map (cv E)) (rest := st.map (cv E)) hlen2 hst2 (by rw [hb]; exact hd)
    rw [hargs] at hstep₁
    exact call_finR hwd hini hm33 hM hf hst kQ kT X hn0 hW hS hL hlen hT X₁ hnamed hd hstep₁
