set_option maxRecDepth 100000
/-! CALLS: by contract; a callee that throws -/
theorem szN_le {a b : Nat} (h : a ≤ b) : szN a ≤ szN b := by
  unfold szN
  obtain ⟨d, rfl⟩ := Nat.exists_eq_add_of_le h
  rw [List.take_add, List.map_append, List.sum_append]
  exact Nat.le_add_right _ _
/-- a contract's end, whatever its words -/
theorem call_core {E : EV} {mi : MI} {σ : SG} {Q : Int → SG → Prop} {T : SG → Prop} {S : Spec} {P : Array Value → State → Prop} {bytes : ByteArray} {maxL : Nat} {ret : Option FieldType}
    (hM : MetFree (eL E) mi.1 S P (fun _ _ _ _ _ => True) (fun _ s o t => EQ E mi σ.1 s Q T o t))
    {p : Program} {e : Env} {R : Room} {s : State} {m : MethodId} {args : Array Value} {below : List Frame} {meth : Method} {c : Code} {U : State} {locs : List Loc} {cells slots Wd : Nat}
    (X : Stand p (eL E) e R s m args below meth c U locs cells slots) {g : JFrame} (hg : g.method = m) (hsize : g.locals.size = c.maxLocals) {ig : Instr} (hdg : decode c.code g.pc = .ok (ig, 3))
    (hWd : 2 * g.monitorRoom + (g.stack.map fun v => v.category).sum ≤ Wd) {mk : MethodId} (hn : U.methodNamed? mi.1 = some mk) {a : Array Value}
    (hpre : S.pre.before a U = true) (hml : ∀ methY cY, U.vm.method? mk = some methY → methY.code = some cY → cY.maxLocals = maxL) (hcY : ∃ methY cY, U.vm.method? mk = some methY ∧ methY.code = some cY) (hini : (Cond.initialized mi.1.cls).before a U = true)
    (hfr : S.room.frames + 1 ≤ R.frames) (hlo : Wd + (maxL + 11) + S.room.locals ≤ R.locals) (hce : cells + S.room.cells ≤ R.cells) (hsl : slots + S.room.slots ≤ R.slots) (hP : P a (U.calling g mk a)) :
    ∃ (σ' : SG) (U' : State) (L : List Loc), σ.1 ≤ σ'.1 ∧ WH E σ' U'.heap ∧ Stand p (eL E) e R s m args below meth c U' (locs ++ L) (cells + (σ'.1 - σ.1)) (slots + (szN σ'.1 - szN σ.1)) ∧ (∀ q ∈ L, eZ E ≤ q.base) ∧
      ((∃ x, Q x σ' ∧ Steps p.tables e below (doInvoke e (U.setTop g) [] mk a).1 (U'.setTop { g with pc := g.pc + 3, stack := (rv E mi.2.2.2 x).toList ++ g.stack })) ∨
       (T σ' ∧ Steps p.tables e below (doInvoke e (U.setTop g) [] mk a).1 ((U'.setTop g).pushFrame (.throwing (eX E (-4)))))) := by
  obtain ⟨methY, cY, hmY, hcY⟩ := hcY
  have hlY := hml methY cY hmY hcY
  obtain ⟨kY, hkY, -⟩ := className_of_methodNamed hn
  have hinitY : kY.init = .initialized := Cond.initialized_spec (findClass_of_methodNamed hn) hkY hini
  have h : At U g.method c below := by rw [hg]; exact X.here
  have happ : S.appliesLoose mi.1 e.platform (U.calling g mk a) = true :=
    Spec.appliesLoose_calling (g := g) h hdg hn hkY hinitY
      (X.room_calling (g := g) (R' := S.room) hsize hmY hcY hfr (by rw [hlY]; omega) hce hsl) hpre
  obtain ⟨mid, hmid⟩ := h.above
  have hfr2 : (U.setTop g).frames = (.java g :: mid) ++ below := by rw [State.frames_setTop' g h.top, hmid]; rfl
  obtain ⟨o, s₂, hsteps, -, hend, hq⟩ := Steps.callFree hM p X.admits X.cas X.clock (acts := []) hfr2 happ hP trivial
  have hq' : EQ E mi σ.1 (U.calling g mk a) Q T o s₂ := hq
  rw [State.frames_setTop' g h.top] at hend
  obtain ⟨σ', hoc, hle, hWH, hW₂, L, ⟨e2, q2, q3, q4, q5, q6⟩, hL⟩ := hq'
  have e3 : s₂ = ({ (U.calling g mk a).setFrames s₂.frames with heap := s₂.heap, slotsUsed := s₂.slotsUsed } : State).setVm s₂.vm := by
    have : s₂ = ({ s₂ with vm := (U.calling g mk a).vm } : State).setVm s₂.vm := rfl
    rw [e2] at this
    exact this
  have hW' : U.WarmedH s₂.vm := hW₂
  obtain ⟨g₀, hg0⟩ := Option.isSome_iff_exists.mp h.top
  obtain ⟨r, hr⟩ := State.topJava?_eq_some.mp hg0
  have hsame : U.sameButNew ({ U with heap := s₂.heap, slotsUsed := s₂.slotsUsed } : State) L (σ'.1 - σ.1) (szN σ'.1 - szN σ.1) := by
    refine ⟨?_, q2, q3, q4, q5, q6⟩
    obtain ⟨t, ht, -⟩ := State.frames_cons hr
    show ({ U with heap := s₂.heap, slotsUsed := s₂.slotsUsed } : State) = { U.setFrames U.frames with heap := s₂.heap, slotsUsed := s₂.slotsUsed }
    rw [State.setFrames_self ht]
  have hr' : (({ U with heap := s₂.heap, slotsUsed := s₂.slotsUsed } : State).setVm s₂.vm).frames = .java g₀ :: r := hr
  refine ⟨σ', (({ U with heap := s₂.heap, slotsUsed := s₂.slotsUsed } : State).setVm s₂.vm), L, hle, hWH, ?_, hL, ?_⟩
  · subst hg
    exact ⟨X.admits, X.cas, X.clock, X.frames, X.room, X.hears, X.method, X.code, (X.here.setHeapUsed s₂.heap s₂.slotsUsed).setVm hW'.alike, X.tail, State.WarmedH.trans X.warmed hW', X.limits, X.bytes, X.same.trans (hsame.setVm s.vm)⟩
  · rcases hoc with ⟨x, rfl, hx⟩ | ⟨rfl, hx⟩
    · refine Or.inl ⟨x, hx, ?_⟩
      obtain ⟨c₂, i₂, len₂, hc₂, hd₂, hf₂⟩ := hend
      have hcc : c₂ = c := by
        have h1 : s₂.code? g.method = U.code? g.method := by
          rw [State.code?_eq, State.code?_eq, hW'.alike.method?]
        exact Option.some.inj (hc₂.symm.trans (h1.trans h.code))
      subst hcc
      have hlen : len₂ = 3 := by rw [hdg] at hd₂; cases hd₂; rfl
      subst hlen
      have hs₂ : s₂ = (({ U with heap := s₂.heap, slotsUsed := s₂.slotsUsed } : State).setVm s₂.vm).setTop { g with pc := g.pc + 3, stack := (rv E mi.2.2.2 x).toList ++ g.stack } := by
        refine e3.trans ?_
        rw [hf₂, State.calling_eq h.top, State.setFrames_setFrames, State.setTop_of_frames _ hr', hr]
        rfl
      rw [← hs₂]
      exact hsteps
    · refine Or.inr ⟨hx, ?_⟩
      have hend : s₂.frames = .throwing (eX E (-4)) :: .java g :: U.frames.tail := hend
      have hs₂ : s₂ = ((({ U with heap := s₂.heap, slotsUsed := s₂.slotsUsed } : State).setVm s₂.vm).setTop g).pushFrame (.throwing (eX E (-4))) := by
        refine e3.trans ?_
        rw [hend, State.calling_eq h.top, State.setFrames_setFrames, State.pushFrame, State.setTop_of_frames _ hr', State.setFrames_setFrames]
        obtain ⟨t, ht, -⟩ := State.frames_cons hr'
        have hfs : ((({ U with heap := s₂.heap, slotsUsed := s₂.slotsUsed } : State).setVm s₂.vm).setFrames (.java g :: r)).frames = .java g :: r := State.frames_setFrames _ (State.cur_lt_of_frames hr')
        rw [hfs, hr]
        rfl
      rw [← hs₂]
      exact hsteps
