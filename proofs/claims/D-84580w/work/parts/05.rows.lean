set_option maxRecDepth 100000
/-! ROWS: entry, ends, locals -/
def isL : AV → Bool
  | .inr (.inl _) => true
  | _ => false
theorem cr_cat (E : EV) (x : Int) : (cr E x).category = 1 := by
  by_cases h : x = 0
  · simp [cr, h, Value.category]
  · simp [cr, h, Value.category]
theorem cat_cv (E : EV) (v : AV) : (cv E v).category = if isL v then 2 else 1 := by
  rcases v with x | x | x | x
  · rfl
  · rfl
  · exact cr_cat E x
  · rfl
def clr (ls : List AV) (i : Nat) : List AV := match i with
  | 0 => ls
  | j + 1 => if isL (ls.getD j vU) then ls.set j vU else ls
def stI (ls : List AV) (i : Nat) (v : AV) : List AV := (clr ls i).set i v
def stL (ls : List AV) (i : Nat) (x : Int) : List AV := ((clr ls i).set i (vL x)).set (i + 1) vU
theorem clr_len (ls : List AV) (i : Nat) : (clr ls i).length = ls.length := by
  unfold clr; split
  · rfl
  · split <;> simp
theorem clr_get {ls : List AV} {i j : Nat} {w : AV} (h : (clr ls i)[j]? = some w) (hu : isU w = false) : ls[j]? = some w ∧ ¬ (j + 1 = i ∧ isL w = true) := by
  unfold clr at h
  split at h
  · exact ⟨h, by omega⟩
  · rename_i k
    split at h
    · rename_i hl
      rw [List.getElem?_set] at h
      split at h
      · split at h
        · cases h; cases hu
        · cases h
      · rename_i hne
        exact ⟨h, fun q => hne (by omega)⟩
    · rename_i hl
      refine ⟨h, fun q => hl ?_⟩
      have hk : k = j := by omega
      subst hk
      rw [List.getD_eq_getElem?_getD, h]
      exact q.2
def lvl (E : EV) (ls : List AV) : List (Nat × Value) := ls.zipIdx.filterMap (fun q => if isU q.1 then none else some (q.2, cv E q.1))
theorem lvl_mem {E : EV} {ls : List AV} {i : Nat} {v : AV} (h : ls[i]? = some v) (hu : isU v = false) : (i, cv E v) ∈ lvl E ls := by
  refine List.mem_filterMap.mpr ⟨(v, i), ?_, by simp [hu]⟩
  exact List.mem_zipIdx_iff_getElem?.mpr h
theorem LR.has {E : EV} {ls : List AV} {lC : Array Slot} (h : LR E ls lC) : lv_has lC ls.length (lvl E ls) := by
  refine ⟨h.1, h.2.1, fun q hq => ?_⟩
  obtain ⟨⟨v, i⟩, hm, he⟩ := List.mem_filterMap.mp hq
  have hg : ls[i]? = some v := List.mem_zipIdx_iff_getElem?.mp hm
  by_cases hu : isU v = true
  · simp [hu] at he
  · have hu : isU v = false := by simpa using hu
    simp [hu] at he
    rw [← he]
    exact h.2.2 i v hg hu
theorem LR.store1 {E : EV} {ls : List AV} {lC : Array Slot} {i : Nat} {v : AV} (h : LR E ls lC) (hi : i < ls.length) (hv : isL v = false) : ∃ lC', storeLocals lC i (cv E v) = some lC' ∧ LR E (stI ls i v) lC' := by
  have hc : (cv E v).category = 1 := by rw [cat_cv, hv]; rfl
  obtain ⟨lC', e, h1, h2, h3⟩ := lv_store1 h.has hi hc
  refine ⟨lC', e, ⟨by rw [h1]; simp [stI, clr_len], h2, fun j w hj hu => ?_⟩⟩
  unfold stI at hj
  rw [List.getElem?_set] at hj
  split at hj
  · rename_i e1
    split at hj
    · cases hj; subst e1
      exact h3 _ List.mem_cons_self
    · cases hj
  · rename_i e1
    obtain ⟨g1, g2⟩ := clr_get hj hu
    refine h3 (j, cv E w) (List.mem_cons_of_mem _ (List.mem_filter.mpr ⟨lvl_mem g1 hu, ?_⟩))
    rw [cat_cv]
    have e2 : ¬ j = i := fun q => e1 q.symm
    by_cases hL : isL w = true
    · have : ¬ j + 1 = i := fun q => g2 ⟨q, hL⟩
      simp [e2, this]
    · simp [e2, hL]
theorem LR.store2 {E : EV} {ls : List AV} {lC : Array Slot} {i : Nat} {x : Int} (h : LR E ls lC) (hi : i + 1 < ls.length) : ∃ lC', storeLocals lC i (.long (Int64.ofInt x)) = some lC' ∧ LR E (stL ls i x) lC' := by
  obtain ⟨lC', e, h1, h2, h3⟩ := lv_store2 (v := .long (Int64.ofInt x)) h.has hi rfl
  refine ⟨lC', e, ⟨by rw [h1]; simp [stL, clr_len], h2, fun j w hj hu => ?_⟩⟩
  unfold stL at hj
  rw [List.getElem?_set] at hj
  split at hj
  · split at hj
    · cases hj; cases hu
    · cases hj
  · rename_i e0
    rw [List.getElem?_set] at hj
    split at hj
    · rename_i e1
      split at hj
      · cases hj; subst e1
        exact h3 _ List.mem_cons_self
      · cases hj
    · rename_i e1
      obtain ⟨g1, g2⟩ := clr_get hj hu
      refine h3 (j, cv E w) (List.mem_cons_of_mem _ (List.mem_filter.mpr ⟨lvl_mem g1 hu, ?_⟩))
      rw [cat_cv]
      have e2 : ¬ j = i := fun q => e1 q.symm
      have e3 : ¬ j = i + 1 := fun q => e0 q.symm
      by_cases hL : isL w = true
      · have : ¬ j + 1 = i := fun q => g2 ⟨q, hL⟩
        simp [e2, e3, this]
      · simp [e2, e3, hL]
/-- a method's locals at its start -/
def exl : List AV → List AV
  | [] => []
  | .inr (.inl x) :: vs => vL x :: vU :: exl vs
  | v :: vs => v :: exl vs
theorem exl_len (E : EV) : ∀ as : List AV, (lg_sl (as.map (cv E))).length = (exl as).length := by
  intro as
  induction as with
  | nil => rfl
  | cons v vs ih =>
    rcases v with x | x | x | x
    · simpa [lg_sl, exl, cv, Value.category] using ih
    · simpa [lg_sl, exl, cv, Value.category] using ih
    · have hc : (cr E x).category = 1 := by unfold cr; split <;> rfl
      simpa [lg_sl, exl, cv, hc] using ih
    · simpa [lg_sl, exl, cv, Value.category] using ih
theorem exl_args (E : EV) : ∀ (as : List AV) (o i : Nat) (v : AV), (exl as)[i]? = some v → isU v = false → (o + i, cv E v) ∈ lv_args o (as.map (cv E)) := by
  intro as
  induction as with
  | nil => intro o i v h; simp [exl] at h
  | cons w vs ih =>
    intro o i v h hu
    rcases w with x | x | x | x
    · cases i with
      | zero => simp [exl] at h; subst h; exact List.mem_cons_self
      | succ i => simp [exl] at h; have := ih (o + 1) i v h hu; refine List.mem_cons_of_mem _ ?_; simpa [cv, Value.category, Nat.add_assoc, Nat.add_comm 1] using this
    · cases i with
      | zero => simp [exl] at h; subst h; exact List.mem_cons_self
      | succ i => cases i with
        | zero => simp [exl] at h; subst h; cases hu
        | succ i => simp [exl] at h; have := ih (o + 2) i v h hu; refine List.mem_cons_of_mem _ ?_; simpa [cv, Value.category, Nat.add_assoc, Nat.add_comm 2] using this
    · have hc : (cr E x).category = 1 := by unfold cr; split <;> rfl
      cases i with
      | zero => simp [exl] at h; subst h; exact List.mem_cons_self
      | succ i => simp [exl] at h; have := ih (o + 1) i v h hu; refine List.mem_cons_of_mem _ ?_; simpa [cv, hc, Nat.add_assoc, Nat.add_comm 1] using this
    · cases i with
      | zero => simp [exl] at h; subst h; cases hu
      | succ i => simp [exl] at h; have := ih (o + 1) i v h hu; refine List.mem_cons_of_mem _ ?_; simpa [cv, Value.category, Nat.add_assoc, Nat.add_comm 1] using this
def enL (as : List AV) (n : Nat) : List AV := exl as ++ List.replicate (n - (exl as).length) vU
theorem LR.entry (E : EV) (as : List AV) {n : Nat} (h : (exl as).length ≤ n) : LR E (enL as n) ((lg_sl (as.map (cv E)) ++ List.replicate (n - (lg_sl (as.map (cv E))).length) Slot.unset).toArray) := by
  obtain ⟨h1, h2, h3⟩ := lv_entry (as.map (cv E)) (n := n) (by rw [exl_len]; exact h)
  refine ⟨by rw [h1]; simp [enL]; omega, h2, fun i v hi hu => ?_⟩
  unfold enL at hi
  rw [List.getElem?_append] at hi
  split at hi
  · have := exl_args E as 0 i v hi hu
    exact h3 (i, cv E v) (by simpa using this)
  · rw [List.getElem?_replicate] at hi
    split at hi
    · cases hi; cases hu
    · cases hi
/-- THE ENTRY -/
theorem CT.of {f : Nat} {mi : MI} {as : List AV} {σ : SG} {Q : Int → SG → Prop} {T : SG → Prop} (hy : plainFor mi.1 = true) (hl : (exl as).length ≤ mi.2.2.1) (h : A f mi 0 (enL as mi.2.2.1) [] σ Q T) : CT f mi as σ Q T := by
  intro E
  refine MetFree.of_bodySF (code := mi.2.1) (maxLocals := mi.2.2.1) (ret := mi.2.2.2) hy ?_ ?_
  · intro args s m h hn
    obtain ⟨meth, c, h1, h2, h3, h4, h5, h6, -, -⟩ := Cond.code_spec hn (atoms_spec (ws := ws_ mi.1 mi.2.1 mi.2.2.1 mi.2.2.2) h _ List.mem_cons_self)
    exact ⟨meth, c, h1, h2, h3, h4, h5, h6⟩
  · intro p e s m args below meth c s₁ B hml hP _
    obtain ⟨rfl, hW, hS⟩ := hP
    have hh0 : s₁.heap = s.heap := by rw [B.state]; rfl
    have X₀ := Stand.of_body B
    have hts := atoms_spec (ws := ws_ mi.1 mi.2.1 mi.2.2.1 mi.2.2.2) B.pre
    obtain ⟨meth', c', h1, h2, -, -, -, -, h7, -⟩ := Cond.code_spec B.named (hts _ List.mem_cons_self)
    have e1 : meth' = meth := Option.some.inj (h1.symm.trans B.method)
    subst e1
    have e2 : c' = c := Option.some.inj (h2.symm.trans X₀.code)
    subst e2
    have hex : c'.exceptionTable.toList = [] := by
      have h0 : c'.exceptionTable.size = 0 := by simpa [Array.isEmpty] using h7
      exact List.eq_nil_of_length_eq_zero (by simpa using h0)
    have k := h E p e (rmX f σ.1) s m _ below meth' c' σ.1 s.heap [] _ ⟨B.exec, B.bytes, hml, findClass_of_methodNamed B.named, fun w h => hts w (List.mem_cons_of_mem _ h), B.returns, B.notSynchronized, (name_of_methodNamed B.named B.method).1, hS, hW.1, Nat.le_refl _, Nat.le_refl _, Nat.le_refl _, Nat.le_refl _, hW.2.1, fun _ => hex, B.named⟩ (Nat.le_refl _) hW va_S.rf (LR.entry E as hl)
    rw [Nat.sub_self, Nat.sub_self] at k
    rw [lg_entry_eq]
    obtain ⟨t, a1, o, b1, b2, b3⟩ := k s₁ hh0 X₀
    exact ⟨t, o, a1, b1, b2, b3⟩
section ENDS
variable {f pc : Nat} {mi : MI} {ls st : List AV} {σ : SG} {Q : Int → SG → Prop} {T : SG → Prop} {x : Int}
theorem a_iret (hd : decode mi.2.1 pc = .ok (.ireturn, 1)) (hr : mi.2.2.2 = some .int) (h : Q x σ) : A f mi pc ls [vI x] σ Q T := by
  intro E p e R s m args below meth c n0 H locs lC X hn hW hS hL T0 hT X0
  obtain ⟨hexec, hb, x3, x4, x5, hrr, hlocks, x8⟩ := X
  rw [hr] at hrr
  obtain ⟨fs, hret, hrun, hended, hWm, hframe⟩ := X0.leave (v := some (.int (Int32.ofInt x))) (fun h => by rw [hrr] at h; cases h)
  have hmeth' : T0.vm.method? m = some meth := X0.method'
  refine ⟨T0.setFrames fs, ?_, .returned (some (.int (Int32.ofInt x))), hrun, hended, σ, Or.inl ⟨x, by rw [hr]; rfl, h⟩, hn, (by show WH E σ T0.heap; rw [hT]; exact hW), hWm, locs, hframe, hS.2.2⟩
  show Steps p.tables e below (T0.setTop (F0 m pc lC [.int (Int32.ofInt x)])) _
  jvm_step X0.here [X0.here.top, hexec, hb, hd, hmeth', hrr, narrow]
  (try refine ⟨rfl, ?_⟩); (try refine ⟨rfl, ?_⟩)
  first | (intro acts; rw [hret _ acts rfl rfl rfl]) | rw [hret _ _ rfl rfl rfl]
  exact Steps.refl _
theorem a_zret (hd : decode mi.2.1 pc = .ok (.ireturn, 1)) (hr : mi.2.2.2 = some .boolean) (hx : x = 0 ∨ x = 1) (h : Q x σ) : A f mi pc ls [vI x] σ Q T := by
  intro E p e R s m args below meth c n0 H locs lC X hn hW hS hL T0 hT X0
  obtain ⟨hexec, hb, x3, x4, x5, hrr, hlocks, x8⟩ := X
  rw [hr] at hrr
  have hnn : narrow .boolean (.int (Int32.ofInt x)) = .int (Int32.ofInt x) := by rcases hx with rfl | rfl <;> decide
  obtain ⟨fs, hret, hrun, hended, hWm, hframe⟩ := X0.leave (v := some (.int (Int32.ofInt x))) (fun h => by rw [hrr] at h; cases h)
  have hmeth' : T0.vm.method? m = some meth := X0.method'
  refine ⟨T0.setFrames fs, ?_, .returned (some (.int (Int32.ofInt x))), hrun, hended, σ, Or.inl ⟨x, by rw [hr]; rfl, h⟩, hn, (by show WH E σ T0.heap; rw [hT]; exact hW), hWm, locs, hframe, hS.2.2⟩
  show Steps p.tables e below (T0.setTop (F0 m pc lC [.int (Int32.ofInt x)])) _
  jvm_step X0.here [X0.here.top, hexec, hb, hd, hmeth', hrr, hnn]
  (try refine ⟨rfl, ?_⟩); (try refine ⟨rfl, ?_⟩)
  first | (intro acts; rw [hret _ acts rfl rfl rfl]) | rw [hret _ _ rfl rfl rfl]
  exact Steps.refl _
theorem a_lret (hd : decode mi.2.1 pc = .ok (.lreturn, 1)) (hr : mi.2.2.2 = some .long) (h : Q x σ) : A f mi pc ls [vL x] σ Q T := by
  intro E p e R s m args below meth c n0 H locs lC X hn hW hS hL T0 hT X0
  obtain ⟨hexec, hb, x3, x4, x5, hrr, hlocks, x8⟩ := X
  rw [hr] at hrr
  obtain ⟨fs, hret, hrun, hended, hWm, hframe⟩ := X0.leave (v := some (.long (Int64.ofInt x))) (fun h => by rw [hrr] at h; cases h)
  have hmeth' : T0.vm.method? m = some meth := X0.method'
  refine ⟨T0.setFrames fs, ?_, .returned (some (.long (Int64.ofInt x))), hrun, hended, σ, Or.inl ⟨x, by rw [hr]; rfl, h⟩, hn, (by show WH E σ T0.heap; rw [hT]; exact hW), hWm, locs, hframe, hS.2.2⟩
  show Steps p.tables e below (T0.setTop (F0 m pc lC [.long (Int64.ofInt x)])) _
  jvm_step X0.here [X0.here.top, hexec, hb, hd, hmeth', hrr, narrow]
  (try refine ⟨rfl, ?_⟩); (try refine ⟨rfl, ?_⟩)
  first | (intro acts; rw [hret _ acts rfl rfl rfl]) | rw [hret _ _ rfl rfl rfl]
  exact Steps.refl _
theorem a_vret (hd : decode mi.2.1 pc = .ok (.return_, 1)) (hr : mi.2.2.2 = none) (h : Q 0 σ) : A f mi pc ls [] σ Q T := by
  intro E p e R s m args below meth c n0 H locs lC X hn hW hS hL T0 hT X0
  obtain ⟨hexec, hb, x3, x4, x5, hrr, hlocks, x8⟩ := X
  rw [hr] at hrr
  obtain ⟨fs, hret, hrun, hended, hWm, hframe⟩ := X0.leave (v := none) (fun _ => rfl)
  have hmeth' : T0.vm.method? m = some meth := X0.method'
  refine ⟨T0.setFrames fs, ?_, .returned none, hrun, hended, σ, Or.inl ⟨0, by rw [hr]; rfl, h⟩, hn, (by show WH E σ T0.heap; rw [hT]; exact hW), hWm, locs, hframe, hS.2.2⟩
  show Steps p.tables e below (T0.setTop (F0 m pc lC [])) _
  jvm_step X0.here [X0.here.top, hexec, hb, hd, hmeth', hrr]
  (try refine ⟨rfl, ?_⟩); (try refine ⟨rfl, ?_⟩)
  first | (intro acts; rw [hret _ acts rfl rfl rfl]) | rw [hret _ _ rfl rfl rfl]
  exact Steps.refl _
theorem a_athrow (hd : decode mi.2.1 pc = .ok (.athrow, 1)) (hnm : mi.1.name ≠ "reads") (h : T σ) : A f mi pc ls (vR (-4) :: st) σ Q T := by
  intro E p e R s m args below meth c n0 H locs lC X hn hW hS hL T0 hT X0
  obtain ⟨hexec, hb, x3, x4, x5, hrr, hlocks, x8, x9, x10, x11, x12, x13, x14, x15, hex⟩ := X
  have hex := hex.1 hnm
  obtain ⟨h1, h2, h3, h4, h5⟩ := X0.athrowLeaves hexec (g := F0 m pc lC (((vR (-4) :: st)).map (cv E))) rfl rfl rfl (by rw [hex]; intro x hx; cases hx) (a := eX E (-4)) (rest := st.map (cv E)) rfl (by rw [hb]; exact hd)
  exact ⟨_, h1, .threw (eX E (-4)), h2, h3, σ, Or.inr ⟨rfl, h⟩, hn, (by show WH E σ T0.heap; rw [hT]; exact hW), h4, locs, h5, hS.2.2⟩
end ENDS
