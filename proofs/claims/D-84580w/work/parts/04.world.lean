set_option maxRecDepth 100000
/-! THE WALKER's WORLD. Values are whole numbers (ints and longs lazily: what stands in the machine is the number modulo 2^32, 2^64), references are numbers of objects of layL from 1 on (0: null; below 0: what lies outside). -/
abbrev AV : Type := Int ⊕ (Int ⊕ (Int ⊕ Unit))
abbrev vI (x : Int) : AV := Sum.inl x
abbrev vL (x : Int) : AV := Sum.inr (Sum.inl x)
abbrev vR (x : Int) : AV := Sum.inr (Sum.inr (Sum.inl x))
abbrev vU : AV := Sum.inr (Sum.inr (Sum.inr ()))
/-- how many objects are made; the references that stay; all else -/
abbrev SG : Type := Nat × MM × MM
def up (m : MM) (a i v : Int) : MM := fun b j => if b = a ∧ j = i then v else m b j
theorem up_at (m : MM) (a i v : Int) : up m a i v a i = v := by simp [up]
theorem up_ne {m : MM} {a i v b j : Int} (h : ¬ (b = a ∧ j = i)) : up m a i v b j = m b j := by simp [up, h]
theorem up_neA {m : MM} {a i v b : Int} (h : b ≠ a) : up m a i v b = m b := by funext j; simp [up, h]
theorem up_neI {m : MM} {a i v b j : Int} (h : j ≠ i) : up m a i v b j = m b j := by simp [up, h]
/-- what a launch gives: the launch, the state at the law's start, the script's address, the addresses of what lies outside; the classes' numbers and slots; the array classes' numbers -/
abbrev EV : Type := (Launch × State × Nat × (Int → Nat)) × va_G × (Nat → ClassId)
abbrev eL (E : EV) : Launch := E.1.1
abbrev eS (E : EV) : State := E.1.2.1
abbrev eB (E : EV) : Nat := E.1.2.2.1
abbrev eX (E : EV) : Int → Nat := E.1.2.2.2
abbrev eD (E : EV) : va_G := E.2.1
abbrev eA (E : EV) : Nat → ClassId := E.2.2
abbrev eZ (E : EV) : Nat := (eS E).heap.size
def adr (E : EV) (a : Int) : Nat := if 0 < a then eZ E + (a.toNat - 1) else eX E a
def cr (E : EV) (a : Int) : Value := if a = 0 then .null else .ref (adr E a)
def cv (E : EV) : AV → Value
  | .inl x => .int (Int32.ofInt x)
  | .inr (.inl x) => .long (Int64.ofInt x)
  | .inr (.inr (.inl a)) => cr E a
  | .inr (.inr (.inr _)) => .null
def isU : AV → Bool
  | .inr (.inr (.inr _)) => true
  | _ => false
def oref (E : EV) (a : Int) : Option Nat := if a = 0 then none else some (adr E a)
theorem va_rf_oref (E : EV) (a : Int) : va_rf (oref E a) = cr E a := by unfold oref cr; split <;> rfl
def fv (E : EV) (ra ma : Int → Int) (k j : Nat) : Value := match k with
  | 1 => .long (Int64.ofInt (ma j))
  | 6 => cr E (ra j)
  | 7 => cr E (ma j)
  | _ => .int (Int32.ofInt (ma j))
def flds (E : EV) (ra ma : Int → Int) : Nat → List Nat → List Value
  | _, [] => []
  | j, k :: ks => fv E ra ma k j :: flds E ra ma (j + 1) ks
theorem flds_get (E : EV) (ra ma : Int → Int) : ∀ (ks : List Nat) (j i k : Nat), ks[i]? = some k → (flds E ra ma j ks)[i]? = some (fv E ra ma k (j + i)) := by
  intro ks
  induction ks with
  | nil => intro j i k h; simp at h
  | cons a t ih =>
    intro j i k h
    cases i with
    | zero => simp at h; subst h; simp [flds]
    | succ i => simp at h; have := ih (j + 1) i k h; simp [flds]; rw [this]; congr 2; omega
theorem flds_len (E : EV) (ra ma : Int → Int) : ∀ (ks : List Nat) (j : Nat), (flds E ra ma j ks).length = ks.length := by
  intro ks
  induction ks with
  | nil => intro j; rfl
  | cons a t ih => intro j; simp [flds, ih]
def arC (E : EV) (ra ma : Int → Int) (k : Nat) : (Nat → Int32) ⊕ (Nat → Int64) ⊕ (Nat → UInt32) ⊕ (Nat → UInt64) ⊕ (Nat → Option Nat) := match k with
  | 1 => .inr (.inl (fun i => Int64.ofInt (ma i)))
  | 4 => .inr (.inr (.inr (.inr (fun i => oref E (ra i)))))
  | 5 => .inr (.inr (.inr (.inr (fun i => oref E (ra i)))))
  | _ => .inl (fun i => Int32.ofInt (ma i))
def ent (E : EV) (ra ma : Int → Int) (y : LY) : va_E := match y with
  | .inl q => .inl (eA E q.1, q.2, arC E ra ma q.1)
  | .inr c => .inr (c, flds E ra ma 0 (fks c))
/-- the heap holds what is made so far, and below it what was there -/
def WH (E : EV) (σ : SG) (H : Heap) : Prop := H.size = eZ E + σ.1 ∧ σ.1 ≤ NT ∧ (∀ q, q < eZ E → H[q]? = (eS E).heap[q]?) ∧ ∀ (k : Nat) (y : LY), k < σ.1 → layL[k]? = some y → va_at (eD E) vwCl (eZ E + k, ent E (σ.2.1 ((k : Int) + 1)) (σ.2.2 ((k : Int) + 1)) y) H
def tyL (E : EV) : List (ClassId × FieldType) := [(eA E 0, .int), (eA E 1, .long), (eA E 2, .byte), (eA E 3, .boolean), (eA E 4, .object "AlgebraHouse$Text"), (eA E 5, .object "AlgebraHouse$Code")]
abbrev tSt (E : EV) (t : Term) (v : Value) : Prop := t.eval #[.ref (eB E)] (eS E) none [] (eS E) = some v
def strL : List Nat := [72, 58, 16]
def strB : List (List Int32) := [[32, 105, 102, 32, 116, 104, 101, 110, 32, 101, 108, 115, 101, 32, 97, 110, 100, 32, 111, 114, 32, 110, 111, 116, 32, 113, 117, 111, 32, 114, 101, 109, 32, 102, 111, 114, 32, 114, 105, 110, 103, 32, 112, 108, 97, 105, 110, 32, 102, 105, 101, 108, 100, 32, 88, 32, 89, 32, 90, 32, 81, 32, 66, 32, 70, 32, 80, 32, 77, 32, 82, 32], [32, 103, 99, 100, 32, 100, 101, 103, 32, 99, 111, 101, 102, 32, 97, 116, 32, 100, 101, 114, 32, 100, 101, 116, 32, 116, 114, 32, 116, 112, 32, 97, 100, 106, 32, 105, 110, 118, 32, 99, 104, 97, 114, 32, 114, 111, 111, 116, 115, 32, 110, 117, 109, 32, 100, 101, 110, 32], [40, 41, 91, 93, 44, 58, 61, 35, 60, 43, 45, 42, 47, 94, 33, 37]]
abbrev eLo (E : EV) : Nat → Prop := fun q => eZ E ≤ q
/-- what lies outside: the three Strings, the bases' row, statics, the Fault -/
def OX (E : EV) : Prop := vk_S 3 strL strB (fun i => eX E (-1 - (i : Int))) (fun i => eX E (-11 - (i : Int))) (eLo E) (eS E) (eS E).heap ∧
  va_T .int (eX E (-5)) 4 (fun j => .int (if j = 0 then 0 else if j = 1 then 1 else if j = 2 then 20000 else 20001)) (eLo E) (eS E) (eS E).heap ∧
  va_Z "java/lang/String" "COMPACT_STRINGS" "Z" (.int 1) (eLo E) (eS E) (eS E).heap ∧
  (va_Z "jdk/internal/util/Preconditions" "SIOOBE_FORMATTER" "Ljava/util/function/BiFunction;" .null (eLo E) (eS E) (eS E).heap ∨ va_Z "jdk/internal/util/Preconditions" "SIOOBE_FORMATTER" "Ljava/util/function/BiFunction;" (.ref (eX E (-20))) (eLo E) (eS E) (eS E).heap) ∧
  va_O "AlgebraHouse$Fault" (eX E (-4)) (eLo E) (eS E) (eS E).heap
/-- what is known of the launch -/
def OKE (E : EV) : Prop := va_K (eD E) vwCl (tyL E) (eS E) ∧ (∀ w ∈ lw_tbl, w.before #[.ref (eB E)] (eS E) = true) ∧ (Jvm.Cond.and given_1 narrow_1).before #[.ref (eB E)] (eS E) = true ∧ eX E (-9) = eB E ∧ eB E < eZ E ∧
  tSt E (.static "AlgebraHouse$Parser" "WRONG" "LAlgebraHouse$Fault;") (.ref (eX E (-4))) ∧ tSt E (.static "AlgebraHouse$Judge" "BASES" "[I") (.ref (eX E (-5))) ∧
  tSt E (.string "AlgebraHouse$Tokens" 67) (.ref (eX E (-1))) ∧ tSt E (.string "AlgebraHouse$Tokens" 73) (.ref (eX E (-2))) ∧ tSt E (.string "AlgebraHouse$Tokens" 90) (.ref (eX E (-3))) ∧ OX E
/-- a state of the run -/
def SK (E : EV) (U : State) : Prop := OKE E ∧ (eS E).WarmedH U.vm ∧ ∀ q, q < eZ E → U.heap[q]? = (eS E).heap[q]?
theorem SK.moved {E : EV} {s U : State} (h : SK E s) (hW : s.WarmedH U.vm) (hq : ∀ q, q < eZ E → U.heap[q]? = (eS E).heap[q]?) : SK E U := ⟨h.1, State.WarmedH.trans h.2.1 hW, hq⟩
theorem SK.K {E : EV} {s : State} (h : SK E s) : va_K (eD E) vwCl (tyL E) s := va_K.moved h.2.1.alike h.1.1
theorem SK.NF {E : EV} {s : State} (h : SK E s) {a : String} {i : Nat} {b n d t : String} (hw : Cond.fieldLinkNest a i b n d t ∈ lw_tbl) {args : Array Value} : (Cond.fieldLinkNest a i b n d t).before args s = true := va_Nw.use rfl (va_Nw.warmF h.2.1 (va_Nw.of rfl (h.1.2.1 _ hw)))
theorem SK.NM {E : EV} {s : State} (h : SK E s) {a : String} {i : Nat} {y : MethodName} {t : String} (hw : Cond.methodLinkNest a i y t ∈ lw_tbl) {args : Array Value} : (Cond.methodLinkNest a i y t).before args s = true := va_Nw.use rfl (va_Nw.warmM h.2.1 (va_Nw.of rfl (h.1.2.1 _ hw)))
/-- a method: its name, code, locals, answer -/
abbrev MI : Type := MethodName × ByteArray × Nat × Option FieldType
def rv (E : EV) (r : Option FieldType) (x : Int) : Option Value := match r with
  | none => none
  | some .long => some (.long (Int64.ofInt x))
  | some (.object _) => some (cr E x)
  | some (.array _) => some (cr E x)
  | some _ => some (.int (Int32.ofInt x))
def rs (r : Option FieldType) (x : Int) : List AV := match r with
  | none => []
  | some .long => [vL x]
  | some (.object _) => [vR x]
  | some (.array _) => [vR x]
  | some _ => [vI x]
theorem rs_rv (E : EV) (r : Option FieldType) (x : Int) : (rs r x).map (cv E) = (rv E r x).toList := by
  cases r with
  | none => rfl
  | some t => cases t <;> rfl
/-- the locals -/
def LR (E : EV) (ls : List AV) (lC : Array Slot) : Prop := lC.size = ls.length ∧ lv_wf lC ∧ ∀ (i : Nat) (v : AV), ls[i]? = some v → isU v = false → lC[i]? = some (.val (cv E v))
def rmX (f n : Nat) : Room := { frames := f, cells := NT - n, slots := szN NT - szN n, locals := 64 * f }
/-- how a method ends: returned or thrown, with the world then; nothing below is changed -/
def EQ (E : EV) (mi : MI) (n0 : Nat) (s : State) (Q : Int → SG → Prop) (T : SG → Prop) (o : Outcome) (t : State) : Prop :=
  ∃ σ : SG, ((∃ x : Int, o = .returned (rv E mi.2.2.2 x) ∧ Q x σ) ∨ (o = .threw (eX E (-4)) ∧ T σ)) ∧ n0 ≤ σ.1 ∧ WH E σ t.heap ∧ s.WarmedH t.vm ∧
    ∃ L : List Loc, s.sameButNew ({ t with vm := s.vm } : State) L (σ.1 - n0) (szN σ.1 - szN n0) ∧ ∀ q ∈ L, eZ E ≤ q.base
def FQ (E : EV) (mi : MI) (n0 : Nat) (below : List Frame) (s : State) (Q : Int → SG → Prop) (T : SG → Prop) (t : State) : Prop :=
  ∃ o, t.status = .running ∧ Ended t below o ∧ EQ E mi n0 s Q T o t
/-- what holds all through a method's walk -/
def CX (E : EV) (f : Nat) (mi : MI) (n0 : Nat) (p : Program) (R : Room) (s : State) (m : MethodId) (args : Array Value) (meth : Method) (c : Code) : Prop :=
  p.tables.exec = Jvm.exec ∧ c.code = mi.2.1 ∧ c.maxLocals = mi.2.2.1 ∧ s.vm.findClass mi.1.cls = some m.cls ∧ (∀ w ∈ lw_all, w.before args s = true) ∧ meth.sig.returnType = mi.2.2.2 ∧ meth.locks = false ∧ meth.name = mi.1.name ∧
  SK E s ∧ s.heap.size = eZ E + n0 ∧ f ≤ R.frames ∧ 64 * f ≤ R.locals ∧ NT - n0 ≤ R.cells ∧ szN NT - szN n0 ≤ R.slots ∧ n0 ≤ NT ∧ (mi.1.name ≠ "reads" → c.exceptionTable.toList = []) ∧ s.methodNamed? mi.1 = some m
/-- THE JUDGEMENT: from pc with these locals, this stack, this world, the method comes to its end with Q or, thrown, with T -/
def A (f : Nat) (mi : MI) (pc : Nat) (ls st : List AV) (σ : SG) (Q : Int → SG → Prop) (T : SG → Prop) : Prop :=
  ∀ (E : EV) (p : Program) (e : Env) (R : Room) (s : State) (m : MethodId) (args : Array Value) (below : List Frame) (meth : Method) (c : Code) (n0 : Nat) (H : Heap) (locs : List Loc) (lC : Array Slot),
    CX E f mi n0 p R s m args meth c → n0 ≤ σ.1 → WH E σ H → va_S (fun q => eZ E ≤ q) s.heap H locs → LR E ls lC →
    W p (eL E) e R s m args below meth c H locs (σ.1 - n0) (szN σ.1 - szN n0) (FQ E mi n0 below s Q T) (F0 m pc lC (st.map (cv E)))
/-- THE CONTRACT: called with these values in this world the method ends with Q or T -/
def CT (f : Nat) (mi : MI) (as : List AV) (σ : SG) (Q : Int → SG → Prop) (T : SG → Prop) : Prop :=
  ∀ E : EV, MetFree (eL E) mi.1 (headSpec (ws_ mi.1 mi.2.1 mi.2.2.1 mi.2.2.2) (rmX f σ.1)) (fun a U => a = (as.map (cv E)).toArray ∧ WH E σ U.heap ∧ SK E U) (fun _ _ _ _ _ => True) (fun _ s o t => EQ E mi σ.1 s Q T o t)
theorem EQ.mono {E : EV} {mi : MI} {n0 : Nat} {s : State} {Q Q' : Int → SG → Prop} {T T' : SG → Prop} {o : Outcome} {t : State} (h : EQ E mi n0 s Q T o t) (hQ : ∀ x σ, Q x σ → Q' x σ) (hT : ∀ σ, T σ → T' σ) : EQ E mi n0 s Q' T' o t := by
  obtain ⟨σ, h1, h2⟩ := h
  refine ⟨σ, ?_, h2⟩
  rcases h1 with ⟨x, h3, h4⟩ | ⟨h3, h4⟩
  · exact Or.inl ⟨x, h3, hQ _ _ h4⟩
  · exact Or.inr ⟨h3, hT _ h4⟩
theorem CT.mono {f : Nat} {mi : MI} {as : List AV} {σ : SG} {Q Q' : Int → SG → Prop} {T T' : SG → Prop} (h : CT f mi as σ Q T) (hQ : ∀ x σ, Q x σ → Q' x σ) (hT : ∀ σ, T σ → T' σ) : CT f mi as σ Q' T' := by
  intro E p e ha hc hk s m args below hf happ hP hK
  obtain ⟨n, o, h1, h2, h3, h4⟩ := h E p e ha hc hk s m args below hf happ hP hK
  exact ⟨n, o, h1, h2, h3, h4.mono hQ hT⟩
theorem A.room {f f' : Nat} {mi : MI} {pc : Nat} {ls st : List AV} {σ : SG} {Q : Int → SG → Prop} {T : SG → Prop} (h : A f mi pc ls st σ Q T) (hf : f ≤ f') : A f' mi pc ls st σ Q T := by
  intro E p e R s m args below meth c n0 H locs lC X
  obtain ⟨x1, x2, x3, x4, x5, x6, x7, x8, x9, x10, x11, x12, x13⟩ := X
  exact h E p e R s m args below meth c n0 H locs lC ⟨x1, x2, x3, x4, x5, x6, x7, x8, x9, x10, by omega, by omega, x13⟩
