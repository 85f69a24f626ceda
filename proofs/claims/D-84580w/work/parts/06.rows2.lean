set_option maxRecDepth 100000
/-! ROWS: constants, locals, stack, arithmetic, branches -/
abbrev RI (x : Int) : Prop := -2147483648 ≤ x ∧ x ≤ 2147483647
abbrev RL (x : Int) : Prop := -9223372036854775808 ≤ x ∧ x ≤ 9223372036854775807
def iAnd (x y : Int) : Int := (Int32.ofInt x &&& Int32.ofInt y).toInt
def iOr (x y : Int) : Int := (Int32.ofInt x ||| Int32.ofInt y).toInt
def iXor (x y : Int) : Int := (Int32.ofInt x ^^^ Int32.ofInt y).toInt
def iShl (x y : Int) : Int := (Int32.ofInt x <<< (Int32.ofInt y &&& 31)).toInt
def iShr (x y : Int) : Int := (Int32.ofInt x >>> (Int32.ofInt y &&& 31)).toInt
def lAnd (x y : Int) : Int := (Int64.ofInt x &&& Int64.ofInt y).toInt
def lOr (x y : Int) : Int := (Int64.ofInt x ||| Int64.ofInt y).toInt
def lShl (x y : Int) : Int := (Int64.ofInt x <<< ((Int32.ofInt y).toInt64 &&& 63)).toInt
def lShr (x y : Int) : Int := (Int64.ofInt x >>> ((Int32.ofInt y).toInt64 &&& 63)).toInt
def i2B (x : Int) : Int := (Int32.ofInt x).toInt8.toInt32.toInt
def i2C (x : Int) : Int := ((Int32.ofInt x).toUInt32 % 65536).toInt32.toInt
def lCmp (x y : Int) : Int := if x < y then -1 else if x = y then 0 else 1
theorem ri_t {x : Int} (h : RI x) : (Int32.ofInt x).toInt = x := Int32.toInt_ofInt_of_le (by omega) (by omega)
theorem rl_t {x : Int} (h : RL x) : (Int64.ofInt x).toInt = x := Int64.toInt_ofInt_of_le (by omega) (by omega)
theorem ri_eq {x y : Int} (hx : RI x) (hy : RI y) : Int32.ofInt x = Int32.ofInt y ↔ x = y := by rw [← Int32.toInt_inj, ri_t hx, ri_t hy]
theorem ri_lt {x y : Int} (hx : RI x) (hy : RI y) : Int32.ofInt x < Int32.ofInt y ↔ x < y := by rw [Int32.lt_iff_toInt_lt, ri_t hx, ri_t hy]
theorem ri_le {x y : Int} (hx : RI x) (hy : RI y) : Int32.ofInt x ≤ Int32.ofInt y ↔ x ≤ y := by rw [Int32.le_iff_toInt_le, ri_t hx, ri_t hy]
theorem rl_eq {x y : Int} (hx : RL x) (hy : RL y) : Int64.ofInt x = Int64.ofInt y ↔ x = y := by rw [← Int64.toInt_inj, rl_t hx, rl_t hy]
theorem rl_lt {x y : Int} (hx : RL x) (hy : RL y) : Int64.ofInt x < Int64.ofInt y ↔ x < y := by rw [Int64.lt_iff_toInt_lt, rl_t hx, rl_t hy]
theorem ri_div {x y : Int} (hx : RI x) (hy : RI y) : Int32.ofInt (x.tdiv y) = Int32.ofInt x / Int32.ofInt y := Int32.ofInt_tdiv hx.1 hx.2 hy.1 hy.2
theorem rl_div {x y : Int} (hx : RL x) (hy : RL y) : Int64.ofInt (x.tdiv y) = Int64.ofInt x / Int64.ofInt y := Int64.ofInt_tdiv hx.1 hx.2 hy.1 hy.2
theorem ri_mod {x y : Int} (hx : RI x) (hy : RI y) : Int32.ofInt (x.tmod y) = Int32.ofInt x - Int32.ofInt x / Int32.ofInt y * Int32.ofInt y := by
  rw [← ri_div hx hy, ← Int32.ofInt_mul, ← Int32.ofInt_sub, Int.tmod_def, Int.mul_comm]
theorem rl_mod {x y : Int} (hx : RL x) (hy : RL y) : Int64.ofInt (x.tmod y) = Int64.ofInt x - Int64.ofInt x / Int64.ofInt y * Int64.ofInt y := by
  rw [← rl_div hx hy, ← Int64.ofInt_mul, ← Int64.ofInt_sub, Int.tmod_def, Int.mul_comm]
theorem ri_i2l {x : Int} (hx : RI x) : (Int32.ofInt x).toInt64 = Int64.ofInt x := Int32.toInt64_ofInt hx.1 hx.2
theorem ri_l2i (x : Int) : (Int64.ofInt x).toInt32 = Int32.ofInt x := Int64.toInt32_ofInt
theorem lg_cmp_of {x y : Int} (hx : RL x) (hy : RL y) : lg_cmp (Int64.ofInt x) (Int64.ofInt y) = Int32.ofInt (lCmp x y) := by
  unfold lg_cmp lCmp
  simp only [rl_lt hx hy, rl_eq hx hy, rl_lt hy hx]
  by_cases h1 : x < y
  · have h2 : ¬ y < x := by omega
    have h3 : ¬ x = y := by omega
    simp [h1, h2, h3]
  · by_cases h3 : x = y
    · subst h3; simp
    · have h2 : y < x := by omega
      simp [h1, h2, h3]
section ROWS
variable {f pc : Nat} {mi : MI} {ls ls' st : List AV} {σ : SG} {Q : Int → SG → Prop} {T : SG → Prop} {x y z : Int}
theorem a_iconst {n : Int} (hd : decode mi.2.1 pc = .ok (.iconst n, 1)) (k : A f mi (pc + 1) ls (vI n :: st) σ Q T) : A f mi pc ls (st) σ Q T := by
  intro E p e R s m args below meth c n0 H locs lC X hn hW hS hL
  have k := k E p e R s m args below meth c n0 H locs lC X hn hW hS hL
  exact lv_iconst X.1 X.2.1 hd rfl k
theorem a_bipush {n : Int} (hd : decode mi.2.1 pc = .ok (.bipush n, 2)) (hv : (Int8.ofInt n).toInt32 = Int32.ofInt n) (k : A f mi (pc + 2) ls (vI n :: st) σ Q T) : A f mi pc ls (st) σ Q T := by
  intro E p e R s m args below meth c n0 H locs lC X hn hW hS hL
  have k := k E p e R s m args below meth c n0 H locs lC X hn hW hS hL
  exact lv_bipush X.1 X.2.1 hd hv k
theorem a_sipush {n : Int} (hd : decode mi.2.1 pc = .ok (.sipush n, 3)) (hv : (Int16.ofInt n).toInt32 = Int32.ofInt n) (k : A f mi (pc + 3) ls (vI n :: st) σ Q T) : A f mi pc ls (st) σ Q T := by
  intro E p e R s m args below meth c n0 H locs lC X hn hW hS hL
  have k := k E p e R s m args below meth c n0 H locs lC X hn hW hS hL
  exact lv_sipush X.1 X.2.1 hd hv k
theorem a_lconst {n : Fin 2} (z : Int) (hd : decode mi.2.1 pc = .ok (.lconst n, 1)) (hv : Int64.ofNat (n : Nat) = Int64.ofInt z) (k : A f mi (pc + 1) ls (vL z :: st) σ Q T) : A f mi pc ls (st) σ Q T := by
  intro E p e R s m args below meth c n0 H locs lC X hn hW hS hL
  have k := k E p e R s m args below meth c n0 H locs lC X hn hW hS hL
  exact lv_lconst X.1 X.2.1 hd hv k
theorem a_ldc {i : Nat} {v : Int32} (z : Int) (hd : decode mi.2.1 pc = .ok (.ldc i, 2)) (hq : Cond.constant mi.1.cls i v ∈ lw_all) (hv : v = Int32.ofInt z) (k : A f mi (pc + 2) ls (vI z :: st) σ Q T) : A f mi pc ls (st) σ Q T := by
  intro E p e R s m args below meth c n0 H locs lC X hn hW hS hL
  have k := k E p e R s m args below meth c n0 H locs lC X hn hW hS hL
  subst hv
  exact lv_ldc X.1 X.2.1 X.2.2.2.1 (X.2.2.2.2.1 _ hq) hd k
theorem a_ldcw {i : Nat} {v : Int32} (z : Int) (hd : decode mi.2.1 pc = .ok (.ldc_w i, 3)) (hq : Cond.constant mi.1.cls i v ∈ lw_all) (hv : v = Int32.ofInt z) (k : A f mi (pc + 3) ls (vI z :: st) σ Q T) : A f mi pc ls (st) σ Q T := by
  intro E p e R s m args below meth c n0 H locs lC X hn hW hS hL
  have k := k E p e R s m args below meth c n0 H locs lC X hn hW hS hL
  subst hv
  exact lv_ldcw X.1 X.2.1 X.2.2.2.1 (X.2.2.2.2.1 _ hq) hd k
theorem a_ldc2 {i : Nat} {v : Int64} (z : Int) (hd : decode mi.2.1 pc = .ok (.ldc2_w i, 3)) (hq : Cond.constantLong mi.1.cls i v ∈ lw_all) (hv : v = Int64.ofInt z) (k : A f mi (pc + 3) ls (vL z :: st) σ Q T) : A f mi pc ls (st) σ Q T := by
  intro E p e R s m args below meth c n0 H locs lC X hn hW hS hL
  have k := k E p e R s m args below meth c n0 H locs lC X hn hW hS hL
  subst hv
  exact lv_ldc2 X.1 X.2.1 X.2.2.2.1 (X.2.2.2.2.1 _ hq) hd k
theorem a_iload_n {n : Fin 4} (hd : decode mi.2.1 pc = .ok (.iload_n n, 1)) (hl : ls[(n : Nat)]? = some (vI x)) (k : A f mi (pc + 1) ls (vI x :: st) σ Q T) : A f mi pc ls (st) σ Q T := by
  intro E p e R s m args below meth c n0 H locs lC X hn hW hS hL
  have k := k E p e R s m args below meth c n0 H locs lC X hn hW hS hL
  exact lv_iload_n X.1 X.2.1 hd rfl (hL.2.2 _ _ hl rfl) k
theorem a_iload {n : Nat} (hd : decode mi.2.1 pc = .ok (.iload n, 2)) (hl : ls[n]? = some (vI x)) (k : A f mi (pc + 2) ls (vI x :: st) σ Q T) : A f mi pc ls (st) σ Q T := by
  intro E p e R s m args below meth c n0 H locs lC X hn hW hS hL
  have k := k E p e R s m args below meth c n0 H locs lC X hn hW hS hL
  exact lv_iload X.1 X.2.1 hd (hL.2.2 _ _ hl rfl) k
theorem a_lload_n {n : Fin 4} (hd : decode mi.2.1 pc = .ok (.lload_n n, 1)) (hl : ls[(n : Nat)]? = some (vL x)) (k : A f mi (pc + 1) ls (vL x :: st) σ Q T) : A f mi pc ls (st) σ Q T := by
  intro E p e R s m args below meth c n0 H locs lC X hn hW hS hL
  have k := k E p e R s m args below meth c n0 H locs lC X hn hW hS hL
  exact lv_lload_n X.1 X.2.1 hd rfl (hL.2.2 _ _ hl rfl) k
theorem a_lload {n : Nat} (hd : decode mi.2.1 pc = .ok (.lload n, 2)) (hl : ls[n]? = some (vL x)) (k : A f mi (pc + 2) ls (vL x :: st) σ Q T) : A f mi pc ls (st) σ Q T := by
  intro E p e R s m args below meth c n0 H locs lC X hn hW hS hL
  have k := k E p e R s m args below meth c n0 H locs lC X hn hW hS hL
  exact lv_lload X.1 X.2.1 hd (hL.2.2 _ _ hl rfl) k
theorem a_aload_n {n : Fin 4} (hd : decode mi.2.1 pc = .ok (.aload_n n, 1)) (hl : ls[(n : Nat)]? = some (vR x)) (k : A f mi (pc + 1) ls (vR x :: st) σ Q T) : A f mi pc ls (st) σ Q T := by
  intro E p e R s m args below meth c n0 H locs lC X hn hW hS hL
  have k := k E p e R s m args below meth c n0 H locs lC X hn hW hS hL
  have g := hL.2.2 _ _ hl rfl
  by_cases h0 : x = 0
  · subst h0
    exact lv_aload_nN X.1 X.2.1 hd rfl g k
  · have e1 : cv E (vR x) = .ref (adr E x) := by simp [cv, cr, h0]
    rw [e1] at g
    have k : W p (eL E) e R s m args below meth c H locs (σ.1 - n0) (szN σ.1 - szN n0) (FQ E mi n0 below s Q T) (F0 m (pc + 1) lC (cv E (vR x) :: st.map (cv E))) := k
    rw [e1] at k
    exact lv_aload_n X.1 X.2.1 hd rfl g k
theorem a_aload {n : Nat} (hd : decode mi.2.1 pc = .ok (.aload n, 2)) (hl : ls[n]? = some (vR x)) (k : A f mi (pc + 2) ls (vR x :: st) σ Q T) : A f mi pc ls (st) σ Q T := by
  intro E p e R s m args below meth c n0 H locs lC X hn hW hS hL
  have k := k E p e R s m args below meth c n0 H locs lC X hn hW hS hL
  have g := hL.2.2 _ _ hl rfl
  by_cases h0 : x = 0
  · subst h0
    exact lv_aloadN X.1 X.2.1 hd g k
  · have e1 : cv E (vR x) = .ref (adr E x) := by simp [cv, cr, h0]
    rw [e1] at g
    have k : W p (eL E) e R s m args below meth c H locs (σ.1 - n0) (szN σ.1 - szN n0) (FQ E mi n0 below s Q T) (F0 m (pc + 2) lC (cv E (vR x) :: st.map (cv E))) := k
    rw [e1] at k
    exact lv_aload X.1 X.2.1 hd g k
theorem a_istore_n {n : Fin 4} (hd : decode mi.2.1 pc = .ok (.istore_n n, 1)) (hi : (n : Nat) < ls.length) (hs : stI ls (n : Nat) (vI x) = ls') (k : A f mi (pc + 1) ls' st σ Q T) : A f mi pc ls (vI x :: st) σ Q T := by
  intro E p e R s m args below meth c n0 H locs lC X hn hW hS hL
  subst hs
  obtain ⟨lC', e', h'⟩ := hL.store1 (v := vI x) hi rfl
  have e' : storeLocals lC (n : Nat) (.int (Int32.ofInt x)) = some lC' := e'
  have k := k E p e R s m args below meth c n0 H locs lC' X hn hW hS h'
  intro T0 hT X0
  obtain ⟨t, a, b⟩ := k T0 hT X0
  refine ⟨t, ?_, b⟩
  have hexec := X.1
  have hb := X.2.1
  show Steps p.tables e below (T0.setTop (F0 m pc lC (.int (Int32.ofInt x) :: st.map (cv E)))) t
  jvm_step X0.here [X0.here.top, ↓top_set X0.here.top, hexec, hb, hd, e']
  exact a
theorem a_istore {n : Nat} (hd : decode mi.2.1 pc = .ok (.istore n, 2)) (hi : n < ls.length) (hs : stI ls n (vI x) = ls') (k : A f mi (pc + 2) ls' st σ Q T) : A f mi pc ls (vI x :: st) σ Q T := by
  intro E p e R s m args below meth c n0 H locs lC X hn hW hS hL
  subst hs
  obtain ⟨lC', e', h'⟩ := hL.store1 (v := vI x) hi rfl
  have e' : storeLocals lC n (.int (Int32.ofInt x)) = some lC' := e'
  have k := k E p e R s m args below meth c n0 H locs lC' X hn hW hS h'
  intro T0 hT X0
  obtain ⟨t, a, b⟩ := k T0 hT X0
  refine ⟨t, ?_, b⟩
  have hexec := X.1
  have hb := X.2.1
  show Steps p.tables e below (T0.setTop (F0 m pc lC (.int (Int32.ofInt x) :: st.map (cv E)))) t
  jvm_step X0.here [X0.here.top, ↓top_set X0.here.top, hexec, hb, hd, e']
  exact a
theorem a_lstore_n {n : Fin 4} (hd : decode mi.2.1 pc = .ok (.lstore_n n, 1)) (hi : (n : Nat) + 1 < ls.length) (hs : stL ls (n : Nat) x = ls') (k : A f mi (pc + 1) ls' st σ Q T) : A f mi pc ls (vL x :: st) σ Q T := by
  intro E p e R s m args below meth c n0 H locs lC X hn hW hS hL
  subst hs
  obtain ⟨lC', e', h'⟩ := hL.store2 (x := x) hi
  have k := k E p e R s m args below meth c n0 H locs lC' X hn hW hS h'
  intro T0 hT X0
  obtain ⟨t, a, b⟩ := k T0 hT X0
  refine ⟨t, ?_, b⟩
  have hexec := X.1
  have hb := X.2.1
  show Steps p.tables e below (T0.setTop (F0 m pc lC (.long (Int64.ofInt x) :: st.map (cv E)))) t
  jvm_step X0.here [X0.here.top, ↓top_set X0.here.top, hexec, hb, hd, e']
  exact a
theorem a_lstore {n : Nat} (hd : decode mi.2.1 pc = .ok (.lstore n, 2)) (hi : n + 1 < ls.length) (hs : stL ls n x = ls') (k : A f mi (pc + 2) ls' st σ Q T) : A f mi pc ls (vL x :: st) σ Q T := by
  intro E p e R s m args below meth c n0 H locs lC X hn hW hS hL
  subst hs
  obtain ⟨lC', e', h'⟩ := hL.store2 (x := x) hi
  have k := k E p e R s m args below meth c n0 H locs lC' X hn hW hS h'
  intro T0 hT X0
  obtain ⟨t, a, b⟩ := k T0 hT X0
  refine ⟨t, ?_, b⟩
  have hexec := X.1
  have hb := X.2.1
  show Steps p.tables e below (T0.setTop (F0 m pc lC (.long (Int64.ofInt x) :: st.map (cv E)))) t
  jvm_step X0.here [X0.here.top, ↓top_set X0.here.top, hexec, hb, hd, e']
  exact a
theorem a_astore_n {n : Fin 4} (hd : decode mi.2.1 pc = .ok (.astore_n n, 1)) (hi : (n : Nat) < ls.length) (hs : stI ls (n : Nat) (vR x) = ls') (k : A f mi (pc + 1) ls' st σ Q T) : A f mi pc ls (vR x :: st) σ Q T := by
  intro E p e R s m args below meth c n0 H locs lC X hn hW hS hL
  subst hs
  obtain ⟨lC', e', h'⟩ := hL.store1 (v := vR x) hi rfl
  have k := k E p e R s m args below meth c n0 H locs lC' X hn hW hS h'
  intro T0 hT X0
  obtain ⟨t, a, b⟩ := k T0 hT X0
  refine ⟨t, ?_, b⟩
  have hexec := X.1
  have hb := X.2.1
  have e' : storeLocals lC (n : Nat) (cr E x) = some lC' := e'
  show Steps p.tables e below (T0.setTop (F0 m pc lC (cr E x :: st.map (cv E)))) t
  by_cases h0 : x = 0
  · have e1 : cr E x = .null := by simp [cr, h0]
    rw [e1] at e' ⊢
    jvm_step X0.here [X0.here.top, ↓top_set X0.here.top, hexec, hb, hd, e']
    exact ⟨rfl, a⟩
  · have e1 : cr E x = .ref (adr E x) := by simp [cr, h0]
    rw [e1] at e' ⊢
    jvm_step X0.here [X0.here.top, ↓top_set X0.here.top, hexec, hb, hd, e']
    exact ⟨rfl, a⟩
theorem a_astore {n : Nat} (hd : decode mi.2.1 pc = .ok (.astore n, 2)) (hi : n < ls.length) (hs : stI ls n (vR x) = ls') (k : A f mi (pc + 2) ls' st σ Q T) : A f mi pc ls (vR x :: st) σ Q T := by
  intro E p e R s m args below meth c n0 H locs lC X hn hW hS hL
  subst hs
  obtain ⟨lC', e', h'⟩ := hL.store1 (v := vR x) hi rfl
  have k := k E p e R s m args below meth c n0 H locs lC' X hn hW hS h'
  intro T0 hT X0
  obtain ⟨t, a, b⟩ := k T0 hT X0
  refine ⟨t, ?_, b⟩
  have hexec := X.1
  have hb := X.2.1
  have e' : storeLocals lC n (cr E x) = some lC' := e'
  show Steps p.tables e below (T0.setTop (F0 m pc lC (cr E x :: st.map (cv E)))) t
  by_cases h0 : x = 0
  · have e1 : cr E x = .null := by simp [cr, h0]
    rw [e1] at e' ⊢
    jvm_step X0.here [X0.here.top, ↓top_set X0.here.top, hexec, hb, hd, e']
    exact ⟨rfl, a⟩
  · have e1 : cr E x = .ref (adr E x) := by simp [cr, h0]
    rw [e1] at e' ⊢
    jvm_step X0.here [X0.here.top, ↓top_set X0.here.top, hexec, hb, hd, e']
    exact ⟨rfl, a⟩
theorem a_iinc {i : Nat} {n : Int} (hd : decode mi.2.1 pc = .ok (.iinc i n, 3)) (hl : ls[i]? = some (vI x)) (hs : stI ls i (vI (x + n)) = ls') (k : A f mi (pc + 3) ls' st σ Q T) : A f mi pc ls st σ Q T := by
  intro E p e R s m args below meth c n0 H locs lC X hn hW hS hL
  subst hs
  have hi : i < ls.length := (List.getElem?_eq_some_iff.mp hl).1
  obtain ⟨lC', e', h'⟩ := hL.store1 (v := vI (x + n)) hi rfl
  have k := k E p e R s m args below meth c n0 H locs lC' X hn hW hS h'
  have g : lC[i]? = some (.val (.int (Int32.ofInt x))) := hL.2.2 _ _ hl rfl
  have e' : storeLocals lC i (.int (Int32.ofInt x + Int32.ofInt n)) = some lC' := by rw [← Int32.ofInt_add]; exact e'
  intro T0 hT X0
  obtain ⟨t, a, b⟩ := k T0 hT X0
  refine ⟨t, ?_, b⟩
  have hexec := X.1
  have hb := X.2.1
  show Steps p.tables e below (T0.setTop (F0 m pc lC (st.map (cv E)))) t
  jvm_step X0.here [X0.here.top, ↓top_set X0.here.top, hexec, hb, hd, g, e']
  exact a
theorem a_iadd (hd : decode mi.2.1 pc = .ok (.iadd, 1)) (k : A f mi (pc + 1) ls (vI (x + y) :: st) σ Q T) : A f mi pc ls (vI y :: vI x :: st) σ Q T := by
  intro E p e R s m args below meth c n0 H locs lC X hn hW hS hL
  have k := k E p e R s m args below meth c n0 H locs lC X hn hW hS hL
  refine lv_iadd X.1 X.2.1 hd ?_
  have e1 : Int32.ofInt x + Int32.ofInt y = Int32.ofInt (x + y) := (Int32.ofInt_add x y).symm
  rw [e1]
  exact k
theorem a_isub (hd : decode mi.2.1 pc = .ok (.isub, 1)) (k : A f mi (pc + 1) ls (vI (x - y) :: st) σ Q T) : A f mi pc ls (vI y :: vI x :: st) σ Q T := by
  intro E p e R s m args below meth c n0 H locs lC X hn hW hS hL
  have k := k E p e R s m args below meth c n0 H locs lC X hn hW hS hL
  refine lv_isub X.1 X.2.1 hd ?_
  have e1 : Int32.ofInt x - Int32.ofInt y = Int32.ofInt (x - y) := (Int32.ofInt_sub x y).symm
  rw [e1]
  exact k
theorem a_imul (hd : decode mi.2.1 pc = .ok (.imul, 1)) (k : A f mi (pc + 1) ls (vI (x * y) :: st) σ Q T) : A f mi pc ls (vI y :: vI x :: st) σ Q T := by
  intro E p e R s m args below meth c n0 H locs lC X hn hW hS hL
  have k := k E p e R s m args below meth c n0 H locs lC X hn hW hS hL
  refine lv_imul X.1 X.2.1 hd ?_
  have e1 : Int32.ofInt x * Int32.ofInt y = Int32.ofInt (x * y) := (Int32.ofInt_mul x y).symm
  rw [e1]
  exact k
theorem a_ladd (hd : decode mi.2.1 pc = .ok (.ladd, 1)) (k : A f mi (pc + 1) ls (vL (x + y) :: st) σ Q T) : A f mi pc ls (vL y :: vL x :: st) σ Q T := by
  intro E p e R s m args below meth c n0 H locs lC X hn hW hS hL
  have k := k E p e R s m args below meth c n0 H locs lC X hn hW hS hL
  refine lv_ladd X.1 X.2.1 hd ?_
  have e1 : Int64.ofInt x + Int64.ofInt y = Int64.ofInt (x + y) := (Int64.ofInt_add x y).symm
  rw [e1]
  exact k
theorem a_lsub (hd : decode mi.2.1 pc = .ok (.lsub, 1)) (k : A f mi (pc + 1) ls (vL (x - y) :: st) σ Q T) : A f mi pc ls (vL y :: vL x :: st) σ Q T := by
  intro E p e R s m args below meth c n0 H locs lC X hn hW hS hL
  have k := k E p e R s m args below meth c n0 H locs lC X hn hW hS hL
  refine lv_lsub X.1 X.2.1 hd ?_
  have e1 : Int64.ofInt x - Int64.ofInt y = Int64.ofInt (x - y) := (Int64.ofInt_sub x y).symm
  rw [e1]
  exact k
theorem a_lmul (hd : decode mi.2.1 pc = .ok (.lmul, 1)) (k : A f mi (pc + 1) ls (vL (x * y) :: st) σ Q T) : A f mi pc ls (vL y :: vL x :: st) σ Q T := by
  intro E p e R s m args below meth c n0 H locs lC X hn hW hS hL
  have k := k E p e R s m args below meth c n0 H locs lC X hn hW hS hL
  refine lv_lmul X.1 X.2.1 hd ?_
  have e1 : Int64.ofInt x * Int64.ofInt y = Int64.ofInt (x * y) := (Int64.ofInt_mul x y).symm
  rw [e1]
  exact k
theorem a_iand (hd : decode mi.2.1 pc = .ok (.iand, 1)) (k : A f mi (pc + 1) ls (vI (iAnd x y) :: st) σ Q T) : A f mi pc ls (vI y :: vI x :: st) σ Q T := by
  intro E p e R s m args below meth c n0 H locs lC X hn hW hS hL
  have k := k E p e R s m args below meth c n0 H locs lC X hn hW hS hL
  refine lv_iand X.1 X.2.1 hd ?_
  have e1 : Int32.ofInt x &&& Int32.ofInt y = Int32.ofInt (iAnd x y) := (Int32.ofInt_toInt _).symm
  rw [e1]
  exact k
theorem a_ior (hd : decode mi.2.1 pc = .ok (.ior, 1)) (k : A f mi (pc + 1) ls (vI (iOr x y) :: st) σ Q T) : A f mi pc ls (vI y :: vI x :: st) σ Q T := by
  intro E p e R s m args below meth c n0 H locs lC X hn hW hS hL
  have k := k E p e R s m args below meth c n0 H locs lC X hn hW hS hL
  refine lv_ior X.1 X.2.1 hd ?_
  have e1 : Int32.ofInt x ||| Int32.ofInt y = Int32.ofInt (iOr x y) := (Int32.ofInt_toInt _).symm
  rw [e1]
  exact k
theorem a_ixor (hd : decode mi.2.1 pc = .ok (.ixor, 1)) (k : A f mi (pc + 1) ls (vI (iXor x y) :: st) σ Q T) : A f mi pc ls (vI y :: vI x :: st) σ Q T := by
  intro E p e R s m args below meth c n0 H locs lC X hn hW hS hL
  have k := k E p e R s m args below meth c n0 H locs lC X hn hW hS hL
  refine lv_ixor X.1 X.2.1 hd ?_
  have e1 : Int32.ofInt x ^^^ Int32.ofInt y = Int32.ofInt (iXor x y) := (Int32.ofInt_toInt _).symm
  rw [e1]
  exact k
theorem a_land (hd : decode mi.2.1 pc = .ok (.land, 1)) (k : A f mi (pc + 1) ls (vL (lAnd x y) :: st) σ Q T) : A f mi pc ls (vL y :: vL x :: st) σ Q T := by
  intro E p e R s m args below meth c n0 H locs lC X hn hW hS hL
  have k := k E p e R s m args below meth c n0 H locs lC X hn hW hS hL
  refine lv_land X.1 X.2.1 hd ?_
  have e1 : Int64.ofInt x &&& Int64.ofInt y = Int64.ofInt (lAnd x y) := (Int64.ofInt_toInt _).symm
  rw [e1]
  exact k
theorem a_lor (hd : decode mi.2.1 pc = .ok (.lor, 1)) (k : A f mi (pc + 1) ls (vL (lOr x y) :: st) σ Q T) : A f mi pc ls (vL y :: vL x :: st) σ Q T := by
  intro E p e R s m args below meth c n0 H locs lC X hn hW hS hL
  have k := k E p e R s m args below meth c n0 H locs lC X hn hW hS hL
  refine lv_lor X.1 X.2.1 hd ?_
  have e1 : Int64.ofInt x ||| Int64.ofInt y = Int64.ofInt (lOr x y) := (Int64.ofInt_toInt _).symm
  rw [e1]
  exact k
theorem a_ishl (hd : decode mi.2.1 pc = .ok (.ishl, 1)) (k : A f mi (pc + 1) ls (vI (iShl x y) :: st) σ Q T) : A f mi pc ls (vI y :: vI x :: st) σ Q T := by
  intro E p e R s m args below meth c n0 H locs lC X hn hW hS hL
  have k := k E p e R s m args below meth c n0 H locs lC X hn hW hS hL
  refine lv_ishl X.1 X.2.1 hd ?_
  have e1 : Int32.ofInt x <<< (Int32.ofInt y &&& 31) = Int32.ofInt (iShl x y) := (Int32.ofInt_toInt _).symm
  rw [e1]
  exact k
theorem a_ishr (hd : decode mi.2.1 pc = .ok (.ishr, 1)) (k : A f mi (pc + 1) ls (vI (iShr x y) :: st) σ Q T) : A f mi pc ls (vI y :: vI x :: st) σ Q T := by
  intro E p e R s m args below meth c n0 H locs lC X hn hW hS hL
  have k := k E p e R s m args below meth c n0 H locs lC X hn hW hS hL
  refine lv_ishr X.1 X.2.1 hd ?_
  have e1 : Int32.ofInt x >>> (Int32.ofInt y &&& 31) = Int32.ofInt (iShr x y) := (Int32.ofInt_toInt _).symm
  rw [e1]
  exact k
theorem a_idiv (hd : decode mi.2.1 pc = .ok (.idiv, 1)) (hx : RI x) (hy : RI y) (h0 : y ≠ 0) (k : A f mi (pc + 1) ls (vI (x.tdiv y) :: st) σ Q T) : A f mi pc ls (vI y :: vI x :: st) σ Q T := by
  intro E p e R s m args below meth c n0 H locs lC X hn hW hS hL
  have k := k E p e R s m args below meth c n0 H locs lC X hn hW hS hL
  have hz : ¬ Int32.ofInt y = 0 := fun h => h0 ((ri_eq hy (by decide)).mp h)
  refine lv_idiv X.1 X.2.1 hd hz ?_
  have e1 : Int32.ofInt x / Int32.ofInt y = Int32.ofInt (x.tdiv y) := (ri_div hx hy).symm
  rw [e1]
  exact k
theorem a_irem (hd : decode mi.2.1 pc = .ok (.irem, 1)) (hx : RI x) (hy : RI y) (h0 : y ≠ 0) (k : A f mi (pc + 1) ls (vI (x.tmod y) :: st) σ Q T) : A f mi pc ls (vI y :: vI x :: st) σ Q T := by
  intro E p e R s m args below meth c n0 H locs lC X hn hW hS hL
  have k := k E p e R s m args below meth c n0 H locs lC X hn hW hS hL
  have hz : ¬ Int32.ofInt y = 0 := fun h => h0 ((ri_eq hy (by decide)).mp h)
  refine lv_irem X.1 X.2.1 hd hz ?_
  have e1 : Int32.ofInt x - Int32.ofInt x / Int32.ofInt y * Int32.ofInt y = Int32.ofInt (x.tmod y) := (ri_mod hx hy).symm
  rw [e1]
  exact k
theorem a_ldiv (hd : decode mi.2.1 pc = .ok (.ldiv, 1)) (hx : RL x) (hy : RL y) (h0 : y ≠ 0) (k : A f mi (pc + 1) ls (vL (x.tdiv y) :: st) σ Q T) : A f mi pc ls (vL y :: vL x :: st) σ Q T := by
  intro E p e R s m args below meth c n0 H locs lC X hn hW hS hL
  have k := k E p e R s m args below meth c n0 H locs lC X hn hW hS hL
  have hz : ¬ Int64.ofInt y = 0 := fun h => h0 ((rl_eq hy (by decide)).mp h)
  refine lv_ldiv X.1 X.2.1 hd hz ?_
  have e1 : Int64.ofInt x / Int64.ofInt y = Int64.ofInt (x.tdiv y) := (rl_div hx hy).symm
  rw [e1]
  exact k
theorem a_lrem (hd : decode mi.2.1 pc = .ok (.lrem, 1)) (hx : RL x) (hy : RL y) (h0 : y ≠ 0) (k : A f mi (pc + 1) ls (vL (x.tmod y) :: st) σ Q T) : A f mi pc ls (vL y :: vL x :: st) σ Q T := by
  intro E p e R s m args below meth c n0 H locs lC X hn hW hS hL
  have k := k E p e R s m args below meth c n0 H locs lC X hn hW hS hL
  have hz : ¬ Int64.ofInt y = 0 := fun h => h0 ((rl_eq hy (by decide)).mp h)
  refine lv_lrem X.1 X.2.1 hd hz ?_
  have e1 : Int64.ofInt x - Int64.ofInt x / Int64.ofInt y * Int64.ofInt y = Int64.ofInt (x.tmod y) := (rl_mod hx hy).symm
  rw [e1]
  exact k
theorem a_ineg (hd : decode mi.2.1 pc = .ok (.ineg, 1)) (k : A f mi (pc + 1) ls (vI (-x) :: st) σ Q T) : A f mi pc ls (vI x :: st) σ Q T := by
  intro E p e R s m args below meth c n0 H locs lC X hn hW hS hL
  have k := k E p e R s m args below meth c n0 H locs lC X hn hW hS hL
  refine lv_ineg X.1 X.2.1 hd ?_
  have e1 : -Int32.ofInt x = Int32.ofInt (-x) := (Int32.ofInt_neg x).symm
  rw [e1]
  exact k
theorem a_lneg (hd : decode mi.2.1 pc = .ok (.lneg, 1)) (k : A f mi (pc + 1) ls (vL (-x) :: st) σ Q T) : A f mi pc ls (vL x :: st) σ Q T := by
  intro E p e R s m args below meth c n0 H locs lC X hn hW hS hL
  have k := k E p e R s m args below meth c n0 H locs lC X hn hW hS hL
  refine lv_lneg X.1 X.2.1 hd ?_
  have e1 : -Int64.ofInt x = Int64.ofInt (-x) := (Int64.ofInt_neg x).symm
  rw [e1]
  exact k
theorem a_i2l (hd : decode mi.2.1 pc = .ok (.i2l, 1)) (hx : RI x) (k : A f mi (pc + 1) ls (vL x :: st) σ Q T) : A f mi pc ls (vI x :: st) σ Q T := by
  intro E p e R s m args below meth c n0 H locs lC X hn hW hS hL
  have k := k E p e R s m args below meth c n0 H locs lC X hn hW hS hL
  exact lv_i2l X.1 X.2.1 hd (ri_i2l hx) k
theorem a_l2i (hd : decode mi.2.1 pc = .ok (.l2i, 1)) (k : A f mi (pc + 1) ls (vI x :: st) σ Q T) : A f mi pc ls (vL x :: st) σ Q T := by
  intro E p e R s m args below meth c n0 H locs lC X hn hW hS hL
  have k := k E p e R s m args below meth c n0 H locs lC X hn hW hS hL
  exact lv_l2i X.1 X.2.1 hd (ri_l2i x) k
theorem a_i2b (hd : decode mi.2.1 pc = .ok (.i2b, 1)) (k : A f mi (pc + 1) ls (vI (i2B x) :: st) σ Q T) : A f mi pc ls (vI x :: st) σ Q T := by
  intro E p e R s m args below meth c n0 H locs lC X hn hW hS hL
  have k := k E p e R s m args below meth c n0 H locs lC X hn hW hS hL
  exact lv_i2b X.1 X.2.1 hd (Int32.ofInt_toInt _).symm k
theorem a_i2c (hd : decode mi.2.1 pc = .ok (.i2c, 1)) (k : A f mi (pc + 1) ls (vI (i2C x) :: st) σ Q T) : A f mi pc ls (vI x :: st) σ Q T := by
  intro E p e R s m args below meth c n0 H locs lC X hn hW hS hL
  have k := k E p e R s m args below meth c n0 H locs lC X hn hW hS hL
  exact lv_i2c X.1 X.2.1 hd (Int32.ofInt_toInt _).symm k
theorem a_lshl (hd : decode mi.2.1 pc = .ok (.lshl, 1)) (k : A f mi (pc + 1) ls (vL (lShl x y) :: st) σ Q T) : A f mi pc ls (vI y :: vL x :: st) σ Q T := by
  intro E p e R s m args below meth c n0 H locs lC X hn hW hS hL
  have k := k E p e R s m args below meth c n0 H locs lC X hn hW hS hL
  exact lv_lshl X.1 X.2.1 hd (Int64.ofInt_toInt _).symm k
theorem a_lshr (hd : decode mi.2.1 pc = .ok (.lshr, 1)) (k : A f mi (pc + 1) ls (vL (lShr x y) :: st) σ Q T) : A f mi pc ls (vI y :: vL x :: st) σ Q T := by
  intro E p e R s m args below meth c n0 H locs lC X hn hW hS hL
  have k := k E p e R s m args below meth c n0 H locs lC X hn hW hS hL
  exact lv_lshr X.1 X.2.1 hd (Int64.ofInt_toInt _).symm k
theorem a_lcmp (hd : decode mi.2.1 pc = .ok (.lcmp, 1)) (hx : RL x) (hy : RL y) (k : A f mi (pc + 1) ls (vI (lCmp x y) :: st) σ Q T) : A f mi pc ls (vL y :: vL x :: st) σ Q T := by
  intro E p e R s m args below meth c n0 H locs lC X hn hW hS hL
  have k := k E p e R s m args below meth c n0 H locs lC X hn hW hS hL
  refine W.lcmp X.1 X.2.1 hd ?_
  have e1 := lg_cmp_of hx hy
  rw [e1]
  exact k
theorem a_dup {v : AV} (hd : decode mi.2.1 pc = .ok (.dup, 1)) (hv : isL v = false) (k : A f mi (pc + 1) ls (v :: v :: st) σ Q T) : A f mi pc ls (v :: st) σ Q T := by
  intro E p e R s m args below meth c n0 H locs lC X hn hW hS hL
  have k := k E p e R s m args below meth c n0 H locs lC X hn hW hS hL
  exact lv_dup X.1 X.2.1 hd (by rw [cat_cv, hv]; rfl) k
theorem a_pop {v : AV} (hd : decode mi.2.1 pc = .ok (.pop, 1)) (hv : isL v = false) (k : A f mi (pc + 1) ls (st) σ Q T) : A f mi pc ls (v :: st) σ Q T := by
  intro E p e R s m args below meth c n0 H locs lC X hn hW hS hL
  have k := k E p e R s m args below meth c n0 H locs lC X hn hW hS hL
  exact lv_pop X.1 X.2.1 hd (by rw [cat_cv, hv]; rfl) k
theorem a_dup2 {v w : AV} (hd : decode mi.2.1 pc = .ok (.dup2, 1)) (hv : isL v = false) (hw : isL w = false) (k : A f mi (pc + 1) ls (v :: w :: v :: w :: st) σ Q T) : A f mi pc ls (v :: w :: st) σ Q T := by
  intro E p e R s m args below meth c n0 H locs lC X hn hW hS hL
  have k := k E p e R s m args below meth c n0 H locs lC X hn hW hS hL
  exact lv_dup2_11 X.1 X.2.1 hd (by rw [cat_cv, hv]; rfl) (by rw [cat_cv, hw]; rfl) k
theorem a_icmp_eq {off : Int} (tgt : Nat) (hd : decode mi.2.1 pc = .ok (.if_icmp .eq off, 3)) (hx : RI x) (hy : RI y) (ht : (pc : Int) + off = (tgt : Int)) (kt : x = y → A f mi tgt ls st σ Q T) (kf : ¬ (x = y) → A f mi (pc + 3) ls st σ Q T) : A f mi pc ls (vI y :: vI x :: st) σ Q T := by
  intro E p e R s m args below meth c n0 H locs lC X hn hW hS hL
  refine lv_icmp_eq X.1 X.2.1 hd ht (fun hc => kt ?_ E p e R s m args below meth c n0 H locs lC X hn hW hS hL) (fun hc => kf ?_ E p e R s m args below meth c n0 H locs lC X hn hW hS hL)
  · exact (ri_eq hx hy).mp hc
  · exact fun h => hc ((ri_eq hx hy).mpr h)
theorem a_if_eq {off : Int} (tgt : Nat) (hd : decode mi.2.1 pc = .ok (.ifCond .eq off, 3)) (hx : RI x) (ht : (pc : Int) + off = (tgt : Int)) (kt : x = 0 → A f mi tgt ls st σ Q T) (kf : ¬ (x = 0) → A f mi (pc + 3) ls st σ Q T) : A f mi pc ls (vI x :: st) σ Q T := by
  intro E p e R s m args below meth c n0 H locs lC X hn hW hS hL
  refine lv_if_eq X.1 X.2.1 hd ht (fun hc => kt ?_ E p e R s m args below meth c n0 H locs lC X hn hW hS hL) (fun hc => kf ?_ E p e R s m args below meth c n0 H locs lC X hn hW hS hL)
  · exact (ri_eq hx (by decide : RI 0)).mp hc
  · exact fun h => hc ((ri_eq hx (by decide : RI 0)).mpr h)
theorem a_icmp_ne {off : Int} (tgt : Nat) (hd : decode mi.2.1 pc = .ok (.if_icmp .ne off, 3)) (hx : RI x) (hy : RI y) (ht : (pc : Int) + off = (tgt : Int)) (kt : ¬ x = y → A f mi tgt ls st σ Q T) (kf : ¬ (¬ x = y) → A f mi (pc + 3) ls st σ Q T) : A f mi pc ls (vI y :: vI x :: st) σ Q T := by
  intro E p e R s m args below meth c n0 H locs lC X hn hW hS hL
  refine lv_icmp_ne X.1 X.2.1 hd ht (fun hc => kt ?_ E p e R s m args below meth c n0 H locs lC X hn hW hS hL) (fun hc => kf ?_ E p e R s m args below meth c n0 H locs lC X hn hW hS hL)
  · exact fun h => hc ((ri_eq hx hy).mpr h)
  · exact fun h => h ((ri_eq hx hy).mp hc)
theorem a_if_ne {off : Int} (tgt : Nat) (hd : decode mi.2.1 pc = .ok (.ifCond .ne off, 3)) (hx : RI x) (ht : (pc : Int) + off = (tgt : Int)) (kt : ¬ x = 0 → A f mi tgt ls st σ Q T) (kf : ¬ (¬ x = 0) → A f mi (pc + 3) ls st σ Q T) : A f mi pc ls (vI x :: st) σ Q T := by
  intro E p e R s m args below meth c n0 H locs lC X hn hW hS hL
  refine lv_if_ne X.1 X.2.1 hd ht (fun hc => kt ?_ E p e R s m args below meth c n0 H locs lC X hn hW hS hL) (fun hc => kf ?_ E p e R s m args below meth c n0 H locs lC X hn hW hS hL)
  · exact fun h => hc ((ri_eq hx (by decide : RI 0)).mpr h)
  · exact fun h => h ((ri_eq hx (by decide : RI 0)).mp hc)
theorem a_icmp_lt {off : Int} (tgt : Nat) (hd : decode mi.2.1 pc = .ok (.if_icmp .lt off, 3)) (hx : RI x) (hy : RI y) (ht : (pc : Int) + off = (tgt : Int)) (kt : x < y → A f mi tgt ls st σ Q T) (kf : ¬ (x < y) → A f mi (pc + 3) ls st σ Q T) : A f mi pc ls (vI y :: vI x :: st) σ Q T := by
  intro E p e R s m args below meth c n0 H locs lC X hn hW hS hL
  refine lv_icmp_lt X.1 X.2.1 hd ht (fun hc => kt ?_ E p e R s m args below meth c n0 H locs lC X hn hW hS hL) (fun hc => kf ?_ E p e R s m args below meth c n0 H locs lC X hn hW hS hL)
  · exact (ri_lt hx hy).mp hc
  · exact fun h => hc ((ri_lt hx hy).mpr h)
theorem a_if_lt {off : Int} (tgt : Nat) (hd : decode mi.2.1 pc = .ok (.ifCond .lt off, 3)) (hx : RI x) (ht : (pc : Int) + off = (tgt : Int)) (kt : x < 0 → A f mi tgt ls st σ Q T) (kf : ¬ (x < 0) → A f mi (pc + 3) ls st σ Q T) : A f mi pc ls (vI x :: st) σ Q T := by
  intro E p e R s m args below meth c n0 H locs lC X hn hW hS hL
  refine lv_if_lt X.1 X.2.1 hd ht (fun hc => kt ?_ E p e R s m args below meth c n0 H locs lC X hn hW hS hL) (fun hc => kf ?_ E p e R s m args below meth c n0 H locs lC X hn hW hS hL)
  · exact (ri_lt hx (by decide : RI 0)).mp hc
  · exact fun h => hc ((ri_lt hx (by decide : RI 0)).mpr h)
theorem a_icmp_ge {off : Int} (tgt : Nat) (hd : decode mi.2.1 pc = .ok (.if_icmp .ge off, 3)) (hx : RI x) (hy : RI y) (ht : (pc : Int) + off = (tgt : Int)) (kt : y ≤ x → A f mi tgt ls st σ Q T) (kf : ¬ (y ≤ x) → A f mi (pc + 3) ls st σ Q T) : A f mi pc ls (vI y :: vI x :: st) σ Q T := by
  intro E p e R s m args below meth c n0 H locs lC X hn hW hS hL
  refine lv_icmp_ge X.1 X.2.1 hd ht (fun hc => kt ?_ E p e R s m args below meth c n0 H locs lC X hn hW hS hL) (fun hc => kf ?_ E p e R s m args below meth c n0 H locs lC X hn hW hS hL)
  · exact (ri_le hy hx).mp hc
  · exact fun h => hc ((ri_le hy hx).mpr h)
theorem a_if_ge {off : Int} (tgt : Nat) (hd : decode mi.2.1 pc = .ok (.ifCond .ge off, 3)) (hx : RI x) (ht : (pc : Int) + off = (tgt : Int)) (kt : 0 ≤ x → A f mi tgt ls st σ Q T) (kf : ¬ (0 ≤ x) → A f mi (pc + 3) ls st σ Q T) : A f mi pc ls (vI x :: st) σ Q T := by
  intro E p e R s m args below meth c n0 H locs lC X hn hW hS hL
  refine lv_if_ge X.1 X.2.1 hd ht (fun hc => kt ?_ E p e R s m args below meth c n0 H locs lC X hn hW hS hL) (fun hc => kf ?_ E p e R s m args below meth c n0 H locs lC X hn hW hS hL)
  · exact (ri_le (by decide : RI 0) hx).mp hc
  · exact fun h => hc ((ri_le (by decide : RI 0) hx).mpr h)
theorem a_icmp_gt {off : Int} (tgt : Nat) (hd : decode mi.2.1 pc = .ok (.if_icmp .gt off, 3)) (hx : RI x) (hy : RI y) (ht : (pc : Int) + off = (tgt : Int)) (kt : y < x → A f mi tgt ls st σ Q T) (kf : ¬ (y < x) → A f mi (pc + 3) ls st σ Q T) : A f mi pc ls (vI y :: vI x :: st) σ Q T := by
  intro E p e R s m args below meth c n0 H locs lC X hn hW hS hL
  refine lv_icmp_gt X.1 X.2.1 hd ht (fun hc => kt ?_ E p e R s m args below meth c n0 H locs lC X hn hW hS hL) (fun hc => kf ?_ E p e R s m args below meth c n0 H locs lC X hn hW hS hL)
  · exact (ri_lt hy hx).mp hc
  · exact fun h => hc ((ri_lt hy hx).mpr h)
theorem a_if_gt {off : Int} (tgt : Nat) (hd : decode mi.2.1 pc = .ok (.ifCond .gt off, 3)) (hx : RI x) (ht : (pc : Int) + off = (tgt : Int)) (kt : 0 < x → A f mi tgt ls st σ Q T) (kf : ¬ (0 < x) → A f mi (pc + 3) ls st σ Q T) : A f mi pc ls (vI x :: st) σ Q T := by
  intro E p e R s m args below meth c n0 H locs lC X hn hW hS hL
  refine lv_if_gt X.1 X.2.1 hd ht (fun hc => kt ?_ E p e R s m args below meth c n0 H locs lC X hn hW hS hL) (fun hc => kf ?_ E p e R s m args below meth c n0 H locs lC X hn hW hS hL)
  · exact (ri_lt (by decide : RI 0) hx).mp hc
  · exact fun h => hc ((ri_lt (by decide : RI 0) hx).mpr h)
theorem a_icmp_le {off : Int} (tgt : Nat) (hd : decode mi.2.1 pc = .ok (.if_icmp .le off, 3)) (hx : RI x) (hy : RI y) (ht : (pc : Int) + off = (tgt : Int)) (kt : x ≤ y → A f mi tgt ls st σ Q T) (kf : ¬ (x ≤ y) → A f mi (pc + 3) ls st σ Q T) : A f mi pc ls (vI y :: vI x :: st) σ Q T := by
  intro E p e R s m args below meth c n0 H locs lC X hn hW hS hL
  refine lv_icmp_le X.1 X.2.1 hd ht (fun hc => kt ?_ E p e R s m args below meth c n0 H locs lC X hn hW hS hL) (fun hc => kf ?_ E p e R s m args below meth c n0 H locs lC X hn hW hS hL)
  · exact (ri_le hx hy).mp hc
  · exact fun h => hc ((ri_le hx hy).mpr h)
theorem a_if_le {off : Int} (tgt : Nat) (hd : decode mi.2.1 pc = .ok (.ifCond .le off, 3)) (hx : RI x) (ht : (pc : Int) + off = (tgt : Int)) (kt : x ≤ 0 → A f mi tgt ls st σ Q T) (kf : ¬ (x ≤ 0) → A f mi (pc + 3) ls st σ Q T) : A f mi pc ls (vI x :: st) σ Q T := by
  intro E p e R s m args below meth c n0 H locs lC X hn hW hS hL
  refine lv_if_le X.1 X.2.1 hd ht (fun hc => kt ?_ E p e R s m args below meth c n0 H locs lC X hn hW hS hL) (fun hc => kf ?_ E p e R s m args below meth c n0 H locs lC X hn hW hS hL)
  · exact (ri_le hx (by decide : RI 0)).mp hc
  · exact fun h => hc ((ri_le hx (by decide : RI 0)).mpr h)
theorem a_goto {off : Int} (tgt : Nat) (hd : decode mi.2.1 pc = .ok (.goto off, 3)) (ht : (pc : Int) + off = (tgt : Int)) (k : A f mi tgt ls st σ Q T) : A f mi pc ls st σ Q T := by
  intro E p e R s m args below meth c n0 H locs lC X hn hW hS hL
  have k := k E p e R s m args below meth c n0 H locs lC X hn hW hS hL
  exact lv_goto X.1 X.2.1 hd ht k
theorem a_tswOut {d lo hi : Int} {offs : Array Int} {len : Nat} (tgt : Nat) (hd : decode mi.2.1 pc = .ok (.tableswitch d lo hi offs, len)) (hx : RI x) (h : x < lo ∨ hi < x) (ht : (pc : Int) + d = (tgt : Int)) (k : A f mi tgt ls st σ Q T) : A f mi pc ls (vI x :: st) σ Q T := by
  intro E p e R s m args below meth c n0 H locs lC X hn hW hS hL
  have k := k E p e R s m args below meth c n0 H locs lC X hn hW hS hL
  exact lv_tableOut X.1 X.2.1 hd (by rw [ri_t hx]; exact h) ht k
theorem a_tswIn {d lo hi : Int} {offs : Array Int} {len : Nat} {off : Int} (tgt : Nat) (hd : decode mi.2.1 pc = .ok (.tableswitch d lo hi offs, len)) (hx : RI x) (h1 : lo ≤ x) (h2 : x ≤ hi) (ho : offs[(x - lo).toNat]? = some off) (ht : (pc : Int) + off = (tgt : Int)) (k : A f mi tgt ls st σ Q T) : A f mi pc ls (vI x :: st) σ Q T := by
  intro E p e R s m args below meth c n0 H locs lC X hn hW hS hL
  have k := k E p e R s m args below meth c n0 H locs lC X hn hW hS hL
  exact lv_tableIn X.1 X.2.1 hd (by rw [ri_t hx]; omega) (by rw [ri_t hx]; omega) (by rw [ri_t hx]; exact ho) ht k
end ROWS
