set_option maxRecDepth 100000
/-! the judgement and the rows once all is made -/
theorem lCmp_ri (x y : Int) : RI (lCmp x y) := by
  unfold lCmp
  split
  · decide
  · split <;> decide
def q2 (Q : Int → MM → Prop) : Int → SG → Prop := fun x σ => σ.1 = NT ∧ σ.2.1 = GG ∧ Q x σ.2.2
def t2 (T : MM → Prop) : SG → Prop := fun σ => σ.1 = NT ∧ σ.2.1 = GG ∧ T σ.2.2
def B (f : Nat) (mi : MI) (pc : Nat) (ls st : List AV) (m : MM) (Q : Int → MM → Prop) (T : MM → Prop) : Prop := A f mi pc ls st (NT, GG, m) (q2 Q) (t2 T)
def CC (f : Nat) (mi : MI) (as : List AV) (m : MM) (Q : Int → MM → Prop) (T : MM → Prop) : Prop := CT f mi as (NT, GG, m) (q2 Q) (t2 T)
theorem CC.of {f : Nat} {mi : MI} {as : List AV} {m : MM} {Q : Int → MM → Prop} {T : MM → Prop} (hy : plainFor mi.1 = true) (hl : (exl as).length ≤ mi.2.2.1) {ls : List AV} (hs : enL as mi.2.2.1 = ls) (h : B f mi 0 ls [] m Q T) : CC f mi as m Q T := by
  subst hs
  exact CT.of hy hl h
theorem CC.mono {f : Nat} {mi : MI} {as : List AV} {m : MM} {Q Q' : Int → MM → Prop} {T T' : MM → Prop} (h : CC f mi as m Q T) (hQ : ∀ x m, Q x m → Q' x m) (hT : ∀ m, T m → T' m) : CC f mi as m Q' T' := CT.mono h (fun x σ h => ⟨h.1, h.2.1, hQ _ _ h.2.2⟩) (fun σ h => ⟨h.1, h.2.1, hT _ h.2.2⟩)
theorem B.room {f f' : Nat} {mi : MI} {pc : Nat} {ls st : List AV} {m : MM} {Q : Int → MM → Prop} {T : MM → Prop} (h : B f mi pc ls st m Q T) (hf : f ≤ f') : B f' mi pc ls st m Q T := A.room h hf
/-- a field as a class's constant says it: the j-th of class ci, of a kind -/
def FK (own : String) (idx ci : Nat) (j : Int) (kd : Nat) (fin : Bool) (ty : FieldType) : Prop := ∃ k : Nat, (k : Int) = j ∧ (fks ci)[k]? = some kd ∧ FR own idx ci k fin ty
theorem FK.of {own : String} {idx ci : Nat} {C : String} {F : u_T} {N : Nat} (k kd : Nat) {fin : Bool} {ty : FieldType} (h : FB ci C F N) (hk : k < N) (h1 : (F k).2.2.2 = fin) (h2 : parseFieldDescriptor (F k).2.2.1 = some ty) (h3 : (fks ci)[k]? = some kd) {j : Int} (hj : (k : Int) = j) (hl : Cond.fieldLink own idx (F k).1 (F k).2.1 (F k).2.2.1 ∈ lw_all) : FK own idx ci j kd fin ty := ⟨k, hj, h3, C, F, N, h, hk, h1, h2, Or.inl hl⟩
theorem FK.ofN {own : String} {idx ci : Nat} {C : String} {F : u_T} {N : Nat} (k kd : Nat) {fin : Bool} {ty : FieldType} {host : String} (h : FB ci C F N) (hk : k < N) (h1 : (F k).2.2.2 = fin) (h2 : parseFieldDescriptor (F k).2.2.1 = some ty) (h3 : (fks ci)[k]? = some kd) {j : Int} (hj : (k : Int) = j) (hl : Cond.fieldLinkNest own idx (F k).1 (F k).2.1 (F k).2.2.1 host ∈ lw_tbl) : FK own idx ci j kd fin ty := ⟨k, hj, h3, C, F, N, h, hk, h1, h2, Or.inr ⟨host, hl⟩⟩
section BROWS
variable {f f' pc : Nat} {mi mi' : MI} {ls ls' st as stk : List AV} {m : MM} {Q Q' : Int → MM → Prop} {T T' : MM → Prop} {x y z a i j : Int} {np : Nat}
theorem b_iconst {n : Int} (hd : decode mi.2.1 pc = .ok (.iconst n, 1)) (k : B f mi (pc + 1) ls (vI n :: st) m Q T) : B f mi pc ls (st) m Q T := a_iconst hd k
theorem b_bipush {n : Int} (hd : decode mi.2.1 pc = .ok (.bipush n, 2)) (hv : (Int8.ofInt n).toInt32 = Int32.ofInt n) (k : B f mi (pc + 2) ls (vI n :: st) m Q T) : B f mi pc ls (st) m Q T := a_bipush hd hv k
theorem b_sipush {n : Int} (hd : decode mi.2.1 pc = .ok (.sipush n, 3)) (hv : (Int16.ofInt n).toInt32 = Int32.ofInt n) (k : B f mi (pc + 3) ls (vI n :: st) m Q T) : B f mi pc ls (st) m Q T := a_sipush hd hv k
theorem b_lconst {n : Fin 2} (z : Int) (hd : decode mi.2.1 pc = .ok (.lconst n, 1)) (hv : Int64.ofNat (n : Nat) = Int64.ofInt z) (k : B f mi (pc + 1) ls (vL z :: st) m Q T) : B f mi pc ls (st) m Q T := a_lconst z hd hv k
theorem b_ldc {i : Nat} {v : Int32} (z : Int) (hd : decode mi.2.1 pc = .ok (.ldc i, 2)) (hq : Cond.constant mi.1.cls i v ∈ lw_all) (hv : v = Int32.ofInt z) (k : B f mi (pc + 2) ls (vI z :: st) m Q T) : B f mi pc ls (st) m Q T := a_ldc z hd hq hv k
theorem b_ldcw {i : Nat} {v : Int32} (z : Int) (hd : decode mi.2.1 pc = .ok (.ldc_w i, 3)) (hq : Cond.constant mi.1.cls i v ∈ lw_all) (hv : v = Int32.ofInt z) (k : B f mi (pc + 3) ls (vI z :: st) m Q T) : B f mi pc ls (st) m Q T := a_ldcw z hd hq hv k
theorem b_ldc2 {i : Nat} {v : Int64} (z : Int) (hd : decode mi.2.1 pc = .ok (.ldc2_w i, 3)) (hq : Cond.constantLong mi.1.cls i v ∈ lw_all) (hv : v = Int64.ofInt z) (k : B f mi (pc + 3) ls (vL z :: st) m Q T) : B f mi pc ls (st) m Q T := a_ldc2 z hd hq hv k
theorem b_iload_n {n : Fin 4} (hd : decode mi.2.1 pc = .ok (.iload_n n, 1)) (hl : ls[(n : Nat)]? = some (vI x)) (k : B f mi (pc + 1) ls (vI x :: st) m Q T) : B f mi pc ls (st) m Q T := a_iload_n hd hl k
theorem b_iload {n : Nat} (hd : decode mi.2.1 pc = .ok (.iload n, 2)) (hl : ls[n]? = some (vI x)) (k : B f mi (pc + 2) ls (vI x :: st) m Q T) : B f mi pc ls (st) m Q T := a_iload hd hl k
theorem b_lload_n {n : Fin 4} (hd : decode mi.2.1 pc = .ok (.lload_n n, 1)) (hl : ls[(n : Nat)]? = some (vL x)) (k : B f mi (pc + 1) ls (vL x :: st) m Q T) : B f mi pc ls (st) m Q T := a_lload_n hd hl k
theorem b_lload {n : Nat} (hd : decode mi.2.1 pc = .ok (.lload n, 2)) (hl : ls[n]? = some (vL x)) (k : B f mi (pc + 2) ls (vL x :: st) m Q T) : B f mi pc ls (st) m Q T := a_lload hd hl k
theorem b_aload_n {n : Fin 4} (hd : decode mi.2.1 pc = .ok (.aload_n n, 1)) (hl : ls[(n : Nat)]? = some (vR x)) (k : B f mi (pc + 1) ls (vR x :: st) m Q T) : B f mi pc ls (st) m Q T := a_aload_n hd hl k
theorem b_aload {n : Nat} (hd : decode mi.2.1 pc = .ok (.aload n, 2)) (hl : ls[n]? = some (vR x)) (k : B f mi (pc + 2) ls (vR x :: st) m Q T) : B f mi pc ls (st) m Q T := a_aload hd hl k
theorem b_istore_n {n : Fin 4} (hd : decode mi.2.1 pc = .ok (.istore_n n, 1)) (hi : (n : Nat) < ls.length) (hs : stI ls (n : Nat) (vI x) = ls') (k : B f mi (pc + 1) ls' st m Q T) : B f mi pc ls (vI x :: st) m Q T := a_istore_n hd hi hs k
theorem b_istore {n : Nat} (hd : decode mi.2.1 pc = .ok (.istore n, 2)) (hi : n < ls.length) (hs : stI ls n (vI x) = ls') (k : B f mi (pc + 2) ls' st m Q T) : B f mi pc ls (vI x :: st) m Q T := a_istore hd hi hs k
theorem b_lstore_n {n : Fin 4} (hd : decode mi.2.1 pc = .ok (.lstore_n n, 1)) (hi : (n : Nat) + 1 < ls.length) (hs : stL ls (n : Nat) x = ls') (k : B f mi (pc + 1) ls' st m Q T) : B f mi pc ls (vL x :: st) m Q T := a_lstore_n hd hi hs k
theorem b_lstore {n : Nat} (hd : decode mi.2.1 pc = .ok (.lstore n, 2)) (hi : n + 1 < ls.length) (hs : stL ls n x = ls') (k : B f mi (pc + 2) ls' st m Q T) : B f mi pc ls (vL x :: st) m Q T := a_lstore hd hi hs k
theorem b_astore_n {n : Fin 4} (hd : decode mi.2.1 pc = .ok (.astore_n n, 1)) (hi : (n : Nat) < ls.length) (hs : stI ls (n : Nat) (vR x) = ls') (k : B f mi (pc + 1) ls' st m Q T) : B f mi pc ls (vR x :: st) m Q T := a_astore_n hd hi hs k
theorem b_astore {n : Nat} (hd : decode mi.2.1 pc = .ok (.astore n, 2)) (hi : n < ls.length) (hs : stI ls n (vR x) = ls') (k : B f mi (pc + 2) ls' st m Q T) : B f mi pc ls (vR x :: st) m Q T := a_astore hd hi hs k
theorem b_iinc {i : Nat} {n : Int} (hd : decode mi.2.1 pc = .ok (.iinc i n, 3)) (hl : ls[i]? = some (vI x)) (hs : stI ls i (vI (x + n)) = ls') (k : B f mi (pc + 3) ls' st m Q T) : B f mi pc ls st m Q T := a_iinc hd hl hs k
theorem b_iadd (hd : decode mi.2.1 pc = .ok (.iadd, 1)) (k : B f mi (pc + 1) ls (vI (x + y) :: st) m Q T) : B f mi pc ls (vI y :: vI x :: st) m Q T := a_iadd hd k
theorem b_isub (hd : decode mi.2.1 pc = .ok (.isub, 1)) (k : B f mi (pc + 1) ls (vI (x - y) :: st) m Q T) : B f mi pc ls (vI y :: vI x :: st) m Q T := a_isub hd k
theorem b_imul (hd : decode mi.2.1 pc = .ok (.imul, 1)) (k : B f mi (pc + 1) ls (vI (x * y) :: st) m Q T) : B f mi pc ls (vI y :: vI x :: st) m Q T := a_imul hd k
theorem b_ladd (hd : decode mi.2.1 pc = .ok (.ladd, 1)) (k : B f mi (pc + 1) ls (vL (x + y) :: st) m Q T) : B f mi pc ls (vL y :: vL x :: st) m Q T := a_ladd hd k
theorem b_lsub (hd : decode mi.2.1 pc = .ok (.lsub, 1)) (k : B f mi (pc + 1) ls (vL (x - y) :: st) m Q T) : B f mi pc ls (vL y :: vL x :: st) m Q T := a_lsub hd k
theorem b_lmul (hd : decode mi.2.1 pc = .ok (.lmul, 1)) (k : B f mi (pc + 1) ls (vL (x * y) :: st) m Q T) : B f mi pc ls (vL y :: vL x :: st) m Q T := a_lmul hd k
theorem b_iand (hd : decode mi.2.1 pc = .ok (.iand, 1)) (k : B f mi (pc + 1) ls (vI (iAnd x y) :: st) m Q T) : B f mi pc ls (vI y :: vI x :: st) m Q T := a_iand hd k
theorem b_ior (hd : decode mi.2.1 pc = .ok (.ior, 1)) (k : B f mi (pc + 1) ls (vI (iOr x y) :: st) m Q T) : B f mi pc ls (vI y :: vI x :: st) m Q T := a_ior hd k
theorem b_ixor (hd : decode mi.2.1 pc = .ok (.ixor, 1)) (k : B f mi (pc + 1) ls (vI (iXor x y) :: st) m Q T) : B f mi pc ls (vI y :: vI x :: st) m Q T := a_ixor hd k
theorem b_land (hd : decode mi.2.1 pc = .ok (.land, 1)) (k : B f mi (pc + 1) ls (vL (lAnd x y) :: st) m Q T) : B f mi pc ls (vL y :: vL x :: st) m Q T := a_land hd k
theorem b_lor (hd : decode mi.2.1 pc = .ok (.lor, 1)) (k : B f mi (pc + 1) ls (vL (lOr x y) :: st) m Q T) : B f mi pc ls (vL y :: vL x :: st) m Q T := a_lor hd k
theorem b_ishl (hd : decode mi.2.1 pc = .ok (.ishl, 1)) (k : B f mi (pc + 1) ls (vI (iShl x y) :: st) m Q T) : B f mi pc ls (vI y :: vI x :: st) m Q T := a_ishl hd k
theorem b_ishr (hd : decode mi.2.1 pc = .ok (.ishr, 1)) (k : B f mi (pc + 1) ls (vI (iShr x y) :: st) m Q T) : B f mi pc ls (vI y :: vI x :: st) m Q T := a_ishr hd k
theorem b_idiv (hd : decode mi.2.1 pc = .ok (.idiv, 1)) (hx : RI x) (hy : RI y) (h0 : y ≠ 0) (k : B f mi (pc + 1) ls (vI (x.tdiv y) :: st) m Q T) : B f mi pc ls (vI y :: vI x :: st) m Q T := a_idiv hd hx hy h0 k
theorem b_irem (hd : decode mi.2.1 pc = .ok (.irem, 1)) (hx : RI x) (hy : RI y) (h0 : y ≠ 0) (k : B f mi (pc + 1) ls (vI (x.tmod y) :: st) m Q T) : B f mi pc ls (vI y :: vI x :: st) m Q T := a_irem hd hx hy h0 k
theorem b_ldiv (hd : decode mi.2.1 pc = .ok (.ldiv, 1)) (hx : RL x) (hy : RL y) (h0 : y ≠ 0) (k : B f mi (pc + 1) ls (vL (x.tdiv y) :: st) m Q T) : B f mi pc ls (vL y :: vL x :: st) m Q T := a_ldiv hd hx hy h0 k
theorem b_lrem (hd : decode mi.2.1 pc = .ok (.lrem, 1)) (hx : RL x) (hy : RL y) (h0 : y ≠ 0) (k : B f mi (pc + 1) ls (vL (x.tmod y) :: st) m Q T) : B f mi pc ls (vL y :: vL x :: st) m Q T := a_lrem hd hx hy h0 k
theorem b_ineg (hd : decode mi.2.1 pc = .ok (.ineg, 1)) (k : B f mi (pc + 1) ls (vI (-x) :: st) m Q T) : B f mi pc ls (vI x :: st) m Q T := a_ineg hd k
theorem b_lneg (hd : decode mi.2.1 pc = .ok (.lneg, 1)) (k : B f mi (pc + 1) ls (vL (-x) :: st) m Q T) : B f mi pc ls (vL x :: st) m Q T := a_lneg hd k
theorem b_i2l (hd : decode mi.2.1 pc = .ok (.i2l, 1)) (hx : RI x) (k : B f mi (pc + 1) ls (vL x :: st) m Q T) : B f mi pc ls (vI x :: st) m Q T := a_i2l hd hx k
theorem b_l2i (hd : decode mi.2.1 pc = .ok (.l2i, 1)) (k : B f mi (pc + 1) ls (vI x :: st) m Q T) : B f mi pc ls (vL x :: st) m Q T := a_l2i hd k
theorem b_i2b (hd : decode mi.2.1 pc = .ok (.i2b, 1)) (k : B f mi (pc + 1) ls (vI (i2B x) :: st) m Q T) : B f mi pc ls (vI x :: st) m Q T := a_i2b hd k
theorem b_i2c (hd : decode mi.2.1 pc = .ok (.i2c, 1)) (k : B f mi (pc + 1) ls (vI (i2C x) :: st) m Q T) : B f mi pc ls (vI x :: st) m Q T := a_i2c hd k
theorem b_lshl (hd : decode mi.2.1 pc = .ok (.lshl, 1)) (k : B f mi (pc + 1) ls (vL (lShl x y) :: st) m Q T) : B f mi pc ls (vI y :: vL x :: st) m Q T := a_lshl hd k
theorem b_lshr (hd : decode mi.2.1 pc = .ok (.lshr, 1)) (k : B f mi (pc + 1) ls (vL (lShr x y) :: st) m Q T) : B f mi pc ls (vI y :: vL x :: st) m Q T := a_lshr hd k
theorem b_lcmp (hd : decode mi.2.1 pc = .ok (.lcmp, 1)) (hx : RL x) (hy : RL y) (k : B f mi (pc + 1) ls (vI (lCmp x y) :: st) m Q T) : B f mi pc ls (vL y :: vL x :: st) m Q T := a_lcmp hd hx hy k
theorem b_dup {v : AV} (hd : decode mi.2.1 pc = .ok (.dup, 1)) (hv : isL v = false) (k : B f mi (pc + 1) ls (v :: v :: st) m Q T) : B f mi pc ls (v :: st) m Q T := a_dup hd hv k
theorem b_pop {v : AV} (hd : decode mi.2.1 pc = .ok (.pop, 1)) (hv : isL v = false) (k : B f mi (pc + 1) ls (st) m Q T) : B f mi pc ls (v :: st) m Q T := a_pop hd hv k
theorem b_dup2 {v w : AV} (hd : decode mi.2.1 pc = .ok (.dup2, 1)) (hv : isL v = false) (hw : isL w = false) (k : B f mi (pc + 1) ls (v :: w :: v :: w :: st) m Q T) : B f mi pc ls (v :: w :: st) m Q T := a_dup2 hd hv hw k
theorem b_icmp_eq {off : Int} (tgt : Nat) (hd : decode mi.2.1 pc = .ok (.if_icmp .eq off, 3)) (hx : RI x) (hy : RI y) (ht : (pc : Int) + off = (tgt : Int)) (kt : x = y → B f mi tgt ls st m Q T) (kf : ¬ (x = y) → B f mi (pc + 3) ls st m Q T) : B f mi pc ls (vI y :: vI x :: st) m Q T := a_icmp_eq tgt hd hx hy ht kt kf
theorem b_if_eq {off : Int} (tgt : Nat) (hd : decode mi.2.1 pc = .ok (.ifCond .eq off, 3)) (hx : RI x) (ht : (pc : Int) + off = (tgt : Int)) (kt : x = 0 → B f mi tgt ls st m Q T) (kf : ¬ (x = 0) → B f mi (pc + 3) ls st m Q T) : B f mi pc ls (vI x :: st) m Q T := a_if_eq tgt hd hx ht kt kf
theorem b_icmp_ne {off : Int} (tgt : Nat) (hd : decode mi.2.1 pc = .ok (.if_icmp .ne off, 3)) (hx : RI x) (hy : RI y) (ht : (pc : Int) + off = (tgt : Int)) (kt : ¬ x = y → B f mi tgt ls st m Q T) (kf : ¬ (¬ x = y) → B f mi (pc + 3) ls st m Q T) : B f mi pc ls (vI y :: vI x :: st) m Q T := a_icmp_ne tgt hd hx hy ht kt kf
theorem b_if_ne {off : Int} (tgt : Nat) (hd : decode mi.2.1 pc = .ok (.ifCond .ne off, 3)) (hx : RI x) (ht : (pc : Int) + off = (tgt : Int)) (kt : ¬ x = 0 → B f mi tgt ls st m Q T) (kf : ¬ (¬ x = 0) → B f mi (pc + 3) ls st m Q T) : B f mi pc ls (vI x :: st) m Q T := a_if_ne tgt hd hx ht kt kf
theorem b_icmp_lt {off : Int} (tgt : Nat) (hd : decode mi.2.1 pc = .ok (.if_icmp .lt off, 3)) (hx : RI x) (hy : RI y) (ht : (pc : Int) + off = (tgt : Int)) (kt : x < y → B f mi tgt ls st m Q T) (kf : ¬ (x < y) → B f mi (pc + 3) ls st m Q T) : B f mi pc ls (vI y :: vI x :: st) m Q T := a_icmp_lt tgt hd hx hy ht kt kf
theorem b_if_lt {off : Int} (tgt : Nat) (hd : decode mi.2.1 pc = .ok (.ifCond .lt off, 3)) (hx : RI x) (ht : (pc : Int) + off = (tgt : Int)) (kt : x < 0 → B f mi tgt ls st m Q T) (kf : ¬ (x < 0) → B f mi (pc + 3) ls st m Q T) : B f mi pc ls (vI x :: st) m Q T := a_if_lt tgt hd hx ht kt kf
theorem b_icmp_ge {off : Int} (tgt : Nat) (hd : decode mi.2.1 pc = .ok (.if_icmp .ge off, 3)) (hx : RI x) (hy : RI y) (ht : (pc : Int) + off = (tgt : Int)) (kt : y ≤ x → B f mi tgt ls st m Q T) (kf : ¬ (y ≤ x) → B f mi (pc + 3) ls st m Q T) : B f mi pc ls (vI y :: vI x :: st) m Q T := a_icmp_ge tgt hd hx hy ht kt kf
theorem b_if_ge {off : Int} (tgt : Nat) (hd : decode mi.2.1 pc = .ok (.ifCond .ge off, 3)) (hx : RI x) (ht : (pc : Int) + off = (tgt : Int)) (kt : 0 ≤ x → B f mi tgt ls st m Q T) (kf : ¬ (0 ≤ x) → B f mi (pc + 3) ls st m Q T) : B f mi pc ls (vI x :: st) m Q T := a_if_ge tgt hd hx ht kt kf
theorem b_icmp_gt {off : Int} (tgt : Nat) (hd : decode mi.2.1 pc = .ok (.if_icmp .gt off, 3)) (hx : RI x) (hy : RI y) (ht : (pc : Int) + off = (tgt : Int)) (kt : y < x → B f mi tgt ls st m Q T) (kf : ¬ (y < x) → B f mi (pc + 3) ls st m Q T) : B f mi pc ls (vI y :: vI x :: st) m Q T := a_icmp_gt tgt hd hx hy ht kt kf
theorem b_if_gt {off : Int} (tgt : Nat) (hd : decode mi.2.1 pc = .ok (.ifCond .gt off, 3)) (hx : RI x) (ht : (pc : Int) + off = (tgt : Int)) (kt : 0 < x → B f mi tgt ls st m Q T) (kf : ¬ (0 < x) → B f mi (pc + 3) ls st m Q T) : B f mi pc ls (vI x :: st) m Q T := a_if_gt tgt hd hx ht kt kf
theorem b_icmp_le {off : Int} (tgt : Nat) (hd : decode mi.2.1 pc = .ok (.if_icmp .le off, 3)) (hx : RI x) (hy : RI y) (ht : (pc : Int) + off = (tgt : Int)) (kt : x ≤ y → B f mi tgt ls st m Q T) (kf : ¬ (x ≤ y) → B f mi (pc + 3) ls st m Q T) : B f mi pc ls (vI y :: vI x :: st) m Q T := a_icmp_le tgt hd hx hy ht kt kf
theorem b_if_le {off : Int} (tgt : Nat) (hd : decode mi.2.1 pc = .ok (.ifCond .le off, 3)) (hx : RI x) (ht : (pc : Int) + off = (tgt : Int)) (kt : x ≤ 0 → B f mi tgt ls st m Q T) (kf : ¬ (x ≤ 0) → B f mi (pc + 3) ls st m Q T) : B f mi pc ls (vI x :: st) m Q T := a_if_le tgt hd hx ht kt kf
theorem b_goto {off : Int} (tgt : Nat) (hd : decode mi.2.1 pc = .ok (.goto off, 3)) (ht : (pc : Int) + off = (tgt : Int)) (k : B f mi tgt ls st m Q T) : B f mi pc ls st m Q T := a_goto tgt hd ht k
theorem b_tswOut {d lo hi : Int} {offs : Array Int} {len : Nat} (tgt : Nat) (hd : decode mi.2.1 pc = .ok (.tableswitch d lo hi offs, len)) (hx : RI x) (h : x < lo ∨ hi < x) (ht : (pc : Int) + d = (tgt : Int)) (k : B f mi tgt ls st m Q T) : B f mi pc ls (vI x :: st) m Q T := a_tswOut tgt hd hx h ht k
theorem b_tswIn {d lo hi : Int} {offs : Array Int} {len : Nat} {off : Int} (tgt : Nat) (hd : decode mi.2.1 pc = .ok (.tableswitch d lo hi offs, len)) (hx : RI x) (h1 : lo ≤ x) (h2 : x ≤ hi) (ho : offs[(x - lo).toNat]? = some off) (ht : (pc : Int) + off = (tgt : Int)) (k : B f mi tgt ls st m Q T) : B f mi pc ls (vI x :: st) m Q T := a_tswIn tgt hd hx h1 h2 ho ht k
theorem b_iret (hd : decode mi.2.1 pc = .ok (.ireturn, 1)) (hr : mi.2.2.2 = some .int) (h : Q x m) : B f mi pc ls [vI x] m Q T := a_iret hd hr ⟨rfl, rfl, h⟩
theorem b_zret (hd : decode mi.2.1 pc = .ok (.ireturn, 1)) (hr : mi.2.2.2 = some .boolean) (hx : x = 0 ∨ x = 1) (h : Q x m) : B f mi pc ls [vI x] m Q T := a_zret hd hr hx ⟨rfl, rfl, h⟩
theorem b_lret (hd : decode mi.2.1 pc = .ok (.lreturn, 1)) (hr : mi.2.2.2 = some .long) (h : Q x m) : B f mi pc ls [vL x] m Q T := a_lret hd hr ⟨rfl, rfl, h⟩
theorem b_vret (hd : decode mi.2.1 pc = .ok (.return_, 1)) (hr : mi.2.2.2 = none) (h : Q 0 m) : B f mi pc ls [] m Q T := a_vret hd hr ⟨rfl, rfl, h⟩
theorem b_athrow (hd : decode mi.2.1 pc = .ok (.athrow, 1)) (hnm : mi.1.name ≠ "reads") (h : T m) : B f mi pc ls (vR (-4) :: st) m Q T := a_athrow hd hnm ⟨rfl, rfl, h⟩
theorem b_getI {idx ci : Nat} {fin : Bool} {ty : FieldType} (hd : decode mi.2.1 pc = .ok (.getfield idx, 3)) (fk : FK mi.1.cls idx ci j 0 fin ty) (ha : lyA a = some (.inr ci)) (kk : B f mi (pc + 3) ls (vI (m a j) :: st) m Q T) : B f mi pc ls (vR a :: st) m Q T := by
  obtain ⟨k, rfl, hk, fr⟩ := fk
  exact a_getI hd fr (at2 ha) hk kk
theorem b_getZ {idx ci : Nat} {fin : Bool} {ty : FieldType} (hd : decode mi.2.1 pc = .ok (.getfield idx, 3)) (fk : FK mi.1.cls idx ci j 3 fin ty) (ha : lyA a = some (.inr ci)) (kk : B f mi (pc + 3) ls (vI (m a j) :: st) m Q T) : B f mi pc ls (vR a :: st) m Q T := by
  obtain ⟨k, rfl, hk, fr⟩ := fk
  exact a_getZ hd fr (at2 ha) hk kk
theorem b_getL {idx ci : Nat} {fin : Bool} {ty : FieldType} (hd : decode mi.2.1 pc = .ok (.getfield idx, 3)) (fk : FK mi.1.cls idx ci j 1 fin ty) (ha : lyA a = some (.inr ci)) (kk : B f mi (pc + 3) ls (vL (m a j) :: st) m Q T) : B f mi pc ls (vR a :: st) m Q T := by
  obtain ⟨k, rfl, hk, fr⟩ := fk
  exact a_getL hd fr (at2 ha) hk kk
theorem b_getM {idx ci : Nat} {fin : Bool} {ty : FieldType} (hd : decode mi.2.1 pc = .ok (.getfield idx, 3)) (fk : FK mi.1.cls idx ci j 7 fin ty) (ha : lyA a = some (.inr ci)) (kk : B f mi (pc + 3) ls (vR (m a j) :: st) m Q T) : B f mi pc ls (vR a :: st) m Q T := by
  obtain ⟨k, rfl, hk, fr⟩ := fk
  exact a_getM hd fr (at2 ha) hk kk
theorem b_getR {idx ci : Nat} {fin : Bool} {ty : FieldType} (hd : decode mi.2.1 pc = .ok (.getfield idx, 3)) (fk : FK mi.1.cls idx ci j 6 fin ty) (ha : lyA a = some (.inr ci)) (hr : GG a j = z) (kk : B f mi (pc + 3) ls (vR z :: st) m Q T) : B f mi pc ls (vR a :: st) m Q T := by
  obtain ⟨k, rfl, hk, fr⟩ := fk
  exact a_getR hd fr (at2 ha) hk hr kk
theorem b_putI {idx ci : Nat} (hd : decode mi.2.1 pc = .ok (.putfield idx, 3)) (fk : FK mi.1.cls idx ci j 0 false .int) (ha : lyA a = some (.inr ci)) (kk : ∀ m1 : MM, m1 = up m a j x → B f mi (pc + 3) ls st m1 Q T) : B f mi pc ls (vI x :: vR a :: st) m Q T := by
  obtain ⟨k, rfl, hk, fr⟩ := fk
  exact a_putI hd fr (at2 ha) hk (kk _ rfl)
theorem b_putZ {idx ci : Nat} (hd : decode mi.2.1 pc = .ok (.putfield idx, 3)) (fk : FK mi.1.cls idx ci j 3 false .boolean) (ha : lyA a = some (.inr ci)) (hx : x = 0 ∨ x = 1) (kk : ∀ m1 : MM, m1 = up m a j x → B f mi (pc + 3) ls st m1 Q T) : B f mi pc ls (vI x :: vR a :: st) m Q T := by
  obtain ⟨k, rfl, hk, fr⟩ := fk
  exact a_putZ hd fr (at2 ha) hk hx (kk _ rfl)
theorem b_putL {idx ci : Nat} (hd : decode mi.2.1 pc = .ok (.putfield idx, 3)) (fk : FK mi.1.cls idx ci j 1 false .long) (ha : lyA a = some (.inr ci)) (kk : ∀ m1 : MM, m1 = up m a j x → B f mi (pc + 3) ls st m1 Q T) : B f mi pc ls (vL x :: vR a :: st) m Q T := by
  obtain ⟨k, rfl, hk, fr⟩ := fk
  exact a_putL hd fr (at2 ha) hk (kk _ rfl)
theorem b_putM {idx ci : Nat} {ty : FieldType} (hd : decode mi.2.1 pc = .ok (.putfield idx, 3)) (fk : FK mi.1.cls idx ci j 7 false ty) (ht : (∃ c, ty = .object c) ∨ ∃ t, ty = .array t) (ha : lyA a = some (.inr ci)) (kk : ∀ m1 : MM, m1 = up m a j x → B f mi (pc + 3) ls st m1 Q T) : B f mi pc ls (vR x :: vR a :: st) m Q T := by
  obtain ⟨k, rfl, hk, fr⟩ := fk
  exact a_putM hd fr ht (at2 ha) hk (kk _ rfl)
theorem b_iald {l : Nat} (hd : decode mi.2.1 pc = .ok (.iaload, 1)) (ha : lyA a = some (.inl (0, l))) (hi : 0 ≤ i ∧ i < l) (kk : B f mi (pc + 1) ls (vI (m a i) :: st) m Q T) : B f mi pc ls (vI i :: vR a :: st) m Q T := a_iald hd (at2 ha) hi kk
theorem b_bald {l : Nat} (hd : decode mi.2.1 pc = .ok (.baload, 1)) (ha : lyA a = some (.inl (2, l))) (hi : 0 ≤ i ∧ i < l) (kk : B f mi (pc + 1) ls (vI (m a i) :: st) m Q T) : B f mi pc ls (vI i :: vR a :: st) m Q T := a_bald hd (at2 ha) hi kk
theorem b_zald {l : Nat} (hd : decode mi.2.1 pc = .ok (.baload, 1)) (ha : lyA a = some (.inl (3, l))) (hi : 0 ≤ i ∧ i < l) (kk : B f mi (pc + 1) ls (vI (m a i) :: st) m Q T) : B f mi pc ls (vI i :: vR a :: st) m Q T := a_zald hd (at2 ha) hi kk
theorem b_lald {l : Nat} (hd : decode mi.2.1 pc = .ok (.laload, 1)) (ha : lyA a = some (.inl (1, l))) (hi : 0 ≤ i ∧ i < l) (kk : B f mi (pc + 1) ls (vL (m a i) :: st) m Q T) : B f mi pc ls (vI i :: vR a :: st) m Q T := a_lald hd (at2 ha) hi kk
theorem b_aald {l kd : Nat} (hd : decode mi.2.1 pc = .ok (.aaload, 1)) (ha : lyA a = some (.inl (kd, l))) (hkd : kd = 4 ∨ kd = 5) (hi : 0 ≤ i ∧ i < l) (hz : GG a i = z) (kk : B f mi (pc + 1) ls (vR z :: st) m Q T) : B f mi pc ls (vI i :: vR a :: st) m Q T := a_aald hd (at2 ha) hkd hi hz kk
theorem b_iast {l : Nat} (hd : decode mi.2.1 pc = .ok (.iastore, 1)) (ha : lyA a = some (.inl (0, l))) (hi : 0 ≤ i ∧ i < l) (kk : ∀ m1 : MM, m1 = up m a i x → B f mi (pc + 1) ls st m1 Q T) : B f mi pc ls (vI x :: vI i :: vR a :: st) m Q T := a_iast hd (at2 ha) hi (kk _ rfl)
theorem b_bast {l : Nat} (hd : decode mi.2.1 pc = .ok (.bastore, 1)) (ha : lyA a = some (.inl (2, l))) (hi : 0 ≤ i ∧ i < l) (hx : -128 ≤ x ∧ x ≤ 127) (kk : ∀ m1 : MM, m1 = up m a i x → B f mi (pc + 1) ls st m1 Q T) : B f mi pc ls (vI x :: vI i :: vR a :: st) m Q T := a_bast hd (at2 ha) hi hx (kk _ rfl)
theorem b_zast {l : Nat} (hd : decode mi.2.1 pc = .ok (.bastore, 1)) (ha : lyA a = some (.inl (3, l))) (hi : 0 ≤ i ∧ i < l) (hx : x = 0 ∨ x = 1) (kk : ∀ m1 : MM, m1 = up m a i x → B f mi (pc + 1) ls st m1 Q T) : B f mi pc ls (vI x :: vI i :: vR a :: st) m Q T := a_zast hd (at2 ha) hi hx (kk _ rfl)
theorem b_last {l : Nat} (hd : decode mi.2.1 pc = .ok (.lastore, 1)) (ha : lyA a = some (.inl (1, l))) (hi : 0 ≤ i ∧ i < l) (kk : ∀ m1 : MM, m1 = up m a i x → B f mi (pc + 1) ls st m1 Q T) : B f mi pc ls (vL x :: vI i :: vR a :: st) m Q T := a_last hd (at2 ha) hi (kk _ rfl)
theorem b_gets {idx : Nat} {C nm d : String} (hd : decode mi.2.1 pc = .ok (.getstatic idx, 3)) (hz : z < 0) (hl : Cond.fieldLink mi.1.cls idx C nm d ∈ lw_all) (hs : Cond.laysStatic C nm d ∈ lw_tbl) (hini : Cond.initialized C ∈ lw_all) (hv : ∀ E : EV, OKE E → tSt E (.static C nm d) (.ref (eX E z))) (kk : B f mi (pc + 3) ls (vR z :: st) m Q T) : B f mi pc ls st m Q T := a_gets hd hz hl hs hini hv kk
theorem b_callV {idx ci : Nat} (hd : decode mi.2.1 pc = .ok (.invokevirtual idx, 3)) (mf : MF mi' false np) (hse : Cond.selects mi'.1.cls mi'.1 mi'.1 ∈ lw_all) (lk : LK mi.1.cls idx mi'.1) (ha : lyA a = some (.inr ci)) (hC : (vwCl[ci]?).map (fun q => q.1) = some mi'.1.cls) (hM : CC f' mi' (vR a :: as) m Q' T') (hf : f' + 1 ≤ f) (hn : as.length = np) (hs : as.reverse ++ vR a :: st = stk) (hst : st.length ≤ 10) (hnr : mi.1.name ≠ "reads") (hlen : ls.length = mi.2.2.1) (kQ : ∀ x m', Q' x m' → B f mi (pc + 3) ls (rs mi'.2.2.2 x ++ st) m' Q T) (kT : ∀ m', T' m' → T m') : B f mi pc ls stk m Q T := a_callV hd mf hse lk (at2 ha) hC hM hf hn hs hst hnr hlen (fun x σ h => by obtain ⟨n, r, m'⟩ := σ; obtain ⟨h1, h2, h3⟩ := h; cases h1; cases h2; exact kQ x m' h3) (fun σ h => by obtain ⟨n, r, m'⟩ := σ; obtain ⟨h1, h2, h3⟩ := h; exact ⟨h1, h2, kT m' h3⟩)
theorem b_callS {idx : Nat} (hd : decode mi.2.1 pc = .ok (.invokestatic idx, 3)) (mf : MF mi' true np) (lk : LK mi.1.cls idx mi'.1) (hM : CC f' mi' as m Q' T') (hf : f' + 1 ≤ f) (hn : as.length = np) (hs : as.reverse ++ st = stk) (hst : st.length ≤ 10) (hnr : mi.1.name ≠ "reads") (hlen : ls.length = mi.2.2.1) (kQ : ∀ x m', Q' x m' → B f mi (pc + 3) ls (rs mi'.2.2.2 x ++ st) m' Q T) (kT : ∀ m', T' m' → T m') : B f mi pc ls stk m Q T := a_callS hd mf lk hM hf hn hs hst hnr hlen (fun x σ h => by obtain ⟨n, r, m'⟩ := σ; obtain ⟨h1, h2, h3⟩ := h; cases h1; cases h2; exact kQ x m' h3) (fun σ h => by obtain ⟨n, r, m'⟩ := σ; obtain ⟨h1, h2, h3⟩ := h; exact ⟨h1, h2, kT m' h3⟩)
theorem b_cVi {idx ci : Nat} (hd : decode mi.2.1 pc = .ok (.invokevirtual idx, 3)) (mf : MF mi' false np) (hse : Cond.selects mi'.1.cls mi'.1 mi'.1 ∈ lw_all) (lk : LK mi.1.cls idx mi'.1) (ha : lyA a = some (.inr ci)) (hC : (vwCl[ci]?).map (fun q => q.1) = some mi'.1.cls) (hM : CC f' mi' (vR a :: as) m Q' T') (hf : f' + 1 ≤ f) (hn : as.length = np) (hs : as.reverse ++ vR a :: st = stk) (hst : st.length ≤ 10) (hnr : mi.1.name ≠ "reads") (hlen : ls.length = mi.2.2.1) (hr : ∀ x, rs mi'.2.2.2 x = [vI x]) (kQ : ∀ x m', Q' x m' → B f mi (pc + 3) ls (vI x :: st) m' Q T) (kT : ∀ m', T' m' → T m') : B f mi pc ls stk m Q T := b_callV hd mf hse lk ha hC hM hf hn hs hst hnr hlen (fun x m' h => by rw [hr]; exact kQ x m' h) kT
theorem b_cSi {idx : Nat} (hd : decode mi.2.1 pc = .ok (.invokestatic idx, 3)) (mf : MF mi' true np) (lk : LK mi.1.cls idx mi'.1) (hM : CC f' mi' as m Q' T') (hf : f' + 1 ≤ f) (hn : as.length = np) (hs : as.reverse ++ st = stk) (hst : st.length ≤ 10) (hnr : mi.1.name ≠ "reads") (hlen : ls.length = mi.2.2.1) (hr : ∀ x, rs mi'.2.2.2 x = [vI x]) (kQ : ∀ x m', Q' x m' → B f mi (pc + 3) ls (vI x :: st) m' Q T) (kT : ∀ m', T' m' → T m') : B f mi pc ls stk m Q T := b_callS hd mf lk hM hf hn hs hst hnr hlen (fun x m' h => by rw [hr]; exact kQ x m' h) kT
theorem b_cVl {idx ci : Nat} (hd : decode mi.2.1 pc = .ok (.invokevirtual idx, 3)) (mf : MF mi' false np) (hse : Cond.selects mi'.1.cls mi'.1 mi'.1 ∈ lw_all) (lk : LK mi.1.cls idx mi'.1) (ha : lyA a = some (.inr ci)) (hC : (vwCl[ci]?).map (fun q => q.1) = some mi'.1.cls) (hM : CC f' mi' (vR a :: as) m Q' T') (hf : f' + 1 ≤ f) (hn : as.length = np) (hs : as.reverse ++ vR a :: st = stk) (hst : st.length ≤ 10) (hnr : mi.1.name ≠ "reads") (hlen : ls.length = mi.2.2.1) (hr : ∀ x, rs mi'.2.2.2 x = [vL x]) (kQ : ∀ x m', Q' x m' → B f mi (pc + 3) ls (vL x :: st) m' Q T) (kT : ∀ m', T' m' → T m') : B f mi pc ls stk m Q T := b_callV hd mf hse lk ha hC hM hf hn hs hst hnr hlen (fun x m' h => by rw [hr]; exact kQ x m' h) kT
theorem b_cSl {idx : Nat} (hd : decode mi.2.1 pc = .ok (.invokestatic idx, 3)) (mf : MF mi' true np) (lk : LK mi.1.cls idx mi'.1) (hM : CC f' mi' as m Q' T') (hf : f' + 1 ≤ f) (hn : as.length = np) (hs : as.reverse ++ st = stk) (hst : st.length ≤ 10) (hnr : mi.1.name ≠ "reads") (hlen : ls.length = mi.2.2.1) (hr : ∀ x, rs mi'.2.2.2 x = [vL x]) (kQ : ∀ x m', Q' x m' → B f mi (pc + 3) ls (vL x :: st) m' Q T) (kT : ∀ m', T' m' → T m') : B f mi pc ls stk m Q T := b_callS hd mf lk hM hf hn hs hst hnr hlen (fun x m' h => by rw [hr]; exact kQ x m' h) kT
theorem b_cVv {idx ci : Nat} (hd : decode mi.2.1 pc = .ok (.invokevirtual idx, 3)) (mf : MF mi' false np) (hse : Cond.selects mi'.1.cls mi'.1 mi'.1 ∈ lw_all) (lk : LK mi.1.cls idx mi'.1) (ha : lyA a = some (.inr ci)) (hC : (vwCl[ci]?).map (fun q => q.1) = some mi'.1.cls) (hM : CC f' mi' (vR a :: as) m Q' T') (hf : f' + 1 ≤ f) (hn : as.length = np) (hs : as.reverse ++ vR a :: st = stk) (hst : st.length ≤ 10) (hnr : mi.1.name ≠ "reads") (hlen : ls.length = mi.2.2.1) (hr : ∀ x, rs mi'.2.2.2 x = []) (kQ : ∀ x m', Q' x m' → B f mi (pc + 3) ls (st) m' Q T) (kT : ∀ m', T' m' → T m') : B f mi pc ls stk m Q T := b_callV hd mf hse lk ha hC hM hf hn hs hst hnr hlen (fun x m' h => by rw [hr]; exact kQ x m' h) kT
theorem b_cSv {idx : Nat} (hd : decode mi.2.1 pc = .ok (.invokestatic idx, 3)) (mf : MF mi' true np) (lk : LK mi.1.cls idx mi'.1) (hM : CC f' mi' as m Q' T') (hf : f' + 1 ≤ f) (hn : as.length = np) (hs : as.reverse ++ st = stk) (hst : st.length ≤ 10) (hnr : mi.1.name ≠ "reads") (hlen : ls.length = mi.2.2.1) (hr : ∀ x, rs mi'.2.2.2 x = []) (kQ : ∀ x m', Q' x m' → B f mi (pc + 3) ls (st) m' Q T) (kT : ∀ m', T' m' → T m') : B f mi pc ls stk m Q T := b_callS hd mf lk hM hf hn hs hst hnr hlen (fun x m' h => by rw [hr]; exact kQ x m' h) kT
theorem b_lc_eq {off : Int} (tgt : Nat) (hd : decode mi.2.1 pc = .ok (.lcmp, 1)) (hd2 : decode mi.2.1 (pc + 1) = .ok (.ifCond .eq off, 3)) (hx : RL x) (hy : RL y) (ht : ((pc + 1 : Nat) : Int) + off = (tgt : Int)) (kt : x = y → B f mi tgt ls st m Q T) (kf : ¬ (x = y) → B f mi (pc + 4) ls st m Q T) : B f mi pc ls (vL y :: vL x :: st) m Q T := by
  refine b_lcmp hd hx hy (b_if_eq tgt hd2 (lCmp_ri x y) ht (fun c => kt ?_) (fun c => kf ?_))
  · unfold lCmp at c; revert c; split <;> (try split) <;> omega
  · unfold lCmp at c; revert c; split <;> (try split) <;> omega
theorem b_lc_ne {off : Int} (tgt : Nat) (hd : decode mi.2.1 pc = .ok (.lcmp, 1)) (hd2 : decode mi.2.1 (pc + 1) = .ok (.ifCond .ne off, 3)) (hx : RL x) (hy : RL y) (ht : ((pc + 1 : Nat) : Int) + off = (tgt : Int)) (kt : ¬ x = y → B f mi tgt ls st m Q T) (kf : ¬ (¬ x = y) → B f mi (pc + 4) ls st m Q T) : B f mi pc ls (vL y :: vL x :: st) m Q T := by
  refine b_lcmp hd hx hy (b_if_ne tgt hd2 (lCmp_ri x y) ht (fun c => kt ?_) (fun c => kf ?_))
  · unfold lCmp at c; revert c; split <;> (try split) <;> omega
  · unfold lCmp at c; revert c; split <;> (try split) <;> omega
theorem b_lc_lt {off : Int} (tgt : Nat) (hd : decode mi.2.1 pc = .ok (.lcmp, 1)) (hd2 : decode mi.2.1 (pc + 1) = .ok (.ifCond .lt off, 3)) (hx : RL x) (hy : RL y) (ht : ((pc + 1 : Nat) : Int) + off = (tgt : Int)) (kt : x < y → B f mi tgt ls st m Q T) (kf : ¬ (x < y) → B f mi (pc + 4) ls st m Q T) : B f mi pc ls (vL y :: vL x :: st) m Q T := by
  refine b_lcmp hd hx hy (b_if_lt tgt hd2 (lCmp_ri x y) ht (fun c => kt ?_) (fun c => kf ?_))
  · unfold lCmp at c; revert c; split <;> (try split) <;> omega
  · unfold lCmp at c; revert c; split <;> (try split) <;> omega
theorem b_lc_ge {off : Int} (tgt : Nat) (hd : decode mi.2.1 pc = .ok (.lcmp, 1)) (hd2 : decode mi.2.1 (pc + 1) = .ok (.ifCond .ge off, 3)) (hx : RL x) (hy : RL y) (ht : ((pc + 1 : Nat) : Int) + off = (tgt : Int)) (kt : y ≤ x → B f mi tgt ls st m Q T) (kf : ¬ (y ≤ x) → B f mi (pc + 4) ls st m Q T) : B f mi pc ls (vL y :: vL x :: st) m Q T := by
  refine b_lcmp hd hx hy (b_if_ge tgt hd2 (lCmp_ri x y) ht (fun c => kt ?_) (fun c => kf ?_))
  · unfold lCmp at c; revert c; split <;> (try split) <;> omega
  · unfold lCmp at c; revert c; split <;> (try split) <;> omega
theorem b_lc_gt {off : Int} (tgt : Nat) (hd : decode mi.2.1 pc = .ok (.lcmp, 1)) (hd2 : decode mi.2.1 (pc + 1) = .ok (.ifCond .gt off, 3)) (hx : RL x) (hy : RL y) (ht : ((pc + 1 : Nat) : Int) + off = (tgt : Int)) (kt : y < x → B f mi tgt ls st m Q T) (kf : ¬ (y < x) → B f mi (pc + 4) ls st m Q T) : B f mi pc ls (vL y :: vL x :: st) m Q T := by
  refine b_lcmp hd hx hy (b_if_gt tgt hd2 (lCmp_ri x y) ht (fun c => kt ?_) (fun c => kf ?_))
  · unfold lCmp at c; revert c; split <;> (try split) <;> omega
  · unfold lCmp at c; revert c; split <;> (try split) <;> omega
theorem b_lc_le {off : Int} (tgt : Nat) (hd : decode mi.2.1 pc = .ok (.lcmp, 1)) (hd2 : decode mi.2.1 (pc + 1) = .ok (.ifCond .le off, 3)) (hx : RL x) (hy : RL y) (ht : ((pc + 1 : Nat) : Int) + off = (tgt : Int)) (kt : x ≤ y → B f mi tgt ls st m Q T) (kf : ¬ (x ≤ y) → B f mi (pc + 4) ls st m Q T) : B f mi pc ls (vL y :: vL x :: st) m Q T := by
  refine b_lcmp hd hx hy (b_if_le tgt hd2 (lCmp_ri x y) ht (fun c => kt ?_) (fun c => kf ?_))
  · unfold lCmp at c; revert c; split <;> (try split) <;> omega
  · unfold lCmp at c; revert c; split <;> (try split) <;> omega
/-- locals that are no longer of use -/
def fgt (ls : List AV) (k : List Bool) : List AV := List.zipWith (fun v b => if b then v else vU) ls k
theorem b_fgt (k : List Bool) (hk : k.length = ls.length) (hs : fgt ls k = ls') (h : B f mi pc ls' st m Q T) : B f mi pc ls st m Q T := by
  subst hs
  intro E p e R s mt args below meth c n0 H locs lC X hn hW hS hL
  refine h E p e R s mt args below meth c n0 H locs lC X hn hW hS ⟨?_, hL.2.1, fun i v hi hu => ?_⟩
  · rw [hL.1, fgt, List.length_zipWith, hk, Nat.min_self]
  · unfold fgt at hi
    rw [List.getElem?_zipWith] at hi
    cases h1 : ls[i]? with
    | none => rw [h1] at hi; cases h2 : k[i]? <;> rw [h2] at hi <;> cases hi
    | some w =>
      cases h2 : k[i]? with
      | none => rw [h1, h2] at hi; cases hi
      | some b =>
        rw [h1, h2] at hi
        have hi : (if b = true then w else vU) = v := Option.some.inj hi
        cases b with
        | true => have e : w = v := hi; subst e; exact hL.2.2 i w h1 hu
        | false => have e : vU = v := hi; subst e; cases hu
end BROWS
theorem ifT {c : Prop} [Decidable c] {X Y : Prop} (hc : c) (h : if c then X else Y) : X := by rw [if_pos hc] at h; exact h
theorem ifF {c : Prop} [Decidable c] {X Y : Prop} (hc : ¬ c) (h : if c then X else Y) : Y := by rw [if_neg hc] at h; exact h
