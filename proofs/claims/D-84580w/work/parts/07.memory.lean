set_option maxRecDepth 100000
/-! ROWS: fields, arrays, statics -/
def lyA (a : Int) : Option LY := if 0 < a then layL[a.toNat - 1]? else none
/-- the object a is made, of that kind -/
def isAt (σ : SG) (a : Int) (y : LY) : Prop := lyA a = some y ∧ a ≤ σ.1
theorem lyA_pos {a : Int} {y : LY} (h : lyA a = some y) : 0 < a ∧ layL[a.toNat - 1]? = some y ∧ a ≤ NT := by
  unfold lyA at h
  split at h
  · rename_i h0
    refine ⟨h0, h, ?_⟩
    have h1 := (List.getElem?_eq_some_iff.mp h).1
    rw [layL_len] at h1
    omega
  · cases h
theorem at2 {a : Int} {y : LY} {r m : MM} (h : lyA a = some y) : isAt (NT, r, m) a y := ⟨h, (lyA_pos h).2.2⟩
theorem cr_pos {E : EV} {a : Int} (h : 0 < a) : cr E a = .ref (adr E a) := by
  have h0 : ¬ a = 0 := by omega
  simp [cr, h0]
theorem adr_pos {E : EV} {a : Int} (h : 0 < a) : adr E a = eZ E + (a.toNat - 1) := by simp [adr, h]
theorem adr_inj {E : EV} {a b : Int} (ha : 0 < a) (hb : 0 < b) (h : adr E a = adr E b) : a = b := by
  rw [adr_pos ha, adr_pos hb] at h
  omega
theorem WH.at {E : EV} {σ : SG} {H : Heap} (h : WH E σ H) {a : Int} {y : LY} (ha : isAt σ a y) : va_at (eD E) vwCl (adr E a, ent E (σ.2.1 a) (σ.2.2 a) y) H := by
  obtain ⟨h0, h1, h2⟩ := lyA_pos ha.1
  have hle := ha.2
  have h3 := h.2.2.2 (a.toNat - 1) y (by omega) h1
  have e1 : (((a.toNat - 1 : Nat) : Int) + 1) = a := by omega
  rw [e1] at h3
  rw [adr_pos h0]
  exact h3
theorem va_P1 {D : va_G} {cl : List vw_C} {q : Nat × va_E} {H : Heap} (h : va_at D cl q H) : va_P D cl [q] H := by
  intro k x hk
  cases k with
  | zero => cases hk; exact h
  | succ k => simp at hk
/-- one object is changed -/
theorem WH.put {E : EV} {n : Nat} {r m r' m' : MM} {H H1 : Heap} (h : WH E (n, r, m) H) {a : Int} {y : LY} (ha : isAt (n, r, m) a y) (z : H1.size = H.size) (oq : ∀ q, q ≠ adr E a → H1[q]? = H[q]?) (hat : va_at (eD E) vwCl (adr E a, ent E (r' a) (m' a) y) H1) (hs : ∀ b, b ≠ a → r' b = r b ∧ m' b = m b) : WH E (n, r', m') H1 := by
  obtain ⟨h0, h1, h2⟩ := lyA_pos ha.1
  refine ⟨by rw [z]; exact h.1, h.2.1, fun q hq => ?_, fun k y2 hk hy => ?_⟩
  · rw [oq q (by rw [adr_pos h0]; omega)]
    exact h.2.2.1 q hq
  · by_cases e : (k : Int) + 1 = a
    · have ek : k = a.toNat - 1 := by omega
      rw [ek] at hy
      have ey : y2 = y := Option.some.inj (hy.symm.trans h1)
      subst ey
      rw [adr_pos h0] at hat
      rw [e, ek]
      exact hat
    · have h3 := h.2.2.2 k y2 hk hy
      obtain ⟨e1, e2⟩ := hs _ e
      rw [show ((n, r', m') : SG).2.1 = r' from rfl, show ((n, r', m') : SG).2.2 = m' from rfl, e1, e2]
      refine va_at.kept h3 (oq _ ?_)
      show eZ E + k ≠ adr E a
      rw [adr_pos h0]
      omega
theorem up_hs {r m : MM} {a i v : Int} : ∀ b, b ≠ a → r b = r b ∧ up m a i v b = m b := fun _ h => ⟨rfl, up_neA h⟩
theorem S_put {E : EV} {s : State} {H H1 : Heap} {locs : List Loc} {a : Int} {k : Nat} (h : va_S (fun q => eZ E ≤ q) s.heap H locs) (h0 : 0 < a) (z : H1.size = H.size) (oq : ∀ q : Nat, q ≠ adr E a → H1[q]? = H[q]?) : va_S (fun q => eZ E ≤ q) s.heap H1 (locs ++ [⟨adr E a, k⟩]) :=
  h.put z oq (by rw [adr_pos h0]; exact Nat.le_add_right _ _)
/-- a class of the run: its place, name, fields, how many; its words -/
def FB (ci : Nat) (C : String) (F : u_T) (N : Nat) : Prop := vwCl[ci]? = some (C, F, N) ∧ (∀ w ∈ u_ws C F N, w ∈ lw_all) ∧ (∀ a, a < N → ∀ b, b < N → a ≠ b → (F a).2.1 ≠ (F b).2.1) ∧ (∃ ty : Nat → FieldType, ∀ k, k < N → parseFieldDescriptor (F k).2.2.1 = some (ty k)) ∧ (fks ci).length = N
theorem fb0 : FB 0 RX0 TX0 15 := ⟨rfl, in_X0, nmX0, ⟨_, tyX0_ok⟩, rfl⟩
theorem fb1 : FB 1 RX1 TX1 8 := ⟨rfl, in_X1, nmX1, ⟨_, tyX1_ok⟩, rfl⟩
theorem fb2 : FB 2 RX2 TX2 27 := ⟨rfl, in_X2, nmX2, ⟨_, tyX2_ok⟩, rfl⟩
theorem fb3 : FB 3 RX3 TX3 6 := ⟨rfl, in_X3, nmX3, ⟨_, tyX3_ok⟩, rfl⟩
theorem fb4 : FB 4 RX4 TX4 7 := ⟨rfl, in_X4, nmX4, ⟨_, tyX4_ok⟩, rfl⟩
theorem fb5 : FB 5 RX5 TX5 8 := ⟨rfl, in_X5, nmX5, ⟨_, tyX5_ok⟩, rfl⟩
theorem fb6 : FB 6 RX6 TX6 22 := ⟨rfl, in_X6, nmX6, ⟨_, tyX6_ok⟩, rfl⟩
theorem fb7 : FB 7 RX7 TX7 3 := ⟨rfl, in_X7, nmX7, ⟨_, tyX7_ok⟩, rfl⟩
theorem fb8 : FB 8 RX8 TX8 3 := ⟨rfl, in_X8, nmX8, ⟨_, tyX8_ok⟩, rfl⟩
theorem fb9 : FB 9 RX9 TX9 7 := ⟨rfl, in_X9, nmX9, ⟨_, tyX9_ok⟩, rfl⟩
theorem fb10 : FB 10 RX10 TX10 116 := ⟨rfl, in_X10, nmX10, ⟨_, tyX10_ok⟩, rfl⟩
/-- a field as a class's constant says it: the k-th of class ci; whether it is final; its type -/
def FR (own : String) (idx ci k : Nat) (fin : Bool) (ty : FieldType) : Prop := ∃ (C : String) (F : u_T) (N : Nat), FB ci C F N ∧ k < N ∧ (F k).2.2.2 = fin ∧ parseFieldDescriptor (F k).2.2.1 = some ty ∧ (Cond.fieldLink own idx (F k).1 (F k).2.1 (F k).2.2.1 ∈ lw_all ∨ ∃ host, Cond.fieldLinkNest own idx (F k).1 (F k).2.1 (F k).2.2.1 host ∈ lw_tbl)
section MEM
variable {f pc : Nat} {mi : MI} {ls st : List AV} {n : Nat} {r m : MM} {Q : Int → SG → Prop} {T : SG → Prop} {x y z a i : Int}
theorem a_getV {idx ci k kd : Nat} {fin : Bool} {ty : FieldType} {v : AV} (hd : decode mi.2.1 pc = .ok (.getfield idx, 3)) (fr : FR mi.1.cls idx ci k fin ty) (ha : isAt (n, r, m) a (.inr ci)) (hk : (fks ci)[k]? = some kd) (hv : ∀ E : EV, cv E v = fv E (r a) (m a) kd k) (kk : A f mi (pc + 3) ls (v :: st) (n, r, m) Q T) : A f mi pc ls (vR a :: st) (n, r, m) Q T := by
  intro E p e R s mt args below meth c n0 H locs lC X hn hW hS hL
  have kk := kk E p e R s mt args below meth c n0 H locs lC X hn hW hS hL
  obtain ⟨C, F, N, ⟨hc, hin, hnm, ⟨ty0, hty⟩, hlen⟩, hkN, hfin, hpty, hlink⟩ := fr
  obtain ⟨hexec, hb, hml, hown, hts, hrr, hlocks, hname, hSK, hsz⟩ := X
  have hP := va_P1 (hW.at ha)
  have hv2 : (flds E (r a) (m a) 0 (fks ci))[k]? = some (cv E v) := by rw [flds_get E _ _ _ 0 k kd hk, hv E, Nat.zero_add]
  show W _ _ _ _ _ _ _ _ _ _ _ _ _ _ _ (F0 mt pc lC (cr E a :: st.map (cv E)))
  rw [cr_pos (lyA_pos ha.1).1]
  rcases hlink with hl | ⟨host, hl⟩
  · exact va_get hexec hb hts hin hown hSK.K hP 0 rfl hc k hkN (hts _ hl) (fun _ h => h) hv2 hd kk
  · exact va_getN hexec hb hts hin hown hSK.K hP 0 rfl hc k hkN (hSK.NF hl) (fun _ h => h) hv2 hd kk
theorem a_getI {idx ci k : Nat} {fin : Bool} {ty : FieldType} (hd : decode mi.2.1 pc = .ok (.getfield idx, 3)) (fr : FR mi.1.cls idx ci k fin ty) (ha : isAt (n, r, m) a (.inr ci)) (hk : (fks ci)[k]? = some 0) (kk : A f mi (pc + 3) ls (vI (m a k) :: st) (n, r, m) Q T) : A f mi pc ls (vR a :: st) (n, r, m) Q T := a_getV hd fr ha hk (fun _ => rfl) kk
theorem a_getZ {idx ci k : Nat} {fin : Bool} {ty : FieldType} (hd : decode mi.2.1 pc = .ok (.getfield idx, 3)) (fr : FR mi.1.cls idx ci k fin ty) (ha : isAt (n, r, m) a (.inr ci)) (hk : (fks ci)[k]? = some 3) (kk : A f mi (pc + 3) ls (vI (m a k) :: st) (n, r, m) Q T) : A f mi pc ls (vR a :: st) (n, r, m) Q T := a_getV hd fr ha hk (fun _ => rfl) kk
theorem a_getL {idx ci k : Nat} {fin : Bool} {ty : FieldType} (hd : decode mi.2.1 pc = .ok (.getfield idx, 3)) (fr : FR mi.1.cls idx ci k fin ty) (ha : isAt (n, r, m) a (.inr ci)) (hk : (fks ci)[k]? = some 1) (kk : A f mi (pc + 3) ls (vL (m a k) :: st) (n, r, m) Q T) : A f mi pc ls (vR a :: st) (n, r, m) Q T := a_getV hd fr ha hk (fun _ => rfl) kk
theorem a_getR {idx ci k : Nat} {fin : Bool} {ty : FieldType} (hd : decode mi.2.1 pc = .ok (.getfield idx, 3)) (fr : FR mi.1.cls idx ci k fin ty) (ha : isAt (n, r, m) a (.inr ci)) (hk : (fks ci)[k]? = some 6) (hr : r a k = z) (kk : A f mi (pc + 3) ls (vR z :: st) (n, r, m) Q T) : A f mi pc ls (vR a :: st) (n, r, m) Q T := by
  subst hr
  exact a_getV hd fr ha hk (fun _ => rfl) kk
theorem a_getM {idx ci k : Nat} {fin : Bool} {ty : FieldType} (hd : decode mi.2.1 pc = .ok (.getfield idx, 3)) (fr : FR mi.1.cls idx ci k fin ty) (ha : isAt (n, r, m) a (.inr ci)) (hk : (fks ci)[k]? = some 7) (kk : A f mi (pc + 3) ls (vR (m a k) :: st) (n, r, m) Q T) : A f mi pc ls (vR a :: st) (n, r, m) Q T := a_getV hd fr ha hk (fun _ => rfl) kk
/-- how a field of an object is changed -/
theorem fields_set {E : EV} {ra ma ra' ma' : Int → Int} {ks : List Nat} {k kd N : Nat} {v : Value} (hlen : ks.length = N) (hk : ks[k]? = some kd) (hv : v = fv E ra' ma' kd k) (ho : ∀ j : Nat, j ≠ k → ra' j = ra j ∧ ma' j = ma j) : ∀ j, j < N → updV (vp_V (flds E ra ma 0 ks)) k v j = vp_V (flds E ra' ma' 0 ks) j := by
  intro j hj
  have hj2 : j < ks.length := by rw [hlen]; exact hj
  have g1 := flds_get E ra ma ks 0 j _ (List.getElem?_eq_getElem hj2)
  have g2 := flds_get E ra' ma' ks 0 j _ (List.getElem?_eq_getElem hj2)
  unfold updV vp_V
  rw [List.getD_eq_getElem?_getD, List.getD_eq_getElem?_getD, g1, g2, Nat.zero_add]
  by_cases e : j = k
  · subst e
    have : ks[j] = kd := Option.some.inj ((List.getElem?_eq_getElem hj2).symm.trans hk)
    rw [if_pos rfl, hv, this]
    rfl
  · rw [if_neg e]
    obtain ⟨e1, e2⟩ := ho j e
    show fv E ra ma _ j = fv E ra' ma' _ j
    unfold fv
    rw [e1, e2]
theorem a_putV {idx ci k kd : Nat} {ty : FieldType} {v : AV} {r' m' : MM} (hd : decode mi.2.1 pc = .ok (.putfield idx, 3)) (fr : FR mi.1.cls idx ci k false ty) (ha : isAt (n, r, m) a (.inr ci)) (hk : (fks ci)[k]? = some kd) (hv : ∀ E : EV, cv E v = fv E (r' a) (m' a) kd k ∧ narrow ty (cv E v) = cv E v ∧ fits ty (cv E v) = true) (hs : ∀ b, b ≠ a → r' b = r b ∧ m' b = m b) (ho : ∀ j : Nat, j ≠ k → r' a j = r a j ∧ m' a j = m a j) (kk : A f mi (pc + 3) ls st (n, r', m') Q T) : A f mi pc ls (v :: vR a :: st) (n, r, m) Q T := by
  intro E p e R s mt args below meth c n0 H locs lC X hn hW hS hL
  obtain ⟨C, F, N, ⟨hc, hin, hnm, ⟨ty0, hty⟩, hlen⟩, hkN, hfin, hpty, hlink⟩ := fr
  obtain ⟨hexec, hb, hml, hown, hts, hrr, hlocks, hname, hSK, hsz⟩ := id X
  obtain ⟨hv1, hv2, hv3⟩ := hv E
  have hK := hSK.K
  have hap := va_apart (own := mi.1.cls) hts hin ty0 hty hnm hK hc
  obtain ⟨q, h1, cell, q1, q2, q3, q4⟩ := hW.at ha
  have hr : q = (C, F, N) := Option.some.inj (h1.symm.trans hc)
  subst hr
  obtain ⟨hSl, hfc, kC, hkC, hkind⟩ := hK.1 ci _ hc
  obtain ⟨cf, kf, fi, fd, hi, hsl⟩ := hSl k hkN
  have hlay := hts _ (hin _ (u_in_lay hkN))
  unfold u_lay at hlay
  rw [if_neg (by rw [hfin]; decide)] at hlay
  have hst := (u_facts hfc hkC (u_lays hts hin hkN) hi).1
  have h6 := u_store hfc hkC hkind hlay hi hpty hv2 hv3
  have h0 := (lyA_pos ha.1).1
  have fin : ∀ H' : Heap, H'[adr E a]? = some (cell.setSlot fd.slot (cv E v)) → H'.size = H.size → (∀ q, q ≠ adr E a → H'[q]? = H[q]?) → W p (eL E) e R s mt args below meth c H' (locs ++ [⟨adr E a, fd.slot⟩]) (n - n0) (szN n - szN n0) (FQ E mi n0 below s Q T) (F0 mt (pc + 3) lC (st.map (cv E))) := by
    intro H' e1 e2 e3
    rw [hsl] at e1
    refine kk E p e R s mt args below meth c n0 H' _ lC X hn (hW.put ha e2 e3 ⟨_, hc, t_OB.to (V := updV (vp_V (flds E (r a) (m a) 0 (fks ci))) k (cv E v)) ⟨_, e1, q2, q3, t_set q4 hap hkN (cv E v)⟩ (fields_set hlen hk hv1 ho)⟩ hs) (S_put hS h0 e2 e3) hL
  show W _ _ _ _ _ _ _ _ _ _ _ _ _ _ _ (F0 mt pc lC (cv E v :: cr E a :: st.map (cv E)))
  rw [cr_pos h0]
  rcases hlink with hl | ⟨host, hl⟩
  · exact W.putK hexec hb (f := fd) ⟨hown, hts _ hl, ⟨_, _, _, hi⟩, hst⟩ (by rw [q2]; exact h6) q1 q3 (by rw [hsl]; exact k2_hasslot (q4 k hkN)) rfl rfl hd fin
  · exact va_WputK hexec hb (f := fd) hown (hSK.NF hl) hi hst (by rw [q2]; exact h6) q1 q3 (by rw [hsl]; exact k2_hasslot (q4 k hkN)) rfl rfl hd fin
theorem up_ho {r m : MM} {a v : Int} {k : Nat} : ∀ j : Nat, j ≠ k → r a j = r a j ∧ up m a (k : Int) v a j = m a j := fun j h => ⟨rfl, up_neI (by omega)⟩
theorem a_putI {idx ci k : Nat} (hd : decode mi.2.1 pc = .ok (.putfield idx, 3)) (fr : FR mi.1.cls idx ci k false .int) (ha : isAt (n, r, m) a (.inr ci)) (hk : (fks ci)[k]? = some 0) (kk : A f mi (pc + 3) ls st (n, r, up m a (k : Int) x) Q T) : A f mi pc ls (vI x :: vR a :: st) (n, r, m) Q T := a_putV hd fr ha hk (fun E => ⟨by simp [fv, cv, up_at], rfl, rfl⟩) up_hs up_ho kk
theorem a_putZ {idx ci k : Nat} (hd : decode mi.2.1 pc = .ok (.putfield idx, 3)) (fr : FR mi.1.cls idx ci k false .boolean) (ha : isAt (n, r, m) a (.inr ci)) (hk : (fks ci)[k]? = some 3) (hx : x = 0 ∨ x = 1) (kk : A f mi (pc + 3) ls st (n, r, up m a (k : Int) x) Q T) : A f mi pc ls (vI x :: vR a :: st) (n, r, m) Q T := a_putV hd fr ha hk (fun E => ⟨by simp [fv, cv, up_at], by rcases hx with rfl | rfl <;> rfl, by rcases hx with rfl | rfl <;> first | exact (by decide : fits .boolean (.int (Int32.ofInt 0)) = true) | exact (by decide : fits .boolean (.int (Int32.ofInt 1)) = true)⟩) up_hs up_ho kk
theorem a_putL {idx ci k : Nat} (hd : decode mi.2.1 pc = .ok (.putfield idx, 3)) (fr : FR mi.1.cls idx ci k false .long) (ha : isAt (n, r, m) a (.inr ci)) (hk : (fks ci)[k]? = some 1) (kk : A f mi (pc + 3) ls st (n, r, up m a (k : Int) x) Q T) : A f mi pc ls (vL x :: vR a :: st) (n, r, m) Q T := a_putV hd fr ha hk (fun E => ⟨by simp [fv, cv, up_at], rfl, rfl⟩) up_hs up_ho kk
theorem fits_cr {E : EV} {x : Int} {ty : FieldType} (ht : (∃ c, ty = .object c) ∨ ∃ t, ty = .array t) : narrow ty (cr E x) = cr E x ∧ fits ty (cr E x) = true := by
  rcases ht with ⟨c, rfl⟩ | ⟨t, rfl⟩ <;> (unfold cr; split <;> exact ⟨rfl, rfl⟩)
theorem a_putM {idx ci k : Nat} {ty : FieldType} (hd : decode mi.2.1 pc = .ok (.putfield idx, 3)) (fr : FR mi.1.cls idx ci k false ty) (ht : (∃ c, ty = .object c) ∨ ∃ t, ty = .array t) (ha : isAt (n, r, m) a (.inr ci)) (hk : (fks ci)[k]? = some 7) (kk : A f mi (pc + 3) ls st (n, r, up m a (k : Int) x) Q T) : A f mi pc ls (vR x :: vR a :: st) (n, r, m) Q T := a_putV hd fr ha hk (fun E => ⟨by simp [fv, cv, up_at], fits_cr ht⟩) up_hs up_ho kk
/-- an index of an array -/
theorem ix_t {i : Int} {l : Nat} (h0 : 0 ≤ i) (h1 : i < l) (hl : l ≤ 2147483648) : (Int32.ofInt i).toNatClampNeg = i.toNat ∧ vp_in (Int32.ofInt i) l := by
  have hr : RI i := by omega
  have e := ri_t hr
  refine ⟨by rw [show (Int32.ofInt i).toNatClampNeg = (Int32.ofInt i).toInt.toNat from rfl, e], vp_in_iff.mpr ?_⟩
  rw [e]
  exact ⟨h0, h1⟩
theorem isAt.len {σ : SG} {a : Int} {k l : Nat} (h : isAt σ a (.inl (k, l))) : l ≤ 2147483648 := by
  have h1 := List.mem_of_getElem? (lyA_pos h.1).2.1
  have h2 : ∀ y ∈ layL, slN y ≤ 2147483648 := by decide +kernel
  exact h2 _ h1
theorem a_iald {l : Nat} (hd : decode mi.2.1 pc = .ok (.iaload, 1)) (ha : isAt (n, r, m) a (.inl (0, l))) (hi : 0 ≤ i ∧ i < l) (kk : A f mi (pc + 1) ls (vI (m a i) :: st) (n, r, m) Q T) : A f mi pc ls (vI i :: vR a :: st) (n, r, m) Q T := by
  intro E p e R s mt args below meth c n0 H locs lC X hn hW hS hL
  have kk := kk E p e R s mt args below meth c n0 H locs lC X hn hW hS hL
  obtain ⟨e1, e2⟩ := ix_t hi.1 hi.2 ha.len
  obtain ⟨hexec, hb, hml, hown, hts, hrr, hlocks, hname, hSK, hsz⟩ := X
  show W _ _ _ _ _ _ _ _ _ _ _ _ _ _ _ (F0 mt pc lC (.int (Int32.ofInt i) :: cr E a :: st.map (cv E)))
  rw [cr_pos (lyA_pos ha.1).1]
  refine va_iald hexec hb hSK.K (va_P1 (hW.at ha)) 0 0 rfl rfl e2 hd ?_
  rw [e1]
  show W _ _ _ _ _ _ _ _ _ _ _ _ _ _ _ (F0 mt (pc + 1) lC (.int (Int32.ofInt (m a (i.toNat : Int))) :: st.map (cv E)))
  rw [Int.toNat_of_nonneg hi.1]
  exact kk
theorem a_bald {l : Nat} (hd : decode mi.2.1 pc = .ok (.baload, 1)) (ha : isAt (n, r, m) a (.inl (2, l))) (hi : 0 ≤ i ∧ i < l) (kk : A f mi (pc + 1) ls (vI (m a i) :: st) (n, r, m) Q T) : A f mi pc ls (vI i :: vR a :: st) (n, r, m) Q T := by
  intro E p e R s mt args below meth c n0 H locs lC X hn hW hS hL
  have kk := kk E p e R s mt args below meth c n0 H locs lC X hn hW hS hL
  obtain ⟨e1, e2⟩ := ix_t hi.1 hi.2 ha.len
  obtain ⟨hexec, hb, hml, hown, hts, hrr, hlocks, hname, hSK, hsz⟩ := X
  show W _ _ _ _ _ _ _ _ _ _ _ _ _ _ _ (F0 mt pc lC (.int (Int32.ofInt i) :: cr E a :: st.map (cv E)))
  rw [cr_pos (lyA_pos ha.1).1]
  refine va_bald hexec hb hSK.K (va_P1 (hW.at ha)) 0 2 rfl rfl e2 hd ?_
  rw [e1]
  show W _ _ _ _ _ _ _ _ _ _ _ _ _ _ _ (F0 mt (pc + 1) lC (.int (Int32.ofInt (m a (i.toNat : Int))) :: st.map (cv E)))
  rw [Int.toNat_of_nonneg hi.1]
  exact kk
theorem a_zald {l : Nat} (hd : decode mi.2.1 pc = .ok (.baload, 1)) (ha : isAt (n, r, m) a (.inl (3, l))) (hi : 0 ≤ i ∧ i < l) (kk : A f mi (pc + 1) ls (vI (m a i) :: st) (n, r, m) Q T) : A f mi pc ls (vI i :: vR a :: st) (n, r, m) Q T := by
  intro E p e R s mt args below meth c n0 H locs lC X hn hW hS hL
  have kk := kk E p e R s mt args below meth c n0 H locs lC X hn hW hS hL
  obtain ⟨e1, e2⟩ := ix_t hi.1 hi.2 ha.len
  obtain ⟨hexec, hb, hml, hown, hts, hrr, hlocks, hname, hSK, hsz⟩ := X
  show W _ _ _ _ _ _ _ _ _ _ _ _ _ _ _ (F0 mt pc lC (.int (Int32.ofInt i) :: cr E a :: st.map (cv E)))
  rw [cr_pos (lyA_pos ha.1).1]
  refine va_zald hexec hb hSK.K (va_P1 (hW.at ha)) 0 3 rfl rfl e2 hd ?_
  rw [e1]
  show W _ _ _ _ _ _ _ _ _ _ _ _ _ _ _ (F0 mt (pc + 1) lC (.int (Int32.ofInt (m a (i.toNat : Int))) :: st.map (cv E)))
  rw [Int.toNat_of_nonneg hi.1]
  exact kk
theorem a_lald {l : Nat} (hd : decode mi.2.1 pc = .ok (.laload, 1)) (ha : isAt (n, r, m) a (.inl (1, l))) (hi : 0 ≤ i ∧ i < l) (kk : A f mi (pc + 1) ls (vL (m a i) :: st) (n, r, m) Q T) : A f mi pc ls (vI i :: vR a :: st) (n, r, m) Q T := by
  intro E p e R s mt args below meth c n0 H locs lC X hn hW hS hL
  have kk := kk E p e R s mt args below meth c n0 H locs lC X hn hW hS hL
  obtain ⟨e1, e2⟩ := ix_t hi.1 hi.2 ha.len
  obtain ⟨hexec, hb, hml, hown, hts, hrr, hlocks, hname, hSK, hsz⟩ := X
  show W _ _ _ _ _ _ _ _ _ _ _ _ _ _ _ (F0 mt pc lC (.int (Int32.ofInt i) :: cr E a :: st.map (cv E)))
  rw [cr_pos (lyA_pos ha.1).1]
  refine va_lald hexec hb hSK.K (va_P1 (hW.at ha)) 0 1 rfl rfl e2 hd ?_
  rw [e1]
  show W _ _ _ _ _ _ _ _ _ _ _ _ _ _ _ (F0 mt (pc + 1) lC (.long (Int64.ofInt (m a (i.toNat : Int))) :: st.map (cv E)))
  rw [Int.toNat_of_nonneg hi.1]
  exact kk
theorem a_aald {l kd : Nat} (hd : decode mi.2.1 pc = .ok (.aaload, 1)) (ha : isAt (n, r, m) a (.inl (kd, l))) (hkd : kd = 4 ∨ kd = 5) (hi : 0 ≤ i ∧ i < l) (hz : r a i = z) (kk : A f mi (pc + 1) ls (vR z :: st) (n, r, m) Q T) : A f mi pc ls (vI i :: vR a :: st) (n, r, m) Q T := by
  subst hz
  intro E p e R s mt args below meth c n0 H locs lC X hn hW hS hL
  have kk := kk E p e R s mt args below meth c n0 H locs lC X hn hW hS hL
  obtain ⟨e1, e2⟩ := ix_t hi.1 hi.2 ha.len
  obtain ⟨hexec, hb, hml, hown, hts, hrr, hlocks, hname, hSK, hsz⟩ := X
  show W _ _ _ _ _ _ _ _ _ _ _ _ _ _ _ (F0 mt pc lC (.int (Int32.ofInt i) :: cr E a :: st.map (cv E)))
  rw [cr_pos (lyA_pos ha.1).1]
  have fin : W p (eL E) e R s mt args below meth c H locs (n - n0) (szN n - szN n0) (FQ E mi n0 below s Q T) (F0 mt (pc + 1) lC (va_rf (oref E (r a (i.toNat : Int))) :: st.map (cv E))) := by
    rw [va_rf_oref, Int.toNat_of_nonneg hi.1]
    exact kk
  rw [← e1] at fin
  rcases hkd with rfl | rfl
  · exact va_aldq hexec hb hSK.K (va_P1 (hW.at ha)) 0 4 rfl rfl e2 hd fin
  · exact va_aldq hexec hb hSK.K (va_P1 (hW.at ha)) 0 5 rfl rfl e2 hd fin
theorem a_alen {l kd : Nat} {v : Int} (hd : decode mi.2.1 pc = .ok (.arraylength, 1)) (ha : isAt (n, r, m) a (.inl (kd, l))) (hkd : kd < 6) (hv : (l : Int) = v) (kk : A f mi (pc + 1) ls (vI v :: st) (n, r, m) Q T) : A f mi pc ls (vR a :: st) (n, r, m) Q T := by
  subst hv
  intro E p e R s mt args below meth c n0 H locs lC X hn hW hS hL
  have kk := kk E p e R s mt args below meth c n0 H locs lC X hn hW hS hL
  obtain ⟨hexec, hb, hml, hown, hts, hrr, hlocks, hname, hSK, hsz⟩ := X
  show W _ _ _ _ _ _ _ _ _ _ _ _ _ _ _ (F0 mt pc lC (cr E a :: st.map (cv E)))
  rw [cr_pos (lyA_pos ha.1).1]
  have ht : ∃ ty, (tyL E)[kd]? = some (eA E kd, ty) := by
    rcases (show kd = 0 ∨ kd = 1 ∨ kd = 2 ∨ kd = 3 ∨ kd = 4 ∨ kd = 5 by omega) with rfl | rfl | rfl | rfl | rfl | rfl <;> exact ⟨_, rfl⟩
  obtain ⟨ty, ht⟩ := ht
  refine va_alen (v := Int32.ofInt (l : Int)) hexec hb hSK.K (va_P1 (hW.at ha)) 0 kd rfl ht ?_ hd kk
  exact Int32.ofInt_eq_ofNat.symm
theorem upd_i {ma : Int → Int} {i x : Int} (h0 : 0 ≤ i) {g : Int → Value} : updV (fun j : Nat => g (ma j)) i.toNat (g x) = fun j : Nat => g (if (j : Int) = i then x else ma j) := by
  funext j
  unfold updV
  by_cases e : j = i.toNat
  · have e2 : (j : Int) = i := by omega
    rw [if_pos e, if_pos e2]
  · have e2 : ¬ (j : Int) = i := by omega
    rw [if_neg e, if_neg e2]
theorem up_fun {m : MM} {a i x : Int} : up m a i x a = fun j => if j = i then x else m a j := by funext j; simp [up]
theorem a_iast {l : Nat} (hd : decode mi.2.1 pc = .ok (.iastore, 1)) (ha : isAt (n, r, m) a (.inl (0, l))) (hi : 0 ≤ i ∧ i < l) (kk : A f mi (pc + 1) ls st (n, r, up m a i x) Q T) : A f mi pc ls (vI x :: vI i :: vR a :: st) (n, r, m) Q T := by
  intro E p e R s mt args below meth c n0 H locs lC X hn hW hS hL
  obtain ⟨e1, e2⟩ := ix_t hi.1 hi.2 ha.len
  obtain ⟨hexec, hb, hml, hown, hts, hrr, hlocks, hname, hSK, hsz⟩ := id X
  have h0 := (lyA_pos ha.1).1
  show W _ _ _ _ _ _ _ _ _ _ _ _ _ _ _ (F0 mt pc lC (.int (Int32.ofInt x) :: .int (Int32.ofInt i) :: cr E a :: st.map (cv E)))
  rw [cr_pos h0]
  refine W.iast hexec hb (hW.at ha) ((hSK.K.2 0 _ rfl).1 l (fun j => .int (Int32.ofInt (m a j)))) (fun q => by cases q) (by show ¬ (_ ∨ (arrV _ _ _).slots.size ≤ _); rw [arrV_size]; exact e2) rfl rfl hd fun H1 g1 z oq => ?_
  refine kk E p e R s mt args below meth c n0 H1 _ lC X hn (hW.put ha z oq ?_ up_hs) (S_put hS h0 z oq) hL
  show H1[adr E a]? = some (arrV _ _ (fun j : Nat => .int (Int32.ofInt (up m a i x a j))))
  rw [g1, e1, up_fun]
  show some ((arrV _ _ _).setSlot _ _) = _
  rw [arrV_store, upd_i hi.1 (g := fun z => .int (Int32.ofInt z))]
theorem a_bast {l : Nat} (hd : decode mi.2.1 pc = .ok (.bastore, 1)) (ha : isAt (n, r, m) a (.inl (2, l))) (hi : 0 ≤ i ∧ i < l) (hx : -128 ≤ x ∧ x ≤ 127) (kk : A f mi (pc + 1) ls st (n, r, up m a i x) Q T) : A f mi pc ls (vI x :: vI i :: vR a :: st) (n, r, m) Q T := by
  intro E p e R s mt args below meth c n0 H locs lC X hn hW hS hL
  obtain ⟨e1, e2⟩ := ix_t hi.1 hi.2 ha.len
  obtain ⟨hexec, hb, hml, hown, hts, hrr, hlocks, hname, hSK, hsz⟩ := id X
  have h0 := (lyA_pos ha.1).1
  show W _ _ _ _ _ _ _ _ _ _ _ _ _ _ _ (F0 mt pc lC (.int (Int32.ofInt x) :: .int (Int32.ofInt i) :: cr E a :: st.map (cv E)))
  rw [cr_pos h0]
  refine W.bast hexec hb (hW.at ha) ((hSK.K.2 2 _ rfl).1 l (fun j => .int (Int32.ofInt (m a j)))) (fun q => by cases q) (by show ¬ (_ ∨ (arrV _ _ _).slots.size ≤ _); rw [arrV_size]; exact e2) rfl rfl hd fun H1 g1 z oq => ?_
  refine kk E p e R s mt args below meth c n0 H1 _ lC X hn (hW.put ha z oq ?_ up_hs) (S_put hS h0 z oq) hL
  show H1[adr E a]? = some (arrV _ _ (fun j : Nat => .int (Int32.ofInt (up m a i x a j))))
  have hnr : narrow .byte (.int (Int32.ofInt x)) = .int (Int32.ofInt x) := by
    have : (Int32.ofInt x).toInt8.toInt32 = Int32.ofInt x := by
      rw [← Int32.toInt_inj]
      simp only [Int32.toInt8_ofInt, Int8.toInt_toInt32]
      rw [ri_t (by omega), Int8.toInt_ofInt_of_le (by omega) (by omega)]
    show Value.int (Int32.ofInt x).toInt8.toInt32 = _
    rw [this]
  rw [g1, e1, up_fun]
  show some ((arrV _ _ _).setSlot _ (narrow .byte (.int (Int32.ofInt x)))) = _
  rw [hnr, arrV_store, upd_i hi.1 (g := fun z => .int (Int32.ofInt z))]
theorem a_zast {l : Nat} (hd : decode mi.2.1 pc = .ok (.bastore, 1)) (ha : isAt (n, r, m) a (.inl (3, l))) (hi : 0 ≤ i ∧ i < l) (hx : x = 0 ∨ x = 1) (kk : A f mi (pc + 1) ls st (n, r, up m a i x) Q T) : A f mi pc ls (vI x :: vI i :: vR a :: st) (n, r, m) Q T := by
  intro E p e R s mt args below meth c n0 H locs lC X hn hW hS hL
  obtain ⟨e1, e2⟩ := ix_t hi.1 hi.2 ha.len
  obtain ⟨hexec, hb, hml, hown, hts, hrr, hlocks, hname, hSK, hsz⟩ := id X
  have h0 := (lyA_pos ha.1).1
  show W _ _ _ _ _ _ _ _ _ _ _ _ _ _ _ (F0 mt pc lC (.int (Int32.ofInt x) :: .int (Int32.ofInt i) :: cr E a :: st.map (cv E)))
  rw [cr_pos h0]
  refine W.zast hexec hb (hW.at ha) ((hSK.K.2 3 _ rfl).1 l (fun j => .int (Int32.ofInt (m a j)))) (fun q => by cases q) (by show ¬ (_ ∨ (arrV _ _ _).slots.size ≤ _); rw [arrV_size]; exact e2) rfl rfl hd fun H1 g1 z oq => ?_
  refine kk E p e R s mt args below meth c n0 H1 _ lC X hn (hW.put ha z oq ?_ up_hs) (S_put hS h0 z oq) hL
  show H1[adr E a]? = some (arrV _ _ (fun j : Nat => .int (Int32.ofInt (up m a i x a j))))
  have hnr : narrow .boolean (.int (Int32.ofInt x)) = .int (Int32.ofInt x) := by rcases hx with rfl | rfl <;> decide
  rw [g1, e1, up_fun]
  show some ((arrV _ _ _).setSlot _ (narrow .boolean (.int (Int32.ofInt x)))) = _
  rw [hnr, arrV_store, upd_i hi.1 (g := fun z => .int (Int32.ofInt z))]
theorem a_last {l : Nat} (hd : decode mi.2.1 pc = .ok (.lastore, 1)) (ha : isAt (n, r, m) a (.inl (1, l))) (hi : 0 ≤ i ∧ i < l) (kk : A f mi (pc + 1) ls st (n, r, up m a i x) Q T) : A f mi pc ls (vL x :: vI i :: vR a :: st) (n, r, m) Q T := by
  intro E p e R s mt args below meth c n0 H locs lC X hn hW hS hL
  obtain ⟨e1, e2⟩ := ix_t hi.1 hi.2 ha.len
  obtain ⟨hexec, hb, hml, hown, hts, hrr, hlocks, hname, hSK, hsz⟩ := id X
  have h0 := (lyA_pos ha.1).1
  show W _ _ _ _ _ _ _ _ _ _ _ _ _ _ _ (F0 mt pc lC (.long (Int64.ofInt x) :: .int (Int32.ofInt i) :: cr E a :: st.map (cv E)))
  rw [cr_pos h0]
  refine W.last hexec hb (hW.at ha) ((hSK.K.2 1 _ rfl).1 l (fun j => .long (Int64.ofInt (m a j)))) (fun q => by cases q) (by show ¬ (_ ∨ (arrV _ _ _).slots.size ≤ _); rw [arrV_size]; exact e2) rfl rfl hd fun H1 g1 z oq => ?_
  refine kk E p e R s mt args below meth c n0 H1 _ lC X hn (hW.put ha z oq ?_ up_hs) (S_put hS h0 z oq) hL
  show H1[adr E a]? = some (arrV _ _ (fun j : Nat => .long (Int64.ofInt (up m a i x a j))))
  rw [g1, e1, up_fun]
  show some ((arrV _ _ _).setSlot _ _) = _
  rw [arrV_store, upd_i hi.1 (g := fun z => .long (Int64.ofInt z))]
theorem a_gets {idx : Nat} {C nm d : String} (hd : decode mi.2.1 pc = .ok (.getstatic idx, 3)) (hz : z < 0) (hl : Cond.fieldLink mi.1.cls idx C nm d ∈ lw_all) (hs : Cond.laysStatic C nm d ∈ lw_tbl) (hini : Cond.initialized C ∈ lw_all) (hv : ∀ E : EV, OKE E → tSt E (.static C nm d) (.ref (eX E z))) (kk : A f mi (pc + 3) ls (vR z :: st) (n, r, m) Q T) : A f mi pc ls st (n, r, m) Q T := by
  intro E p e R s mt args below meth c n0 H locs lC X hn hW hS hL
  have kk := kk E p e R s mt args below meth c n0 H locs lC X hn hW hS hL
  obtain ⟨hexec, hb, hml, hown, hts, hrr, hlocks, hname, hSK, hsz⟩ := X
  have hZ0 : va_Z C nm d (.ref (eX E z)) (fun q => eZ E ≤ q) (eS E) (eS E).heap := va_Zof (hSK.1.2.1 _ hs) (hSK.1.2.1 _ (lw_all_tbl hini)) (hv E hSK.1) (fun a h => Nat.not_le.mpr h)
  have hZ1 : va_Z C nm d (.ref (eX E z)) (fun q => eZ E ≤ q) s s.heap := (hZ0.moved hSK.2.1.alike).kept (fun a h1 _ => hSK.2.2 a h1)
  refine va_gets hexec hb hZ1 hS hown (hts _ hl) (fun _ h => h) hd ?_
  have e1 : cr E z = .ref (eX E z) := by
    have h1 : ¬ z = 0 := by omega
    have h2 : ¬ 0 < z := by omega
    simp [cr, adr, h1, h2]
  rw [← e1]
  exact kk
end MEM
