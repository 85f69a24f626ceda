set_option maxRecDepth 100000
/-! ROWS: what lies outside: Strings, statics, the bases' row -/
def isSt (z : Int) : Prop := z = -1 ∨ z = -2 ∨ z = -3
def sLen (z : Int) : Int := if z = -1 then 72 else if z = -2 then 58 else 16
/-- the bytes of a String by its number -/
def sBy (z i : Int) : Int := ((strB.getD (-1 - z).toNat []).getD i.toNat 0).toInt
theorem OKE.x {E : EV} (h : OKE E) : OX E := h.2.2.2.2.2.2.2.2.2.2
theorem SK.T {E : EV} {s : State} (h : SK E s) {ty : FieldType} {t N : Nat} {f : Nat → Value} (hT : va_T ty t N f (eLo E) (eS E) (eS E).heap) : va_T ty t N f (eLo E) s s.heap := (hT.moved h.2.1.alike).kept (fun a h1 _ => h.2.2 a h1)
theorem SK.Z {E : EV} {s : State} (h : SK E s) {C n d : String} {v : Value} (hT : va_Z C n d v (eLo E) (eS E) (eS E).heap) : va_Z C n d v (eLo E) s s.heap := (hT.moved h.2.1.alike).kept (fun a h1 _ => h.2.2 a h1)
theorem SK.OF {E : EV} {s : State} (h : SK E s) {o n d : String} {v : Value} {t : Nat} (hT : va_OF o n d v t (eLo E) (eS E) (eS E).heap) : va_OF o n d v t (eLo E) s s.heap := (hT.moved h.2.1.alike).kept (fun a h1 _ => h.2.2 a h1)
theorem SK.O {E : EV} {s : State} (h : SK E s) {o : String} {t : Nat} (hT : va_O o t (eLo E) (eS E) (eS E).heap) : va_O o t (eLo E) s s.heap := (hT.moved h.2.1.alike).kept (fun a h1 _ => h.2.2 a h1)
theorem cr_neg {E : EV} {z : Int} (h : z < 0) : cr E z = .ref (eX E z) := by
  have h1 : ¬ z = 0 := by omega
  have h2 : ¬ 0 < z := by omega
  simp [cr, adr, h1, h2]
theorem st_nat {z : Int} (h : isSt z) : ∃ i : Nat, i < 3 ∧ z = -1 - (i : Int) ∧ (strL.getD i 0 : Int) = sLen z := by
  rcases h with rfl | rfl | rfl
  · exact ⟨0, by decide, rfl, rfl⟩
  · exact ⟨1, by decide, rfl, rfl⟩
  · exact ⟨2, by decide, rfl, rfl⟩
section OUT
variable {f f' pc : Nat} {mi mi' : MI} {ls st as stk : List AV} {m : MM} {Q Q' : Int → MM → Prop} {T T' : MM → Prop} {x y z a i j : Int} {np : Nat}
theorem b_bases (hd : decode mi.2.1 pc = .ok (.iaload, 1)) (hi : 0 ≤ i ∧ i < 4) (kk : B f mi (pc + 1) ls (vI (bas i) :: st) m Q T) : B f mi pc ls (vI i :: vR (-5) :: st) m Q T := by
  intro E p e R s mt args below meth c n0 H locs lC X hn hW hS hL
  have kk := kk E p e R s mt args below meth c n0 H locs lC X hn hW hS hL
  obtain ⟨e1, e2⟩ := ix_t (l := 4) hi.1 (by omega) (by decide)
  obtain ⟨hexec, hb, hml, hown, hts, hrr, hlocks, hname, hSK, hsz⟩ := X
  refine va_ti (v := .int (Int32.ofInt (bas i))) hexec hb (hSK.T hSK.1.x.2.1) hS e2 ?_ hd kk
  rw [e1]
  rcases (show i = 0 ∨ i = 1 ∨ i = 2 ∨ i = 3 by omega) with rfl | rfl | rfl | rfl <;> rfl
theorem b_ldcS {idx : Nat} {tx : String} (hd : decode mi.2.1 pc = .ok (.ldc idx, 2)) (hz : z < 0) (hs : Cond.stringRef mi.1.cls idx tx ∈ lw_tbl) (hv : ∀ E : EV, OKE E → tSt E (.string mi.1.cls idx) (.ref (eX E z))) (kk : B f mi (pc + 2) ls (vR z :: st) m Q T) : B f mi pc ls st m Q T := by
  intro E p e R s mt args below meth c n0 H locs lC X hn hW hS hL
  have kk := kk E p e R s mt args below meth c n0 H locs lC X hn hW hS hL
  obtain ⟨hexec, hb, hml, hown, hts, hrr, hlocks, hname, hSK, hsz⟩ := X
  have h1 : vk_R mi.1.cls idx tx (eX E z) (eS E) := vk_R.of (hSK.1.2.1 _ hs) (hv E hSK.1)
  refine va_ldcS hexec hb hown (h1.warm hSK.2.1) hd ?_
  rw [← cr_neg hz]
  exact kk
theorem b_getsZ {idx : Nat} (hd : decode mi.2.1 pc = .ok (.getstatic idx, 3)) (hl : Cond.fieldLink mi.1.cls idx "java/lang/String" "COMPACT_STRINGS" "Z" ∈ lw_all) (kk : B f mi (pc + 3) ls (vI 1 :: st) m Q T) : B f mi pc ls st m Q T := by
  intro E p e R s mt args below meth c n0 H locs lC X hn hW hS hL
  have kk := kk E p e R s mt args below meth c n0 H locs lC X hn hW hS hL
  obtain ⟨hexec, hb, hml, hown, hts, hrr, hlocks, hname, hSK, hsz⟩ := X
  exact va_gets hexec hb (hSK.Z hSK.1.x.2.2.1) hS hown (hts _ hl) (fun _ h => h) hd kk
theorem b_getsF {idx : Nat} (hd : decode mi.2.1 pc = .ok (.getstatic idx, 3)) (hl : Cond.fieldLink mi.1.cls idx "jdk/internal/util/Preconditions" "SIOOBE_FORMATTER" "Ljava/util/function/BiFunction;" ∈ lw_all) (kk : ∀ z : Int, B f mi (pc + 3) ls (vR z :: st) m Q T) : B f mi pc ls st m Q T := by
  intro E p e R s mt args below meth c n0 H locs lC X hn hW hS hL
  have k0 := kk 0 E p e R s mt args below meth c n0 H locs lC X hn hW hS hL
  have k1 := kk (-20) E p e R s mt args below meth c n0 H locs lC X hn hW hS hL
  obtain ⟨hexec, hb, hml, hown, hts, hrr, hlocks, hname, hSK, hsz⟩ := X
  rcases hSK.1.x.2.2.2.1 with h | h
  · exact va_gets hexec hb (hSK.Z h) hS hown (hts _ hl) (fun _ h => h) hd k0
  · refine va_gets hexec hb (hSK.Z h) hS hown (hts _ hl) (fun _ h => h) hd ?_
    rw [← cr_neg (by decide : (-20 : Int) < 0)]
    exact k1
theorem b_getSv {idx : Nat} (hd : decode mi.2.1 pc = .ok (.getfield idx, 3)) (hl : Cond.fieldLink mi.1.cls idx "java/lang/String" "value" "[B" ∈ lw_all) (hz : isSt z) (kk : B f mi (pc + 3) ls (vR (z - 10) :: st) m Q T) : B f mi pc ls (vR z :: st) m Q T := by
  intro E p e R s mt args below meth c n0 H locs lC X hn hW hS hL
  have kk := kk E p e R s mt args below meth c n0 H locs lC X hn hW hS hL
  obtain ⟨hexec, hb, hml, hown, hts, hrr, hlocks, hname, hSK, hsz⟩ := X
  obtain ⟨k, hk, rfl, hlen⟩ := st_nat hz
  have h1 := hSK.OF ((hSK.1.x.1.1 k hk).2.2.1)
  show W _ _ _ _ _ _ _ _ _ _ _ _ _ _ _ (F0 mt pc lC (cr E (-1 - (k : Int)) :: st.map (cv E)))
  rw [cr_neg (by omega)]
  refine vk_getf hexec hb h1 hS hown (hts _ hl) (fun _ h => h) hd ?_
  have e1 : cr E (-1 - (k : Int) - 10) = .ref (eX E (-11 - (k : Int))) := by rw [cr_neg (by omega), show -1 - (k : Int) - 10 = -11 - (k : Int) by omega]
  rw [← e1]
  exact kk
theorem b_getSc {idx : Nat} (hd : decode mi.2.1 pc = .ok (.getfield idx, 3)) (hl : Cond.fieldLink mi.1.cls idx "java/lang/String" "coder" "B" ∈ lw_all) (hz : isSt z) (kk : B f mi (pc + 3) ls (vI 0 :: st) m Q T) : B f mi pc ls (vR z :: st) m Q T := by
  intro E p e R s mt args below meth c n0 H locs lC X hn hW hS hL
  have kk := kk E p e R s mt args below meth c n0 H locs lC X hn hW hS hL
  obtain ⟨hexec, hb, hml, hown, hts, hrr, hlocks, hname, hSK, hsz⟩ := X
  obtain ⟨k, hk, rfl, hlen⟩ := st_nat hz
  have h1 := hSK.OF ((hSK.1.x.1.1 k hk).2.1)
  show W _ _ _ _ _ _ _ _ _ _ _ _ _ _ _ (F0 mt pc lC (cr E (-1 - (k : Int)) :: st.map (cv E)))
  rw [cr_neg (by omega)]
  exact vk_getf hexec hb h1 hS hown (hts _ hl) (fun _ h => h) hd kk
theorem b_lenS (hd : decode mi.2.1 pc = .ok (.arraylength, 1)) (hz : isSt (a + 10)) (kk : B f mi (pc + 1) ls (vI (sLen (a + 10)) :: st) m Q T) : B f mi pc ls (vR a :: st) m Q T := by
  intro E p e R s mt args below meth c n0 H locs lC X hn hW hS hL
  have kk := kk E p e R s mt args below meth c n0 H locs lC X hn hW hS hL
  obtain ⟨hexec, hb, hml, hown, hts, hrr, hlocks, hname, hSK, hsz⟩ := X
  obtain ⟨k, hk, hz2, hlen⟩ := st_nat hz
  have ea : a = -11 - (k : Int) := by omega
  subst ea
  have h1 := hSK.T ((hSK.1.x.1.1 k hk).2.2.2)
  show W _ _ _ _ _ _ _ _ _ _ _ _ _ _ _ (F0 mt pc lC (cr E (-11 - (k : Int)) :: st.map (cv E)))
  rw [cr_neg (by omega)]
  refine va_tlen (v := Int32.ofInt (sLen (-11 - (k : Int) + 10))) hexec hb h1 hS ?_ hd kk
  rw [← hlen]
  exact Int32.ofInt_eq_ofNat.symm
theorem b_baldS (hd : decode mi.2.1 pc = .ok (.baload, 1)) (hz : isSt (a + 10)) (hi : 0 ≤ i ∧ i < sLen (a + 10)) (kk : B f mi (pc + 1) ls (vI (sBy (a + 10) i) :: st) m Q T) : B f mi pc ls (vI i :: vR a :: st) m Q T := by
  intro E p e R s mt args below meth c n0 H locs lC X hn hW hS hL
  have kk := kk E p e R s mt args below meth c n0 H locs lC X hn hW hS hL
  obtain ⟨hexec, hb, hml, hown, hts, hrr, hlocks, hname, hSK, hsz⟩ := X
  obtain ⟨k, hk, hz2, hlen⟩ := st_nat hz
  have ea : a = -11 - (k : Int) := by omega
  subst ea
  have h1 := hSK.T ((hSK.1.x.1.1 k hk).2.2.2)
  have hb1 : sLen (-11 - (k : Int) + 10) ≤ 72 := by unfold sLen; split <;> (try split) <;> omega
  obtain ⟨e1, e2⟩ := ix_t (l := strL.getD k 0) hi.1 (by omega) (by omega)
  show W _ _ _ _ _ _ _ _ _ _ _ _ _ _ _ (F0 mt pc lC (.int (Int32.ofInt i) :: cr E (-11 - (k : Int)) :: st.map (cv E)))
  rw [cr_neg (by omega)]
  refine va_tb (v := .int (Int32.ofInt (sBy (-11 - (k : Int) + 10) i))) hexec hb h1 hS e2 ?_ hd kk
  rw [e1]
  unfold sBy
  rw [Int32.ofInt_toInt, show (-1 - (-11 - (k : Int) + 10)).toNat = k by omega]
theorem b_bret (hd : decode mi.2.1 pc = .ok (.ireturn, 1)) (hr : mi.2.2.2 = some .byte) (hx : -128 ≤ x ∧ x ≤ 127) (h : Q x m) : B f mi pc ls [vI x] m Q T := by
  intro E p e R s mt args below meth c n0 H locs lC X hn hW hS hL T0 hT X0
  obtain ⟨hexec, hb, x3, x4, x5, hrr, hlocks, x8⟩ := X
  rw [hr] at hrr
  have hnn : narrow .byte (.int (Int32.ofInt x)) = .int (Int32.ofInt x) := by
    have : (Int32.ofInt x).toInt8.toInt32 = Int32.ofInt x := by
      rw [← Int32.toInt_inj]
      simp only [Int32.toInt8_ofInt, Int8.toInt_toInt32]
      rw [ri_t (by omega), Int8.toInt_ofInt_of_le (by omega) (by omega)]
    show Value.int (Int32.ofInt x).toInt8.toInt32 = _
    rw [this]
  obtain ⟨fs, hret, hrun, hended, hWm, hframe⟩ := X0.leave (v := some (.int (Int32.ofInt x))) (fun h => by rw [hrr] at h; cases h)
  have hmeth' : T0.vm.method? mt = some meth := X0.method'
  refine ⟨T0.setFrames fs, ?_, .returned (some (.int (Int32.ofInt x))), hrun, hended, (NT, GG, m), Or.inl ⟨x, by rw [hr]; rfl, rfl, rfl, h⟩, hn, (by show WH E (NT, GG, m) T0.heap; rw [hT]; exact hW), hWm, locs, hframe, hS.2.2⟩
  show Steps p.tables e below (T0.setTop (F0 mt pc lC [.int (Int32.ofInt x)])) _
  jvm_step X0.here [X0.here.top, hexec, hb, hd, hmeth', hrr, hnn]
  (try refine ⟨rfl, ?_⟩); (try refine ⟨rfl, ?_⟩)
  first | (intro acts; rw [hret _ acts rfl rfl rfl]) | rw [hret _ _ rfl rfl rfl]
  exact Steps.refl _
theorem b_cret (hd : decode mi.2.1 pc = .ok (.ireturn, 1)) (hr : mi.2.2.2 = some .char) (hx : 0 ≤ x ∧ x ≤ 65535) (h : Q x m) : B f mi pc ls [vI x] m Q T := by
  intro E p e R s mt args below meth c n0 H locs lC X hn hW hS hL T0 hT X0
  obtain ⟨hexec, hb, x3, x4, x5, hrr, hlocks, x8⟩ := X
  rw [hr] at hrr
  have hnn : narrow .char (.int (Int32.ofInt x)) = .int (Int32.ofInt x) := by
    have e1 : Int32.ofInt x = nI x.toNat := by
      unfold nI
      rw [← Int32.ofInt_eq_ofNat]
      congr 1
      omega
    rw [e1]
    exact (pk_charN (by omega)).1
  obtain ⟨fs, hret, hrun, hended, hWm, hframe⟩ := X0.leave (v := some (.int (Int32.ofInt x))) (fun h => by rw [hrr] at h; cases h)
  have hmeth' : T0.vm.method? mt = some meth := X0.method'
  refine ⟨T0.setFrames fs, ?_, .returned (some (.int (Int32.ofInt x))), hrun, hended, (NT, GG, m), Or.inl ⟨x, by rw [hr]; rfl, rfl, rfl, h⟩, hn, (by show WH E (NT, GG, m) T0.heap; rw [hT]; exact hW), hWm, locs, hframe, hS.2.2⟩
  show Steps p.tables e below (T0.setTop (F0 mt pc lC [.int (Int32.ofInt x)])) _
  jvm_step X0.here [X0.here.top, hexec, hb, hd, hmeth', hrr, hnn]
  (try refine ⟨rfl, ?_⟩); (try refine ⟨rfl, ?_⟩)
  first | (intro acts; rw [hret _ acts rfl rfl rfl]) | rw [hret _ _ rfl rfl rfl]
  exact Steps.refl _
/-- a call through a String -/
theorem b_cO {idx : Nat} (hd : decode mi.2.1 pc = .ok (.invokevirtual idx, 3)) (mf : MF mi' false np) (hse : Cond.selects mi'.1.cls mi'.1 mi'.1 ∈ lw_all) (lk : Cond.methodLink mi.1.cls idx mi'.1 ∈ lw_all) (hz : isSt z) (hC : mi'.1.cls = "java/lang/String") (hM : CC f' mi' (vR z :: as) m Q' T') (hf : f' + 1 ≤ f) (hn : as.length = np) (hs : as.reverse ++ vR z :: st = stk) (hst : st.length ≤ 10) (hnr : mi.1.name ≠ "reads") (hlen : ls.length = mi.2.2.1) (hr : ∀ x, rs mi'.2.2.2 x = [vI x])
    (kQ : ∀ x m', Q' x m' → B f mi (pc + 3) ls (vI x :: st) m' Q T) (kT : ∀ m', T' m' → T m') : B f mi pc ls stk m Q T := by
  subst hs
  intro E p e R s mt args below meth c n0 H locs lC X hn0 hW hS hL T0 hT X0
  obtain ⟨hexec, hb, hml, hown, hts, hrr, hlocks, hname, hSK, hsz, -⟩ := id X
  obtain ⟨w1, w2, w3, w4, w5, w6, w7⟩ := id mf
  obtain ⟨mk, methM, hnamed, hmethM, hstM, habM⟩ := Cond.instanceMethod_spec (hts _ (w7 rfl))
  obtain ⟨methM', cM, hmethM', -, -, -, -, -, -, hsigM⟩ := Cond.code_spec hnamed (hts _ w1)
  cases hmethM.symm.trans hmethM'
  obtain ⟨c2, r2, m2, q1, q2, q3, q4, kP, hkP, hkPi⟩ := Cond.selects_spec (hts _ hse)
  obtain ⟨k, hk, rfl, -⟩ := st_nat hz
  obtain ⟨cellB, g1, g2, g3, -⟩ := ((hSK.O ((hSK.1.x.1.1 k hk).1)).kept hS.2.1)
  have hcls : s.vm.findClass mi'.1.cls = some cellB.cls := by rw [hC]; exact g3
  cases hcls.symm.trans q1
  cases (State.methodFound?_of_named hnamed w3).symm.trans q2
  cases hnamed.symm.trans q3
  have hselP : selectMethod e.platform s.vm cellB.cls mk = .method mk := by rw [Launch.admits_selectMethod X0.admits]; exact q4
  have hcr : cr E (-1 - (k : Int)) = .ref (eX E (-1 - (k : Int))) := cr_neg (by omega)
  have hst2 : (F0 mt pc lC ((as.reverse ++ vR (-1 - (k : Int)) :: st).map (cv E))).stack = (as.map (cv E)).reverse ++ .ref (eX E (-1 - (k : Int))) :: st.map (cv E) := by
    show (as.reverse ++ vR (-1 - (k : Int)) :: st).map (cv E) = _
    rw [List.map_append, List.map_reverse, List.map_cons, show cv E (vR (-1 - (k : Int))) = cr E (-1 - (k : Int)) from rfl, hcr]
  have hlen2 : (as.map (cv E)).length = methM.sig.parameters.length := by
    rw [hsigM] at w4
    rw [List.length_map, hn]
    exact (Option.some.inj w4).symm
  have hargs : (Value.ref (eX E (-1 - (k : Int))) :: as.map (cv E)).toArray = ((vR (-1 - (k : Int)) :: as).map (cv E)).toArray := by
    rw [List.map_cons, show cv E (vR (-1 - (k : Int))) = cr E (-1 - (k : Int)) from rfl, hcr]
  obtain ⟨vm₁, X₁, hstep₁⟩ := X0.invokevirtual hexec hown (hts _ lk) hnamed hmethM hstM hkP hkPi w3 (a := eX E (-1 - (k : Int))) (cell := cellB) (by rw [hT]; exact g1)
    (fun z h => by rw [h] at g2; cases g2) hselP hmethM habM hkP hkPi (g := F0 mt pc lC ((as.reverse ++ vR (-1 - (k : Int)) :: st).map (cv E))) rfl (argsL := as.map (cv E)) (rest := st.map (cv E)) hlen2 hst2 (by rw [hb]; exact hd)
  rw [hargs] at hstep₁
  exact call_fin mf hM hf hst hnr (fun x σ h => by obtain ⟨n, r, m'⟩ := σ; obtain ⟨h1, h2, h3⟩ := h; cases h1; cases h2; rw [hr]; exact kQ x m' h3) (fun σ h => by obtain ⟨n, r, m'⟩ := σ; obtain ⟨h1, h2, h3⟩ := h; exact ⟨h1, h2, kT m' h3⟩) X hn0 hW hS hL hlen hT X₁ hnamed hd hstep₁
end OUT
