set_option maxRecDepth 100000
/-! ROWS: what is rarer -/
def cpm (m : MM) (a s b d n : Int) : MM := fun c j => if c = b ∧ d ≤ j ∧ j < d + n then m a (s + (j - d)) else m c j
def inI (a i : Int) : Prop := ∃ l : Nat, lyA a = some (.inl (0, l)) ∧ 0 ≤ i ∧ i < (l : Int)
/-- so many places of an array from one on -/
def inR (a : Int) (kd : Nat) (i n : Int) : Prop := ∃ l : Nat, lyA a = some (.inl (kd, l)) ∧ 0 ≤ i ∧ i + n ≤ (l : Int)
def bas (i : Int) : Int := if i = 0 then 0 else if i = 1 then 1 else if i = 2 then 20000 else 20001
theorem nat_t {z : Int} (h : RI z) (h0 : 0 ≤ z) : (Int32.ofInt z).toNatClampNeg = z.toNat ∧ ¬ Int32.ofInt z < 0 := by
  have e := ri_t h
  refine ⟨by rw [show (Int32.ofInt z).toNatClampNeg = (Int32.ofInt z).toInt.toNat from rfl, e], fun q => ?_⟩
  have := (ri_lt h (by decide : RI 0)).mp q
  omega
theorem isAt.len2 {σ : SG} {a : Int} {k l : Nat} (h : isAt σ a (.inl (k, l))) : l ≤ 2000000 := by
  have h1 := List.mem_of_getElem? (lyA_pos h.1).2.1
  have h2 : ∀ y ∈ layL, slN y ≤ 2000000 := by decide +kernel
  exact h2 _ h1
section MORE
variable {f pc : Nat} {mi : MI} {ls st : List AV} {n : Nat} {r m : MM} {Q : Int → SG → Prop} {T : SG → Prop} {x y z a b i sp dp len : Int}
theorem a_copy {idx kd : Nat} {ty : FieldType} (hd : decode mi.2.1 pc = .ok (.invokestatic idx, 3)) (lk : Cond.methodLink mi.1.cls idx arraycopyName ∈ lw_all) (hkd : (kd = 0 ∧ ty = .int) ∨ (kd = 2 ∧ ty = .byte)) (hn : 0 ≤ len) (ha : inR a kd sp len) (hb : inR b kd dp len) (haN : a ≤ n) (hbN : b ≤ n) (hfit : ∀ j : Int, 0 ≤ j → j < len → kd = 2 → -128 ≤ m a (sp + j) ∧ m a (sp + j) ≤ 127) (hf : 1 ≤ f) (hst : st.length ≤ 10) (hlen : ls.length = mi.2.2.1)
    (kk : A f mi (pc + 3) ls st (n, r, cpm m a sp b dp len) Q T) : A f mi pc ls (vI len :: vI dp :: vR b :: vI sp :: vR a :: st) (n, r, m) Q T := by
  obtain ⟨l0, hl0, hs1, hs2⟩ := ha
  obtain ⟨l1, hl1, hs3, hs4⟩ := hb
  have ha' : isAt (n, r, m) a (.inl (kd, l0)) := ⟨hl0, haN⟩
  have hb' : isAt (n, r, m) b (.inl (kd, l1)) := ⟨hl1, hbN⟩
  intro E p e R s mt args below meth c n0 H locs lC X hn0 hW hS hL T0 hT X0
  obtain ⟨hexec, hbb, hml, hown, hts, hrr, hlocks, hname, hSK, hsz, hR1, hR2, hR3⟩ := id X
  have p0 := (lyA_pos hl0).1
  have p1 := (lyA_pos hl1).1
  have b0 := ha'.len2
  have b1 := hb'.len2
  obtain ⟨t1, u1⟩ := nat_t (z := sp) (by omega) hs1
  obtain ⟨t2, u2⟩ := nat_t (z := dp) (by omega) hs3
  obtain ⟨t3, u3⟩ := nat_t (z := len) (by omega) hn
  have v1 := ri_t (x := sp) (by omega)
  have v2 := ri_t (x := dp) (by omega)
  have v3 := ri_t (x := len) (by omega)
  have harr : ∀ (q : Int) (l : Nat), ent E (r q) (m q) (.inl (kd, l)) = .inl (eA E kd, l, .inl (fun i : Nat => Int32.ofInt (m q i))) := by
    intro q l
    rcases hkd with ⟨rfl, -⟩ | ⟨rfl, -⟩ <;> rfl
  have hc0 : H[adr E a]? = some (vp_cell (eA E kd) (l0, .inl (fun i : Nat => Int32.ofInt (m a i)))) := by
    have h := hW.at ha'
    rw [show ((n, r, m) : SG).2.1 = r from rfl, show ((n, r, m) : SG).2.2 = m from rfl, harr] at h
    exact h
  have hc1 : H[adr E b]? = some (vp_cell (eA E kd) (l1, .inl (fun i : Nat => Int32.ofInt (m b i)))) := by
    have h := hW.at hb'
    rw [show ((n, r, m) : SG).2.1 = r from rfl, show ((n, r, m) : SG).2.2 = m from rfl, harr] at h
    exact h
  have hK : ArrOfT s (eA E kd) ty := by
    rcases hkd with ⟨rfl, rfl⟩ | ⟨rfl, rfl⟩
    · exact (hSK.K.2 0 _ rfl).1
    · exact (hSK.K.2 2 _ rfl).1
  have hprim : refKind ty = false := by rcases hkd with ⟨rfl, rfl⟩ | ⟨rfl, rfl⟩ <;> rfl
  obtain ⟨-, k0, hk0, cm0, hkk0⟩ := hK l0 (fun j => .int (Int32.ofInt (m a j)))
  obtain ⟨-, k1, hk1, cm1, hkk1⟩ := hK l1 (fun j => .int (Int32.ofInt (m b j)))
  have hgoal : (vI len :: vI dp :: vR b :: vI sp :: vR a :: st).map (cv E) = .int (Int32.ofInt len) :: .int (Int32.ofInt dp) :: .ref (adr E b) :: .int (Int32.ofInt sp) :: .ref (adr E a) :: st.map (cv E) := by
    show Value.int (Int32.ofInt len) :: .int (Int32.ofInt dp) :: cr E b :: .int (Int32.ofInt sp) :: cr E a :: st.map (cv E) = _
    rw [cr_pos p0, cr_pos p1]
  rw [hgoal]
  obtain ⟨vm', X', step⟩ := X0.arraycopy hexec hown (hts _ lk) (hts _ q761) (hts _ q760) (hts _ q229) (src := adr E a) (dst := adr E b) (cs := vp_cell (eA E kd) (l0, .inl (fun i : Nat => Int32.ofInt (m a i)))) (cd := vp_cell (eA E kd) (l1, .inl (fun i : Nat => Int32.ofInt (m b i)))) (srcPos := Int32.ofInt sp) (destPos := Int32.ofInt dp) (n := Int32.ofInt len) (by rw [hT]; exact hc0) (by rw [hT]; exact hc1)
    (fun _ h => by cases h) (fun _ h => by cases h) (fun h => by cases h) (fun h => by cases h) hk0 hk1 hkk0 hkk1 (by simp [hprim]) u1 u2 u3
    (by rw [v1, v3]; show ¬ _ > ((arrV _ l0 _).slots.size : Int); rw [arrV_size]; omega)
    (by rw [v2, v3]; show ¬ _ > ((arrV _ l1 _).slots.size : Int); rw [arrV_size]; omega)
    (fun vm₁ _ i hi => by
      rw [t3] at hi
      rw [t1]
      have e : (vp_cell (eA E kd) (l0, .inl (fun i : Nat => Int32.ofInt (m a i)))).slots.getD (sp.toNat + i) .null = .int (Int32.ofInt (m a ((sp.toNat + i : Nat) : Int))) := by
        show (arrV _ l0 (fun j : Nat => .int (Int32.ofInt (m a j)))).slots.getD _ _ = _
        rw [Array.getD_eq_getD_getElem?, arrV_read _ _ (by omega)]
        rfl
      rw [e]
      refine ⟨?_, trivial⟩
      rcases hkd with ⟨rfl, rfl⟩ | ⟨rfl, rfl⟩
      · rfl
      · have hh := hfit i (by omega) (by omega) rfl
        rw [show sp + (i : Int) = ((sp.toNat + i : Nat) : Int) by omega] at hh
        generalize m a ((sp.toNat + i : Nat) : Int) = w at hh
        have : (Int32.ofInt w).toInt8.toInt32 = Int32.ofInt w := by
          rw [← Int32.toInt_inj]
          simp only [Int32.toInt8_ofInt, Int8.toInt_toInt32]
          rw [ri_t (by omega), Int8.toInt_ofInt_of_le (by omega) (by omega)]
        rw [← this]
        exact pk_fb _)
    (g := F0 mt pc lC (.int (Int32.ofInt len) :: .int (Int32.ofInt dp) :: .ref (adr E b) :: .int (Int32.ofInt sp) :: .ref (adr E a) :: st.map (cv E))) rfl (by rw [hml, ← hlen]; exact hL.1) (rest := st.map (cv E)) rfl (by rw [hbb]; exact hd) (by omega)
    (by
      have hcat := cats_le E st
      have hw : nativeFrameWords "java/lang/System" "arraycopy" 5 = 5 ∨ nativeFrameWords "java/lang/System" "arraycopy" 5 ≤ 30 := Or.inr (by decide)
      show 2 * 0 + ((st.map (cv E)).map fun v => v.category).sum + (nativeFrameWords "java/lang/System" "arraycopy" 5 + 11) ≤ _
      have hw2 : nativeFrameWords "java/lang/System" "arraycopy" 5 ≤ 30 := by decide
      omega)
  have hcopied : copied (vp_cell (eA E kd) (l0, .inl (fun i : Nat => Int32.ofInt (m a i)))) (vp_cell (eA E kd) (l1, .inl (fun i : Nat => Int32.ofInt (m b i)))) (Int32.ofInt sp) (Int32.ofInt dp) (Int32.ofInt len) = vp_cell (eA E kd) (l1, .inl (va_cpy (fun i : Nat => Int32.ofInt (m a i)) (fun i : Nat => Int32.ofInt (m b i)) (Int32.ofInt sp).toNatClampNeg (Int32.ofInt dp).toNatClampNeg (Int32.ofInt len).toNatClampNeg)) := by
    have hle : (Int32.ofInt sp).toNatClampNeg + (Int32.ofInt len).toNatClampNeg ≤ l0 := by rw [t1, t3]; omega
    exact va_copied (fun z => .int z) (eA E kd) (eA E kd) (n0 := l0) (n1 := l1) (dp := (Int32.ofInt dp).toNatClampNeg) (fun i : Nat => Int32.ofInt (m a i)) (fun i : Nat => Int32.ofInt (m b i)) hle
  have hfun : va_cpy (fun i : Nat => Int32.ofInt (m a i)) (fun i : Nat => Int32.ofInt (m b i)) (Int32.ofInt sp).toNatClampNeg (Int32.ofInt dp).toNatClampNeg (Int32.ofInt len).toNatClampNeg = fun i : Nat => Int32.ofInt (cpm m a sp b dp len b i) := by
    rw [t1, t2, t3]
    funext k
    unfold va_cpy cpm
    by_cases h : dp.toNat ≤ k ∧ k < dp.toNat + len.toNat
    · rw [if_pos h, if_pos ⟨rfl, by omega, by omega⟩]
      have e2 : ((sp.toNat + (k - dp.toNat) : Nat) : Int) = sp + ((k : Int) - dp) := by omega
      show Int32.ofInt (m a ((sp.toNat + (k - dp.toNat) : Nat) : Int)) = _
      rw [e2]
    · rw [if_neg h, if_neg (by omega)]
  rw [hfun] at hcopied
  rw [hcopied] at X' step
  have hl : adr E b < H.size := (Array.getElem?_eq_some_iff.mp hc1).1
  have hheap : ((T0.setVm vm').setCell (adr E b) (vp_cell (eA E kd) (l1, .inl (fun i : Nat => Int32.ofInt (cpm m a sp b dp len b i))))).heap = H.setIfInBounds (adr E b) (vp_cell (eA E kd) (l1, .inl (fun i : Nat => Int32.ofInt (cpm m a sp b dp len b i)))) := by rw [← hT]; rfl
  have oq : ∀ q : Nat, q ≠ adr E b → (H.setIfInBounds (adr E b) (vp_cell (eA E kd) (l1, .inl (fun i : Nat => Int32.ofInt (cpm m a sp b dp len b i)))))[q]? = H[q]? := fun q hq => by simp [Array.getElem?_setIfInBounds, Ne.symm hq]
  have hW' : WH E (n, r, cpm m a sp b dp len) (H.setIfInBounds (adr E b) (vp_cell (eA E kd) (l1, .inl (fun i : Nat => Int32.ofInt (cpm m a sp b dp len b i))))) := by
    refine hW.put hb' (by simp) oq ?_ (fun q hq => ⟨rfl, ?_⟩)
    · have h2 : ent E (r b) (cpm m a sp b dp len b) (.inl (kd, l1)) = .inl (eA E kd, l1, .inl (fun i : Nat => Int32.ofInt (cpm m a sp b dp len b i))) := by
        rcases hkd with ⟨rfl, -⟩ | ⟨rfl, -⟩ <;> rfl
      rw [h2]
      show (H.setIfInBounds (adr E b) _)[adr E b]? = some _
      simp [Array.getElem?_setIfInBounds, hl]
    · funext j
      unfold cpm
      rw [if_neg (fun q2 => hq q2.1)]
  obtain ⟨t, a1, b1⟩ := kk E p e R s mt args below meth c n0 _ _ lC X hn0 hW' ⟨by simp; exact hS.1, fun q g1 g2 => by
      rw [oq q (fun e => g2 (by rw [e, adr_pos p1]; exact Nat.le_add_right _ _))]
      exact hS.2.1 q g1 g2, fun q hq => by
      rcases List.mem_append.mp hq with h | h
      · exact hS.2.2 q h
      · obtain ⟨z, -, hz⟩ := List.mem_map.mp h
        rw [← hz, adr_pos p1]
        exact Nat.le_add_right _ _⟩ hL _ hheap X'
  exact ⟨t, step t a1, b1⟩
end MORE
def lXor (x y : Int) : Int := (Int64.ofInt x ^^^ Int64.ofInt y).toInt
def iUshr (x y : Int) : Int := ((Int32.ofInt x).toUInt32 >>> ((Int32.ofInt y).toUInt32 &&& Int32.toUInt32 31)).toInt32.toInt
def inL (a i : Int) : Prop := ∃ l : Nat, lyA a = some (.inl (1, l)) ∧ 0 ≤ i ∧ i < (l : Int)
section MOREB
variable {f pc : Nat} {mi : MI} {ls st : List AV} {m : MM} {Q : Int → MM → Prop} {T : MM → Prop} {x y z a b i j sp dp len : Int}
theorem b_copyi {idx : Nat} (hd : decode mi.2.1 pc = .ok (.invokestatic idx, 3)) (lk : LK mi.1.cls idx arraycopyName) (hn : 0 ≤ len) (ha : inR a 0 sp len) (hb : inR b 0 dp len) (hf : 1 ≤ f) (hst : st.length ≤ 10) (hlen : ls.length = mi.2.2.1) (kk : ∀ m1 : MM, m1 = cpm m a sp b dp len → B f mi (pc + 3) ls st m1 Q T) : B f mi pc ls (vI len :: vI dp :: vR b :: vI sp :: vR a :: st) m Q T := by
  rcases lk with lk | ⟨h, lk⟩
  · exact a_copy (kd := 0) (ty := .int) hd lk (Or.inl ⟨rfl, rfl⟩) hn ha hb (by obtain ⟨l, h, -⟩ := ha; exact (lyA_pos h).2.2) (by obtain ⟨l, h, -⟩ := hb; exact (lyA_pos h).2.2) (fun _ _ _ h => by cases h) hf hst hlen (kk _ rfl)
  · exact absurd lk (by
      have : ∀ w ∈ lw_tbl, (match w with | .methodLinkNest _ _ y _ => decide (y = arraycopyName) | _ => false) = false := by decide +kernel
      intro h1
      have h2 := this _ h1
      simp at h2)
theorem b_copyb {idx : Nat} (hd : decode mi.2.1 pc = .ok (.invokestatic idx, 3)) (lk : LK mi.1.cls idx arraycopyName) (hn : 0 ≤ len) (ha : inR a 2 sp len) (hb : inR b 2 dp len) (hfit : ∀ j : Int, 0 ≤ j → j < len → -128 ≤ m a (sp + j) ∧ m a (sp + j) ≤ 127) (hf : 1 ≤ f) (hst : st.length ≤ 10) (hlen : ls.length = mi.2.2.1) (kk : ∀ m1 : MM, m1 = cpm m a sp b dp len → B f mi (pc + 3) ls st m1 Q T) : B f mi pc ls (vI len :: vI dp :: vR b :: vI sp :: vR a :: st) m Q T := by
  rcases lk with lk | ⟨h, lk⟩
  · exact a_copy (kd := 2) (ty := .byte) hd lk (Or.inr ⟨rfl, rfl⟩) hn ha hb (by obtain ⟨l, h, -⟩ := ha; exact (lyA_pos h).2.2) (by obtain ⟨l, h, -⟩ := hb; exact (lyA_pos h).2.2) (fun j h1 h2 _ => hfit j h1 h2) hf hst hlen (kk _ rfl)
  · exact absurd lk (by
      have : ∀ w ∈ lw_tbl, (match w with | .methodLinkNest _ _ y _ => decide (y = arraycopyName) | _ => false) = false := by decide +kernel
      intro h1
      have h2 := this _ h1
      simp at h2)
theorem b_getMe {idx ci : Nat} {fin : Bool} {ty : FieldType} (hd : decode mi.2.1 pc = .ok (.getfield idx, 3)) (fk : FK mi.1.cls idx ci j 7 fin ty) (ha : lyA a = some (.inr ci)) (he : m a j = z) (kk : B f mi (pc + 3) ls (vR z :: st) m Q T) : B f mi pc ls (vR a :: st) m Q T := by
  subst he
  exact b_getM hd fk ha kk
theorem b_ialdX (hd : decode mi.2.1 pc = .ok (.iaload, 1)) (hi : inI a i) (kk : B f mi (pc + 1) ls (vI (m a i) :: st) m Q T) : B f mi pc ls (vI i :: vR a :: st) m Q T := by
  obtain ⟨l, h1, h2⟩ := hi
  exact b_iald hd h1 h2 kk
theorem b_iastX (hd : decode mi.2.1 pc = .ok (.iastore, 1)) (hi : inI a i) (kk : ∀ m1 : MM, m1 = up m a i x → B f mi (pc + 1) ls st m1 Q T) : B f mi pc ls (vI x :: vI i :: vR a :: st) m Q T := by
  obtain ⟨l, h1, h2⟩ := hi
  exact b_iast hd h1 h2 kk
theorem b_lxor (hd : decode mi.2.1 pc = .ok (.lxor, 1)) (k : B f mi (pc + 1) ls (vL (lXor x y) :: st) m Q T) : B f mi pc ls (vL y :: vL x :: st) m Q T := by
  intro E p e R s mt args below meth c n0 H locs lC X hn hW hS hL
  have k := k E p e R s mt args below meth c n0 H locs lC X hn hW hS hL
  refine lv_lxor X.1 X.2.1 hd ?_
  have e1 : Int64.ofInt x ^^^ Int64.ofInt y = Int64.ofInt (lXor x y) := (Int64.ofInt_toInt _).symm
  rw [e1]
  exact k
theorem b_iushr (hd : decode mi.2.1 pc = .ok (.iushr, 1)) (k : B f mi (pc + 1) ls (vI (iUshr x y) :: st) m Q T) : B f mi pc ls (vI y :: vI x :: st) m Q T := by
  intro E p e R s mt args below meth c n0 H locs lC X hn hW hS hL
  have k := k E p e R s mt args below meth c n0 H locs lC X hn hW hS hL
  exact lv_iushr X.1 X.2.1 hd (Int32.ofInt_toInt _).symm k
theorem b_laldX (hd : decode mi.2.1 pc = .ok (.laload, 1)) (hi : inL a i) (kk : B f mi (pc + 1) ls (vL (m a i) :: st) m Q T) : B f mi pc ls (vI i :: vR a :: st) m Q T := by
  obtain ⟨l, h1, h2⟩ := hi
  exact b_lald hd h1 h2 kk
theorem b_lastX (hd : decode mi.2.1 pc = .ok (.lastore, 1)) (hi : inL a i) (kk : ∀ m1 : MM, m1 = up m a i x → B f mi (pc + 1) ls st m1 Q T) : B f mi pc ls (vL x :: vI i :: vR a :: st) m Q T := by
  obtain ⟨l, h1, h2⟩ := hi
  exact b_last hd h1 h2 kk
end MOREB
