set_option maxRecDepth 100000
/-! the model's tasks: matrices -/
def matU (sz : Nat) (g : Nat → VV) (idx : Nat) : VV := fun i j => if ((0 ≤ i ∧ i < (sz : Int)) ∧ (0 ≤ j ∧ j < (sz : Int))) ∧ (sz : Int) * i + j < (idx : Int) then g ((sz : Int) * i + j).toNat 0 0 else zr
theorem matU_0 {sz : Nat} {g : Nat → VV} : matU sz g 0 = zV := by
  funext i j
  unfold matU
  by_cases c : ((0 ≤ i ∧ i < (sz : Int)) ∧ (0 ≤ j ∧ j < (sz : Int))) ∧ (sz : Int) * i + j < ((0 : Nat) : Int)
  · exfalso
    have : 0 ≤ (sz : Int) * i := Int.mul_nonneg (by omega) c.1.1.1
    omega
  · rw [if_neg c]; rfl
theorem matU_end {sz : Nat} {g : Nat → VV} (h1 : 1 ≤ sz ∧ sz ≤ 3) : matU sz g (sz * sz) = matV (sz : Int) g := by
  funext i j
  unfold matU matV
  have r : rws (sz : Int) = (sz : Int) := by show max 1 (sz : Int) = _; omega
  rw [r]
  by_cases c : (0 ≤ i ∧ i < (sz : Int)) ∧ (0 ≤ j ∧ j < (sz : Int))
  · rw [if_pos c, if_pos]
    refine ⟨c, ?_⟩
    have cs : sz = 1 ∨ sz = 2 ∨ sz = 3 := by omega
    rcases cs with e | e | e <;> subst e <;> omega
  · rw [if_neg c, if_neg (fun z => c z.1)]
theorem flatZ_len {sz : Nat} : ∀ {rs : List (List Int)}, (∀ r, r ∈ rs → r.length = sz) → rs.flatten.length = sz * rs.length := by
  intro rs
  induction rs with
  | nil => intro _; simp
  | cons r rs ih =>
    intro h
    rw [List.flatten_cons, List.length_append, ih (fun q hq => h q (List.mem_cons_of_mem _ hq)), h r (by simp), List.length_cons, Nat.mul_succ]
    omega
theorem flat_at {done rest : List (List Int)} {rowdone rowrest : List Int} {c : Int} {i : Nat} (hi : done.flatten.length + rowdone.length = i) : (done ++ (rowdone ++ c :: rowrest) :: rest).flatten[i]? = some c := by
  rw [List.flatten_append, List.flatten_cons, ← hi, List.getElem?_append_right (by omega), Nat.add_sub_cancel_left, List.append_assoc, List.getElem?_append_right (by omega), Nat.sub_self]
  rfl
theorem RWM_at {m : MM} : ∀ {done rest : List (List Int)} {row : List Int} {i : Int}, RWM m i (done ++ row :: rest) → ∃ r, RWM m r (row :: rest) := by
  intro done
  induction done with
  | nil => intro rest row i h; exact ⟨i, h⟩
  | cons d done ih => intro rest row i h; exact ih h.2.2.2
theorem RWM_ne {m : MM} {r : Int} {row : List Int} {rest : List (List Int)} (h : RWM m r (row :: rest)) : m 594 r ≠ r := by
  intro e
  have h2 := h.2.2.2
  rw [e] at h2
  have := RWM_uniq h h2 (fun _ _ _ => rfl)
  have l := congrArg List.length this
  rw [List.length_cons] at l
  omega
/-- the cursor -/
def CurM (ms : MM) (sz : Nat) (k r o c : Int) (done : List (List Int)) (rowdone rowrest : List Int) (rest : List (List Int)) (idx : Nat) : Prop := RWM ms (ms 591 k) (done ++ (rowdone ++ c :: rowrest) :: rest) ∧ ((∀ q, q ∈ done ++ (rowdone ++ c :: rowrest) :: rest → q.length = sz) ∧ (done ++ (rowdone ++ c :: rowrest) :: rest).length = sz) ∧ RWM ms r ((rowdone ++ c :: rowrest) :: rest) ∧ ITM ms o (c :: rowrest) ∧ sz * done.length + rowdone.length = idx
def SimA (F : Int → FnR) (n : Int) (S : SGm) (ms : MM) (E : EVm) (h : Int) (sz : Nat) (a : PT) (idx : Nat) (g : Nat → VV) (s : ES) (r : ER) : Prop := r.1 ≠ .error 99 → ∃ N : Nat, ∀ (k : Int) (Q : Int → MM → Prop) (m : MM) (pb : Int) (T : List Tk) (l : List VV) (R : Nat) (r' o c : Int) (done : List (List Int)) (rowdone rowrest : List Int) (rest : List (List Int)), CurM ms sz k r' o c done rowdone rowrest rest idx → VmS m F n S ms E h pb ((0, c, 0, 0, 0) :: (7, k, r', o, 3 * (done.length : Int) + (rowdone.length : Int)) :: T) (matU sz g idx :: l) s → NmM E h pb l → SbM F S ms E.1 h a k → bdM E l T (wT a) (szT a.2) → OutZ F n S ms Q E h pb T l m R r → GoM Q (R + N) m
section VMM
variable {Q : Int → MM → Prop} {m m' m0 m1 ms : MM} {F : Int → FnR} {n : Int} {S : SGm} {E : EVm} {h pb : Int} {T T' : List Tk} {l l' pre : List VV} {s s' : ES} {R r NB r' : Nat} {a b : PT} {k cl lo : Int} {e : JE} {x z y r0 r1 : R3} {V U W : VV} {res : EX VV} {ro : Int} {cs : List Int} {rc : List R3} {rA rB rr : ER} {sz idx : Nat} {g : Nat → VV} {rec : EVm → PT → ES → ER}
/-- one entry is laid -/
theorem VM_ent {p : Int} (hz : sz ≤ 3) {i j : Nat} (hi : i < sz) (hj : j < sz) (ei : sz * i + j = idx) (vp : VM (m 635) p (matU sz g idx)) (vv : Rw (m' 635) (p + 98 * (3 * (i : Int) + (j : Int))) (V 0 0) 49) (f : ∀ q, ¬ (p + 98 * (3 * (i : Int) + (j : Int)) ≤ q ∧ q < p + 98 * (3 * (i : Int) + (j : Int)) + 98) → m' 635 q = m 635 q) : VM (m' 635) p (matU sz (fun k => if k = idx then V else g k) (idx + 1)) := by
  intro i' j' hi' hj' q q0 q1
  unfold in3 at hi' hj'
  by_cases c : i' = (i : Int) ∧ j' = (j : Int)
  · obtain ⟨rfl, rfl⟩ := c
    have e : matU sz (fun k => if k = idx then V else g k) (idx + 1) (i : Int) (j : Int) = V 0 0 := by
      unfold matU
      have e1 : (sz : Int) * (i : Int) + (j : Int) = (idx : Int) := by rw [← ei]; omega
      rw [if_pos ⟨⟨⟨by omega, by omega⟩, ⟨by omega, by omega⟩⟩, by rw [e1]; omega⟩, e1]
      show (if (idx : Int).toNat = idx then V else g (idx : Int).toNat) 0 0 = V 0 0
      rw [if_pos (by omega)]
    rw [e]
    exact vv q q0 q1
  · have e : matU sz (fun k => if k = idx then V else g k) (idx + 1) i' j' = matU sz g idx i' j' := by
      unfold matU
      by_cases d : (0 ≤ i' ∧ i' < (sz : Int)) ∧ (0 ≤ j' ∧ j' < (sz : Int))
      · have ne : (sz : Int) * i' + j' ≠ (idx : Int) := by
          intro z
          have e1 : (sz : Int) * (i : Int) + (j : Int) = (idx : Int) := by rw [← ei]; omega
          have cs : sz = 1 ∨ sz = 2 ∨ sz = 3 := by omega
          apply c
          rcases cs with q | q | q <;> subst q <;> omega
        have nn : 0 ≤ (sz : Int) * i' := Int.mul_nonneg (by omega) d.1.1
        by_cases c2 : (sz : Int) * i' + j' < (idx : Int)
        · rw [if_pos ⟨d, by omega⟩, if_pos ⟨d, c2⟩]
          show (if ((sz : Int) * i' + j').toNat = idx then V else g ((sz : Int) * i' + j').toNat) 0 0 = _
          rw [if_neg (by omega)]
        · rw [if_neg (fun z => by have := z.2; omega), if_neg (fun z => c2 z.2)]
      · rw [if_neg (fun z => d z.1), if_neg (fun z => d z.1)]
    rw [e, f _ (by omega), f _ (by omega)]
    exact vp i' j' hi' hj' q q0 q1
/-- an entry was worked -/
theorem c_entry {r' o c : Int} {done rest : List (List Int)} {rowdone rowrest : List Int} (hk : a.1.1 = 7) (hz : 1 ≤ sz ∧ sz ≤ 3) (hx : rgS E.1 a.1 a.2 = some x) (z3 : ok3 (x.1, x.2.1, 0)) (xm : okMo x.1 E.2.1) (C : CurM ms sz k r' o c done rowdone rowrest rest idx) (hy : (0 ≤ c ∧ c < 12000) ∧ rgM m c (some y)) (y3 : ok3 y) (ym : okMo y.1 E.2.1) (hg : gs y (x.1, x.2.1, 0)) (v : VR E.2.1 y V) (H : VmS m F n S ms E h pb T (V :: matU sz g idx :: l) s) (hS : SbM F S ms E.1 h a k) (hl : l.length + 1 ≤ 1800) (K1 : (rowrest = [] ∧ rest = []) → ∀ m', VmS m' F n S ms E h pb T (matU sz (fun k => if k = idx then conv E.2.1 y (x.1, x.2.1, 0) V else g k) (idx + 1) :: l) s → Fvm E.2.2.1 S.2.2.2.1 m m' → Q 0 m') (K2 : ∀ (r2 o2 c2 : Int) (done2 rest2 : List (List Int)) (rd2 rr2 : List Int) (m' : MM), CurM ms sz k r2 o2 c2 done2 rd2 rr2 rest2 (idx + 1) → VmS m' F n S ms E h pb T (matU sz (fun k => if k = idx then conv E.2.1 y (x.1, x.2.1, 0) V else g k) (idx + 1) :: l) s → Fvm E.2.2.1 S.2.2.2.1 m m' → (0 ≤ o2 ∧ o2 < 12000) → m' 591 o2 = c2 → P_X10_later_2 7 k r2 o2 (3 * (done2.length : Int) + (rd2.length : Int)) m' (fun _ m7 => (0 ≤ o2 ∧ o2 < 12000) ∧ P_X10_later (m7 591 o2) m7 (fun _ m8 => Q 0 m8))) : P_X10_evalEntry k r' o (3 * (done.length : Int) + (rowdone.length : Int)) m Q := by
  obtain ⟨C1, ⟨C2, C3⟩, C4, C5, C6⟩ := id C
  obtain ⟨cs, N⟩ := H.node hS
  have fs := H.1.2.2.2.2.1
  obtain ⟨⟨A1, A2, A3⟩, -⟩ := N.2.2.2.1.ring hx
  have ITo : ITM m o (c :: rowrest) := C5.fr fs
  have RWr : RWM m r' ((rowdone ++ c :: rowrest) :: rest) := C4.fr fs
  have il : done.length < sz := by
    rw [← C3, List.length_append, List.length_cons]; omega
  have jl : rowdone.length < sz := by
    have := C2 (rowdone ++ c :: rowrest) (by simp)
    rw [List.length_append, List.length_cons] at this
    omega
  have oc := ITo.1
  have ec : m 591 o = c := ITo.2.1
  unfold P_X10_evalEntry
  rw [ec, A1, A2]
  refine ⟨oc, N.1, ?_⟩
  show P_X10_goLatest c (bM ((x.1, x.2.1, 0) : R3).1) ((x.1, x.2.1, 0) : R3).2.1 ((x.1, x.2.1, 0) : R3).2.2 m _
  refine c_goL H (by rw [List.length_cons]; omega) hy.1 hy.2 y3 ym z3 xm hg v (fun m1 H1 f1 F1 => ?_)
  rw [H1.er]
  refine ⟨by decide, ?_⟩
  rw [if_pos (by decide)]
  intro m2 e2
  have tp1 := H1.tp
  rw [List.length_cons, List.length_cons] at tp1
  have f2 : ∀ c i, ¬ (c = 582 ∧ i = 86) → m2 c i = m1 c i := fun c i q => by rw [e2, up_ne q]
  have e86 : m2 582 86 = (l.length : Int) + 1 := by rw [e2, up_at]; omega
  unfold P_X10_valueAt
  dsimp only
  rw [e86, show (l.length : Int) + 1 - 1 = (l.length : Int) by omega]
  refine ⟨by constructor <;> omega, c_entryAt ?_⟩
  have td : Int.tdiv (3 * (done.length : Int) + (rowdone.length : Int)) 3 = (done.length : Int) := by
    rw [Int.tdiv_eq_ediv_of_nonneg (by omega)]; omega
  have tm : Int.tmod (3 * (done.length : Int) + (rowdone.length : Int)) 3 = (rowdone.length : Int) := by
    rw [Int.tmod_eq_emod_of_nonneg (by omega)]; omega
  rw [td, tm]
  rw [e86]
  have st1 := H1.st
  have vM : VM (m1 635) (882 * (l.length : Int)) (matU sz g idx) := st1.1.2
  have vV : Rw (m1 635) (882 * ((l.length : Int) + 1)) (conv E.2.1 y (x.1, x.2.1, 0) V 0 0) 49 := by
    have := st1.2
    rw [List.length_cons, show 882 * ((l.length + 1 : Nat) : Int) = 882 * ((l.length : Int) + 1) by omega] at this
    exact row_0 this
  have g635 : ∀ q, m2 635 q = m1 635 q := fun q => f2 _ _ (by omega)
  refine c_copy (n := 98) (by omega) (by omega) (.inr (by left; omega)) (fun m3 f3 e3 g3 => ?_)
  have vent : VM (m3 635) (882 * (l.length : Int)) (matU sz (fun k => if k = idx then conv E.2.1 y (x.1, x.2.1, 0) V else g k) (idx + 1)) := by
    refine VM_ent (m := m1) hz.2 il jl C6 vM (fun j j0 j1 => ?_) (fun q hq => by rw [f3.2 q hq]; exact g635 q)
    have a1 := g3 (2 * j) (by omega) (by omega)
    have a2 := g3 (2 * j + 1) (by omega) (by omega)
    have a3 := vV j j0 j1
    rw [show 882 * (l.length : Int) + 98 * (3 * (done.length : Int) + (rowdone.length : Int)) + 2 * j + 1 = 882 * (l.length : Int) + 98 * (3 * (done.length : Int) + (rowdone.length : Int)) + (2 * j + 1) by omega, a1, a2, g635, g635, show 882 * ((l.length : Int) + 1) + (2 * j + 1) = 882 * ((l.length : Int) + 1) + 2 * j + 1 by omega]
    exact a3
  have okf : okFr m1 m3 := fun c i q1 q2 q3 => by rw [f3.okf c i q1 q2 q3]; exact f2 c i (by omega)
  have H1' : VmS m1 F n S ms E h pb T ([conv E.2.1 y (x.1, x.2.1, 0) V, matU sz g idx] ++ l) s := H1
  obtain ⟨H3, F3⟩ := H1'.made (m' := m3) okf (fun q q0 q1 => by rw [f3.2 q (by omega)]; exact g635 q) (by rw [e3, f2 _ _ (by decide)]; exact H1.er) (by rw [f3.1 _ _ (by decide) (by decide)]; exact e86) vent
  have F13 := F1.trans F3
  have st3 : ∀ c i, 590 ≤ c → c ≤ 605 → m3 c i = m c i := fun c i a1 a2 => by rw [okf c i (by omega) (by omega) (by omega)]; exact f1 c i (by omega) (by omega) (by omega)
  rw [st3 594 o (by decide) (by decide), st3 594 r' (by decide) (by decide)]
  have rb := RWr.1
  cases hrr : rowrest with
  | cons c2 rowrest2 =>
    rw [hrr] at ITo C C5
    have it2 := ITo.2.2
    have oo := it2.1
    have e0 : (if m 594 o < 0 then m 594 r' else r' : Int) = r' := if_neg (by omega)
    rw [e0]
    refine ⟨⟨by constructor <;> omega, by rw [if_neg (by omega)]; trivial⟩, by constructor <;> omega, ?_⟩
    rw [if_pos rb.1, if_pos rfl, if_pos rfl, if_pos rfl]
    refine ⟨⟨by constructor <;> omega, trivial⟩, by constructor <;> omega, ?_⟩
    have ce : rowdone ++ c :: c2 :: rowrest2 = (rowdone ++ [c]) ++ c2 :: rowrest2 := by simp
    have kk := K2 r' (m 594 o) c2 done rest (rowdone ++ [c]) rowrest2 m3 ?_ H3 F13 oo (by rw [st3 591 _ (by decide) (by decide)]; exact it2.2.1)
    · rw [List.length_append, List.length_singleton, show (3 * (done.length : Int) + ((rowdone.length + 1 : Nat) : Int)) = 3 * (done.length : Int) + (rowdone.length : Int) + 1 by omega] at kk
      exact kk
    · obtain ⟨D1, ⟨D2, D3⟩, D4, D5, D6⟩ := C
      rw [ce] at D1 D2 D3 D4
      refine ⟨D1, ⟨D2, D3⟩, D4, ?_, by rw [List.length_append, List.length_singleton]; omega⟩
      have e594 : m 594 o = ms 594 o := fs _ _ (by omega)
      rw [e594]
      exact D5.2.2
  | nil =>
    rw [hrr] at ITo C C5 K1
    have it2 : m 594 o = -1 := ITo.2.2
    have e0 : (if m 594 o < 0 then m 594 r' else r' : Int) = m 594 r' := if_pos (by omega)
    rw [e0]
    refine ⟨⟨by rw [it2]; decide, by rw [if_pos (by omega)]; exact rb⟩, ?_⟩
    have rw2 := RWr.2.2.2
    cases hre : rest with
    | nil =>
      rw [hre] at rw2
      have rw2 : m 594 r' = -1 := rw2
      rw [rw2]
      refine ⟨by decide, ?_⟩
      rw [if_neg (by decide)]
      exact K1 ⟨rfl, hre⟩ m3 H3 F13
    | cons row2 rest2 =>
      rw [hre] at rw2 C
      have r2b := rw2.1
      refine ⟨by constructor <;> omega, ?_⟩
      rw [if_pos r2b.1]
      have nr := RWM_ne RWr
      rw [if_neg nr, if_neg nr, if_neg nr, st3 591 _ (by decide) (by decide)]
      refine ⟨⟨by constructor <;> omega, r2b⟩, by constructor <;> omega, ?_⟩
      obtain ⟨-, i2, i3, i4⟩ := rw2
      cases row2 with
      | nil => exact absurd i3 (by decide)
      | cons c2 rowrest2 =>
        have e594 : m 594 r' = ms 594 r' := fs _ _ (by omega)
        have e591 : m 591 (m 594 r') = ms 591 (ms 594 r') := by rw [e594]; exact fs _ _ (by omega)
        have kk := K2 (m 594 r') (m 591 (m 594 r')) c2 (done ++ [rowdone ++ [c]]) rest2 [] rowrest2 m3 ?_ H3 F13 i2.1 (by rw [st3 591 _ (by decide) (by decide)]; exact i2.2.1)
        · rw [List.length_append, List.length_singleton, List.length_nil, show (3 * ((done.length + 1 : Nat) : Int) + ((0 : Nat) : Int)) = (done.length : Int) * 3 + 3 by omega] at kk
          exact kk
        · obtain ⟨D1, ⟨D2, D3⟩, D4, D5, D6⟩ := C
          have ce : done ++ (rowdone ++ [c]) :: (c2 :: rowrest2) :: rest2 = (done ++ [rowdone ++ [c]]) ++ ([] ++ c2 :: rowrest2) :: rest2 := by simp
          have lr := D2 (rowdone ++ [c]) (by simp)
          rw [List.length_append, List.length_singleton] at lr
          rw [ce] at D1 D2 D3
          refine ⟨D1, ⟨D2, D3⟩, ?_, ?_, ?_⟩
          · rw [e594]; exact D4.2.2.2
          · rw [e591]; exact D4.2.2.2.2.1
          · rw [List.length_append, List.length_singleton, List.length_nil, Nat.mul_succ]; omega
end VMM
