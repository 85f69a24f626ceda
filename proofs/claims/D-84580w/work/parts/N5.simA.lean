set_option maxRecDepth 100000
/-! the component's machine: pieces of code, one instruction each -/
section SIMA
variable {F : Int → FnR} {n : Int} {E : EVm} {fl : Int} {pre l : List SV} {need : Nat} {x z : R3} {s : ES} {fr : List Fr} {m : MM} {V W : VV} {p : Int}
theorem MS.st (h : MS m F n E fl fr l p s) : stG m l := h.2.1.2.1
theorem MS.tp (h : MS m F n E fl fr l p s) : m 376 8 = (l.length : Int) := h.2.1.2.2.1
theorem MS.tp1 {v : SV} (h : MS m F n E fl fr (v :: l) p s) : m 376 8 = (l.length : Int) + 1 := by rw [h.tp, List.length_cons]; omega
theorem MS.ar (h : MS m F n E fl fr l p s) : AR (m 376 19) (m 376 20) := h.1.2.2.2.2.2.2.2
theorem MS.er (h : MS m F n E fl fr l p s) : m 378 2 = 0 := h.2.1.1
theorem MS.mo (h : MS m F n E fl fr l p s) : m 378 1 = E.2.1 := h.2.1.2.2.2.2.2.2
theorem MS.bd {l' : List SV} (h : MS m F n E fl fr l' p s) (hb : (l.length : Int) + need + 59 * (20 - E.2.2.1) ≤ 1280) : l.length + need ≤ 1280 := by
  have h1 := h.2.2.2.1
  have h2 := h.1.1.2
  omega
theorem MS.mu (h : MS m F n E fl fr l p s) (hx : ok3 x) (hb : x.1 ≠ -2) : muC m x.1 = muR x.1 E.2.1 := by
  rcases hx with q | q
  · exact absurd q.1 hb
  · exact muR_C q.1 h.mo
theorem stG_num {v : Int} (h : stG m ((0, 0, V) :: l)) (e : V 0 0 0 = (v, 1)) : stG m ((0, 0, numV v) :: l) := by
  obtain ⟨h1, h2, h3, h4, h5⟩ := h
  refine ⟨h1, h2, h3, fun i j hi hj k k0 k1 => ?_, h5⟩
  have q := h4 i j hi hj k k0 k1
  have r0 : rws 0 = 1 := rfl
  rw [cof0] at k1
  have ei : i = 0 := by omega
  have ej : j = 0 := by omega
  have ek : k = 0 := by omega
  subst ei ej ek
  rw [numV_0, ← e]
  exact q
theorem B_eq (hx : ok3 x) (hb : x.1 = -2) : x = (-2, 0, 0) := by
  rcases hx with q | q
  · exact Prod.ext q.1 (Prod.ext q.2.1 q.2.2)
  · have := q.1; omega
theorem VR_num_of (h : VR E.2.1 x V) (hb : x.1 = -2) : ∃ v, (v = 0 ∨ v = 1) ∧ V 0 0 0 = (v, 1) := by
  rcases h.2 hb with q | q
  · exact ⟨0, .inl rfl, q⟩
  · exact ⟨1, .inr rfl, q⟩
/-- nothing -/
theorem SimG.nil : SimG F n E fl (fun _ => []) [(z.2.1, z.2.2, V)] need z s (.ok V, s) := by
  intro _
  refine ⟨0, fun Q x2 m fr l p R hS hN hC hp hb hO => ?_⟩
  have hO : ∀ m', MS m' F n E fl fr ((z.2.1, z.2.2, V) :: l) (p + ((([] : List Ins).length : Nat) : Int)) s → FmC n fr m m' → Go Q x2 R m' := hO
  rw [show p + ((([] : List Ins).length : Nat) : Int) = p by rw [List.length_nil]; omega] at hO
  exact hO m hS FmC.refl
/-- a value goes to a ring -/
theorem sim_conv (hx : ok3 x) (hz : ok3 z) (hm : okMo z.1 E.2.1) (hg : gs x z) (v : VR E.2.1 x V) : SimG F n E fl (fun _ => cgTn x z) [(x.2.1, x.2.2, V)] need z s (.ok (conv E.2.1 x z V), s) := by
  by_cases c : x = z
  · have e : (fun _ : Int => cgTn x z) = (fun _ => []) := by
      funext _
      unfold cgTn
      rw [if_pos c]
    rw [e, c, conv_self]
    exact SimG.nil
  · have e : (fun _ : Int => cgTn x z) = (fun _ => [(6, encC x, encC z)]) := by
      funext _
      unfold cgTn
      rw [if_neg c]
    rw [e]
    refine SimG.opo (fun m1 fr l p Q' S hN hb h => ?_)
    have bd := S.bd hb
    have S : MS m1 F n E fl fr ((x.2.1, x.2.2, V) :: l) p s := S
    exact c_conv hx hz hm hg c S.mo S.st (by omega) S.tp1 S.ar v h
theorem sim_num {v : Int} : SimG F n E fl (fun _ => [(1, v, 0)]) [] need (0, 0, 0) s (.ok (numV v), s) :=
  SimG.opo (fun m1 fr l p Q' S hN hb h => by
    have bd := S.bd hb
    have S : MS m1 F n E fl fr l p s := S
    exact c_pf_number S.st (by omega) S.tp S.ar h)
theorem sim_unk {a j : Int} (ha : a = 1 ∧ j = 1 ∨ a = 2 ∧ j = 7) : SimG F n E fl (fun _ => [(2, a, 0)]) [] need (0, a, 0) s (.ok (rvv (unkR j)), s) := by
  refine SimG.opo (fun m1 fr l p Q' S hN hb h => ?_)
  have bd := S.bd hb
  have S : MS m1 F n E fl fr l p s := S
  refine c_pf_unknown (by omega) S.st (by omega) S.tp S.ar (fun m' a1 a2 a3 a4 => h m' a1 a2 ?_ a4)
  have e : (if a = 1 then (1 : Int) else 7) = j := by
    rcases ha with q | q
    · rw [if_pos q.1]; exact q.2.symm
    · rw [if_neg (by omega)]; exact q.2.symm
  rw [e] at a3
  exact a3
theorem sim_res {v : Int} (v0 : 0 ≤ v) (hv : E.1.2.1 v = some x) (hx : ok3 x) : SimG F n E fl (fun _ => [(3, v, encC x)]) [] need x s (.ok (E.2.2.2.2 v), s) := by
  refine SimG.opo (fun m1 fr l p Q' S hN hb h => ?_)
  have q := S.2.2.1.1 v x v0 hv
  have bd := S.bd hb
  have S : MS m1 F n E fl fr l p s := S
  exact c_pf_result (encC_RB hx) ⟨v0, q.1⟩ S.st (by omega) S.tp S.ar S.1.2.2.2.2.2.2.1.1 q.2 h
theorem sim_name {w i : Int} (hw : E.1.1 w = some (i, x)) (hx : ok3 x) : SimG F n E fl (fun _ => [(if fl = 2 then 5 else 4, i, encC x)]) [] need x s (.ok (E.2.2.2.1 i), s) := by
  refine SimG.opo (fun m1 fr l p Q' S hN hb h => ?_)
  have bd := S.bd hb
  have S : MS m1 F n E fl fr l p s := S
  by_cases c : fl = 2
  · rw [if_pos c]
    obtain ⟨p1, s1, e1, e2⟩ := hN.2 c w i x hw
    have hf := S.ne
    have f13 := S.1.1
    have fg := S.1.2.1
    cases fr with
    | nil => exact absurd rfl hf
    | cons y fr =>
      rw [List.length_cons] at f13
      have e2 : y.2.2.1 + i = (s1.length : Int) := e2
      refine c_pf_param (fb := y.2.2.1) (encC_RB hx) S.st (by show l.length ≤ 1298; omega) S.tp S.ar (by rw [f13.1]; omega) ?_ e2 e1 h
      rw [f13.1, show ((fr.length + 1 : Nat) : Int) - 1 = (fr.length : Int) by omega]
      exact fg.2.2.2.2.1
  · rw [if_neg c]
    have q := S.2.2.1.2 c w i x hw
    exact c_pf_variable (encC_RB hx) q.1 S.st (by show l.length ≤ 1298; omega) S.tp S.ar S.1.2.2.2.2.2.2.1.2 q.2 h
theorem sim_not {y : Int} (hv : VR E.2.1 x V) (hx : ok3 x) (hb2 : x.1 = -2) : SimG F n E fl (fun _ => [(14, y, 0)]) [(x.2.1, x.2.2, V)] need (-2, 0, 0) s (.ok (numV (1 - (V 0 0 0).1)), s) := by
  obtain ⟨v, v01, ev⟩ := VR_num_of hv hb2
  have e := B_eq hx hb2
  subst e
  rw [ev]
  refine SimG.opo (fun m1 fr l p Q' S hN hb h => ?_)
  have bd := S.bd hb
  have S : MS m1 F n E fl fr ((0, 0, V) :: l) p s := S
  exact c_pf_not v01 (stG_num S.st ev) (by omega) S.tp1 S.ar h
theorem sim_minus (hx : ok3 x) (hb2 : x.1 ≠ -2) (hm : okMo x.1 E.2.1) (hv : VR E.2.1 x V) : SimG F n E fl (fun _ => [(25, encC x, 0)]) [(x.2.1, x.2.2, V)] need x s (.ok (negV (muR x.1 E.2.1) V), s) := by
  refine SimG.opo (fun m1 fr l p Q' S hN hb h => ?_)
  have bd := S.bd hb
  have S : MS m1 F n E fl fr ((x.2.1, x.2.2, V) :: l) p s := S
  exact c_pf_minus (encC_RG hx hb2) S.st (by omega) S.tp1 S.ar (S.mu hx hb2) (muR_MU (ok3_b hx) hm) hv.1 h
theorem sim_power {v : Int} (v0 : 0 ≤ v ∧ v ≤ 12) (hx : ok3 x) (hb2 : x.1 ≠ -2) (hm : okMo x.1 E.2.1) (hv : VR E.2.1 x V) : SimG F n E fl (fun _ => [(26, encC x, v)]) [(x.2.1, x.2.2, V)] need x s (powS (muR x.1 E.2.1) x.2.1 x.2.2 v V, s) := by
  refine SimG.op (fun m1 fr l p Q' S hN hb h => ?_)
  have bd := S.bd hb
  have S : MS m1 F n E fl fr ((x.2.1, x.2.2, V) :: l) p s := S
  exact c_pf_power (encC_RG hx hb2) v0 S.st (by omega) S.tp1 S.ar S.er (S.mu hx hb2) (muR_MU (ok3_b hx) hm) hv.1 h
theorem sim_back (hx : ok3 x) (hz : ok3 z) (hg : gs z x) (hv : VR E.2.1 x V) : SimG F n E fl (fun _ => [(7, encC x, encC z)]) [(x.2.1, x.2.2, V)] need z s (backS (if x.1 = z.1 then 0 else 1) (muR x.1 E.2.1) z.2.1 x.2.2 z.2.2 V, s) := by
  refine SimG.op (fun m1 fr l p Q' S hN hb h => ?_)
  have bd := S.bd hb
  have S : MS m1 F n E fl fr ((x.2.1, x.2.2, V) :: l) p s := S
  exact backB hx hz hg S.st (by omega) S.tp1 S.ar S.er hv h
end SIMA
