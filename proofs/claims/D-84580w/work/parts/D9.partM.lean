set_option maxRecDepth 100000
/-! the model: rings of all parts -/
section PARTM
variable {Q : Int → MM → Prop} {T : MM → Prop} {e : JE} {ro : Int} {d : ND} {c : TT} {m m1 m2 : MM} {n : Nte} {lo hi k sp : Int} {rc : List R3} {x : R3} {dep : Nat}
theorem lenT_sz : ∀ t : TT, lenT t ≤ szT t := by
  intro t
  induction t with
  | leaf => exact Nat.le_refl _
  | inner z d u c s ihc ihs => show lenT s + 1 ≤ szT c + szT s + 1; omega
theorem RWM_len : ∀ {rs : List (List Int)} {i : Int}, RWM m i rs → rs.length ≤ rs.flatten.length := by
  intro rs
  induction rs with
  | nil => intro i _; exact Nat.le_refl _
  | cons r rs ih =>
    intro i h
    have := ih h.2.2.2
    have l1 := h.2.2.1
    show rs.length + 1 ≤ (r ++ rs.flatten).length
    rw [List.length_append]
    omega
theorem builtJ {cl ch : Int} {cs : List Int} (hk : d.1 = 6) (w : okN d c) (wc : wfT c) (hb : (0 ≤ lo ∧ lo ≤ k ∧ k < hi ∧ hi ≤ 12000) ∧ (lo ≤ cl ∧ cl ≤ ch ∧ ch ≤ hi) ∧ (k < cl ∨ ch ≤ k)) (hN : NM m d k) (hL : LKm m d k cs) (hTc : TM m Tt c cl ch cs) (hC : JCm (R_X10_judge dep) e ro T c) (f1 : FJm k (k + 1) sp m m1) (E1 : EMj m1 e ro) (n1 : NN' m1 n) (r98 : m1 598 k = -9) (h68 : m1 582 68 = sp) (hsp : 0 ≤ sp ∧ sp + (szT c : Int) + 1 ≤ 5000) (post : PostM m e ro d c lo hi k sp n Q) : W_X10_judgeBuilt (R_X10_judge dep) k m1 Q T := by
  have h30 : d.1 < 30 := by omega
  have h5 : d.1 = 5 → e.2.2.1 d.2.2.2 := fun q => by omega
  have ar := okN_ar w (by omega)
  have kb : 0 ≤ k ∧ k < 12000 := by omega
  have hI := hL.1 (Or.inr hk)
  have e91 : m1 591 k = m 591 k := f1.st 591 k (by omega)
  have l5 : 1 ≤ lenT c := by have := ar.1; unfold arT at this; omega
  have lc := lenT_sz c
  have fb := w.2.2.2.2.1 hk
  have f0 := w.2.1.1
  have f1' : FJm lo hi sp m m1 := f1.mono (by omega) (by omega) (Int.le_refl _)
  refine ⟨kb, lenT c + 1, ?_⟩
  rw [e91]
  refine itemsM (Lp := fun a b c' d' m => P_X10_judgeBuilt_12 (R_X10_judge dep) Q T a k b c' d' m) (K := fun x2 x3 m => P_X10_judgeBuilt_70 (R_X10_judge dep) Q T k x2 x3 m) (fun _ _ _ _ _ h => h) c hC ar.2 wc E1 (hTc.jt f1 (by omega)) (hI.fr f1.st) n1 h68 (by omega) (Or.inr rfl) (fun m2 x2 f2 n2 T2 b2 i2 => ?_)
  have i2' : x2 = 1 ↔ allS (jdS e c).1 ≠ none := ⟨fun q => (i2.1 q).2, fun q => i2.2 ⟨rfl, q⟩⟩
  have f2' : FJm lo hi sp m m2 := f1'.trans (f2.mono (by omega) (by omega) (Int.le_refl _))
  have E2 := E1.jm f2
  have K : KidsM m m2 e ro d c lo hi k sp n cs := ⟨cl, ch, hb, hN, hL, f2', T2, n2⟩
  have r98' : m2 598 k = -9 := by rw [f2 598 k (by omega) (by omega) (by omega) (by omega)]; exact r98
  have e05 : m2 605 k = bfn d.2.2.1 := by rw [f2'.st 605 k (by omega)]; exact hN.2.2.2.2.1 hk
  rw [show (0 : Int) + (lenT c : Int) = (lenT c : Int) by omega]
  rcases hrc : allS (jdS e c).1 with - | rc
  · have x0 : x2 = 0 := by rcases b2 with q | q; exact q; exact absurd hrc (i2'.1 q)
    refine ⟨by rw [x0]; decide, ?_⟩
    rw [if_pos x0]
    exact km_none post K h30 h5 hrc (FJm.refl m2) rfl rfl r98'
  have x1 : x2 = 1 := i2'.2 (by rw [hrc]; intro q; cases q)
  rw [x1]
  obtain ⟨rcl, rcv⟩ := TM.rcs E2.ok c wc T2 hrc
  have csl := TM_len T2
  have I2 : ITM m2 (m2 591 k) cs := by rw [f2'.st 591 k (by omega)]; exact hI.fr f2'.st
  have own := own_fn (e := e) (rc := rc) hk
  match cs, rc, I2, rcl, rcv, csl, own, hrc, K with
  | [], rc, I2, rcl, rcv, csl, own, hrc, K => exfalso; have : 0 = lenT c := csl; omega
  | na :: cs', [], I2, rcl, rcv, csl, own, hrc, K => exfalso; simp at rcl
  | na :: cs', a :: l, I2, rcl, rcv, csl, own, hrc, K =>
    obtain ⟨j0, j1, j2⟩ := I2
    obtain ⟨v1, v2, v3⟩ := rcv 0 na a rfl rfl
    have ll : (l.length : Int) + 1 = (lenT c : Int) := by
      have q1 : l.length + 1 = cs'.length + 1 := rcl
      have q2 : cs'.length + 1 = lenT c := csl
      omega
    rw [← ll]
    have hl : l = [] ∧ m2 594 (m2 591 k) = -1 ∨ ∃ b l', l = b :: l' ∧ (0 ≤ m2 594 (m2 591 k) ∧ m2 594 (m2 591 k) < 12000) ∧ m2 591 (m2 594 (m2 591 k)) = cs'.headD 0 ∧ (0 ≤ cs'.headD 0 ∧ cs'.headD 0 < 12000) ∧ rgM m2 (cs'.headD 0) (some b) ∧ ok3 b := by
      cases l with
      | nil =>
        left
        cases cs' with
        | nil => exact ⟨rfl, j2⟩
        | cons k2 cs'' => simp at rcl
      | cons b l' =>
        right
        cases cs' with
        | nil => simp at rcl
        | cons k2 cs'' =>
          obtain ⟨p1, p2, p3⟩ := j2
          obtain ⟨u1, u2, u3⟩ := rcv 1 k2 b rfl rfl
          exact ⟨b, l', rfl, p1, p2, u3, u1, u2⟩
    refine built70 (G := fun m4 => FJm k (k + 1) sp m2 m4 ∧ m4 582 13 = m2 582 13 ∧ m4 582 14 = m2 582 14 ∧ m4 597 k = d.2.2.1) kb ⟨f0, fb⟩ E2.2.2.1 e05 rfl j0 rfl j1 v3 (by omega) v1 v2 hl (fun m4 m5 g4 h45 => ⟨fun c' i z1 z2 z3 z4 => by rw [h45 c' i (fun z => z1 ⟨by omega, by omega, by omega⟩) (fun z => z2 ⟨z.1, by omega⟩)]; exact g4.1 c' i z1 z2 z3 z4, by rw [h45 _ _ (by omega) (by omega)]; exact g4.2.1, by rw [h45 _ _ (by omega) (by omega)]; exact g4.2.2.1, by rw [h45 _ _ (by omega) (by omega)]; exact g4.2.2.2⟩) ⟨fun c' i z1 _ _ _ => up_ne (fun z => z1 ⟨by omega, by omega, by omega⟩), up_ne (by omega), up_ne (by omega), up_at ..⟩ (fun m' y hy g' r' => ?_) (fun m' hy g' => ?_)
    · exact km_good post K h30 h5 hrc (own.trans hy) g'.1 g'.2.1 g'.2.2.1 r' ⟨fun q => by omega, fun q => by omega, fun q => by omega, fun _ => g'.2.2.2⟩
    · exact km_bad post K h30 ⟨by omega, by omega⟩ h5 w.1 hrc (own.trans hy) g'.1 g'.2.1 g'.2.2.1
theorem matrixJ {cl ch : Int} {cs : List Int} (hk : d.1 = 7) (w : okN d c) (wc : wfT c) (hb : (0 ≤ lo ∧ lo ≤ k ∧ k < hi ∧ hi ≤ 12000) ∧ (lo ≤ cl ∧ cl ≤ ch ∧ ch ≤ hi) ∧ (k < cl ∨ ch ≤ k)) (hN : NM m d k) (hL : LKm m d k cs) (hTc : TM m Tt c cl ch cs) (hC : JCm (R_X10_judge dep) e ro T c) (f1 : FJm k (k + 1) sp m m1) (E1 : EMj m1 e ro) (n1 : NN' m1 n) (r98 : m1 598 k = -9) (h68 : m1 582 68 = sp) (hsp : 0 ≤ sp ∧ sp + (szT c : Int) + 1 ≤ 5000) (post : PostM m e ro d c lo hi k sp n Q) : W_X10_judgeMatrix (R_X10_judge dep) k m1 Q T := by
  have h30 : d.1 < 30 := by omega
  have hX : noX d := by unfold noX; omega
  have h5 : d.1 = 5 → e.2.2.1 d.2.2.2 := fun q => by omega
  have ar := okN_ar w (by omega)
  have kb : 0 ≤ k ∧ k < 12000 := by omega
  obtain ⟨rs, hR, hcs, hv, hr1⟩ := hL.2.1 hk
  have e91 : m1 591 k = m 591 k := f1.st 591 k (by omega)
  have hR1 : RWM m1 (m1 591 k) rs := by rw [e91]; exact hR.fr f1.st
  have f1' : FJm lo hi sp m m1 := f1.mono (by omega) (by omega) (Int.le_refl _)
  have T1 := hTc.jt f1 (by omega)
  have lc := lenT_sz c
  have lcs : cs.length = lenT c := TM_len hTc
  have lrs := RWM_len hR
  rw [← hcs] at lrs
  have rN : RI (rs.length : Int) := by constructor <;> omega
  have own := fun rc => own_mx (e := e) (rc := rc) hk
  -- the end
  have l248 : ∀ (m2 : MM) (x3 x4 x5 x7 x8 : Int), FJm cl ch sp m1 m2 → NN' m2 (mn n (jdS e c).2) → TM m2 (AnP m2 e ro) c cl ch cs → stR (msL (some (some (0, 0, 0))) (jdS e c).1) x4 x5 x7 x8 → (x3 = 0 ∨ x3 = 1) → (x3 = 1 ↔ ∀ r', r' ∈ rs → (r'.length : Int) = (rs.length : Int)) → P_X10_judgeMatrix_248 (R_X10_judge dep) Q T k (rs.length : Int) x3 x4 x5 x7 x8 m2 := by
    intro m2 x3 x4 x5 x7 x8 f2 n2 T2 st b3 i3
    have f2' : FJm lo hi sp m m2 := f1'.trans (f2.mono (by omega) (by omega) (Int.le_refl _))
    have K : KidsM m m2 e ro d c lo hi k sp n cs := ⟨cl, ch, hb, hN, hL, f2', T2, n2⟩
    have r98' : m2 598 k = -9 := by rw [f2 598 k (by omega) (by omega) (by omega) (by omega)]; exact r98
    obtain ⟨s7, s8, s5, sm⟩ := st
    rw [msL_eq] at sm
    rcases hrc : allS (jdS e c).1 with - | rc
    · rw [hrc] at sm
      have x40 : x4 = 0 := sm
      refine ⟨by rw [x40]; decide, ?_⟩
      rw [if_pos x40]
      exact km_none post K h30 h5 hrc (FJm.refl m2) rfl rfl r98'
    rw [hrc] at sm
    simp only at sm
    have okr : ∀ x, x ∈ rc → ok3 x := allS_ok _ _ (jdS_ok E1.ok c wc) hrc
    have rcn : rc ≠ [] := by
      obtain ⟨rcl, -⟩ := TM.rcs E1.ok c wc T2 hrc
      intro q
      rw [q] at rcl
      have : 0 = cs.length := rcl
      omega
    obtain ⟨a, l, rfl⟩ : ∃ a l, rc = a :: l := by
      cases rc with
      | nil => exact absurd rfl rcn
      | cons a l => exact ⟨a, l, rfl⟩
    have mx := mxA_0 (okr a (List.mem_cons_self ..)) (fun x hx => okr x (List.mem_cons_of_mem _ hx))
    have own2 : ∀ o, o = jnL a l → ownS e d (a :: l) = match o with
        | none => none
        | some j => if 0 < d.2.2.1 ∧ j.1 ≠ -2 ∧ j.2.2 = 0 then some (j.1, j.2.1, d.2.2.1) else none := by
      intro o ho
      rw [own, ho]
      rfl
    have x41 : x4 = 1 := by
      generalize mxA (0, 0, 0) (a :: l) = o at sm
      rcases o with - | acc
      · exact sm.1
      · exact sm.1
    have bad : ownS e d (a :: l) = none → P_X10_judgeMatrix_281 (R_X10_judge dep) Q T k m2 := fun q => km_bad post K h30 ⟨by omega, by omega⟩ h5 w.1 hrc q (FJm.refl m2) rfl rfl
    have v0 : ¬ ((∀ r', r' ∈ rs → r'.length = rs.length) ∧ rs.length ≤ 3) → ownS e d (a :: l) = none := by
      intro q
      rw [if_neg q] at hv
      have := own2 _ rfl
      rw [this]
      rcases jnL a l with - | j
      · rfl
      · simp only
        rw [if_neg (fun z => by have := z.1; omega)]
    refine ⟨by rw [x41]; decide, ?_⟩
    rw [if_neg (by omega)]
    refine ⟨by constructor <;> omega, ?_⟩
    by_cases z3 : x3 = 0
    · rw [if_pos z3]
      refine bad (v0 (fun q => ?_))
      have := i3.2 (fun r' hr' => by rw [q.1 r' hr'])
      omega
    rw [if_neg z3]
    have sq := i3.1 (by omega)
    refine ⟨rN, ?_⟩
    by_cases n3 : 3 < (rs.length : Int)
    · rw [if_pos n3]; exact bad (v0 (fun q => by omega))
    rw [if_neg n3]
    have hv' : d.2.2.1 = (rs.length : Int) := by
      rw [hv, if_pos ⟨fun r' hr' => by have := sq r' hr'; omega, by omega⟩]
    refine ⟨by constructor <;> omega, ?_⟩
    rcases hm : mxA (0, 0, 0) (a :: l) with - | acc
    · rw [hm] at sm mx
      rw [if_pos sm.2]
      refine bad ?_
      have := own2 _ rfl
      rw [this]
      rcases hj : jnL a l with - | j
      · rfl
      · rw [hj] at mx
        simp only at mx ⊢
        by_cases q : j.1 ≠ -2 ∧ j.2.2 = 0
        · rw [if_pos q] at mx; cases mx
        · rw [if_neg (fun z => q z.2)]
    · rw [hm] at sm mx
      obtain ⟨-, x51, oacc, aB, a0, h7, h8⟩ := sm
      rw [if_neg (by omega)]
      rcases hj : jnL a l with - | j
      · rw [hj] at mx; cases mx
      · rw [hj] at mx
        simp only at mx
        by_cases q : j.1 ≠ -2 ∧ j.2.2 = 0
        · rw [if_pos q] at mx
          cases mx
          have ow := own2 (some acc) hj.symm
          simp only at ow
          rw [if_pos ⟨by omega, q⟩] at ow
          exact km_set post K h30 hX hrc ow (FJm.refl m2) rfl rfl h7 h8 hv'.symm
        · rw [if_neg q] at mx; cases mx
  -- rows, one behind another
  have l47 : P_X10_judgeMatrix_47 (R_X10_judge dep) Q T k (rs.length : Int) 1 1 1 0 0 m1 := by
    refine ⟨kb, ?_⟩
    cases rs with
    | nil => simp at hr1
    | cons r rs' =>
      obtain ⟨g1, g2, g3, g4⟩ := hR1
      refine ⟨rs'.length + 1 + 1, ?_⟩
      refine ⟨by constructor <;> omega, ?_⟩
      rw [if_neg (by omega)]
      have hcs' : cs = r ++ rs'.flatten := hcs
      refine ⟨g1, _, rowsM rN c hC ar.2 wc (st := some (some (0, 0, 0))) E1 (by rw [← hcs']; exact T1) g2 g1 g4 n1 h68 (by omega) ⟨by decide, by decide, Or.inr rfl, rfl, rfl, ok3_n (by decide), by decide, rfl, rfl, rfl⟩ (Or.inr rfl) (by omega) (fun m' x3' x4' x5' x7' x8' f' n' T' st' b' i' => ?_)⟩
      refine l248 m' x3' x4' x5' x7' x8' f' n' (by rw [hcs']; exact T') st' b' ?_
      rw [i']
      constructor
      · rintro ⟨-, q2, q3⟩ r' hr'
        rcases List.mem_cons.1 hr' with z | z
        · rw [z]; omega
        · exact q3 r' z
      · intro q
        exact ⟨rfl, by have := q r (List.mem_cons_self ..); omega, fun r' hr' => q r' (List.mem_cons_of_mem _ hr')⟩
  have L : ∀ (rs' : List (List Int)) (i x2 : Int), RWM m1 i rs' → x2 + (rs'.length : Int) = (rs.length : Int) → (0 ≤ x2) → P_X10_judgeMatrix_27 (R_X10_judge dep) Q T (rs'.length + 1) k x2 1 1 1 0 0 i m1 := by
    intro rs'
    induction rs' with
    | nil =>
      intro i x2 hR' hx _
      have i1 : i = -1 := hR'
      have hx' : x2 + 0 = (rs.length : Int) := hx
      refine ⟨by rw [i1]; decide, ?_⟩
      rw [if_pos (by rw [i1]; decide), show x2 = (rs.length : Int) by omega]
      exact l47
    | cons r rs' ih =>
      intro i x2 hR' hx h0
      rw [show ((r :: rs').length : Int) = (rs'.length : Int) + 1 from rfl] at hx
      obtain ⟨g1, g2, g3, g4⟩ := hR'
      refine ⟨by constructor <;> omega, ?_⟩
      rw [if_neg (by omega)]
      exact ⟨g1, ih _ (x2 + 1) g4 (by omega) (by omega)⟩
  exact ⟨kb, _, L rs (m1 591 k) 0 hR1 (by omega) (by decide)⟩
end PARTM
