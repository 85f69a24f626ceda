set_option maxRecDepth 100000
/-! the component: rings of functions, matrices, calls; of all parts -/
theorem mn_big {J : Nte} {p k : Int} (h : ∀ q, J = some q → p < q.1) : mn J (some (p, k)) = some (p, k) := by
  rcases J with - | q
  · rfl
  · have := h q rfl
    unfold mn
    simp only
    rw [if_pos (Or.inl this)]
theorem mn_some {a b : Nte} {q : Int × Int} (h : mn a b = some q) : a = some q ∨ b = some q := by
  rcases a with - | p
  · exact Or.inr h
  · rcases b with - | r
    · exact Or.inl h
    · unfold mn at h
      simp only at h
      split at h
      · exact Or.inr h
      · exact Or.inl h
theorem tyO_pl {R : Option R3} : ∀ (t : TT) (lo : Int), plw t lo → ∀ q, (tyO R t).2 = some q → lo ≤ q.1 := by
  intro t
  induction t with
  | leaf => intro lo _ q h; cases h
  | inner z d u c s ihc ihs =>
    intro lo hp q h
    obtain ⟨p1, p2, p3, p4⟩ := hp
    unfold tyO at h
    split at h
    · cases h
    split at h
    · cases h
    split at h
    · rcases R with - | x
      · cases h; exact p1
      · cases h
    split at h
    case isTrue k33 =>
      split at h
      · cases h; exact p2 (Or.inl k33)
      · cases h
    case isFalse k33 =>
      have pc : plT c = 0 ∧ c = .leaf ∨ lo ≤ plT c := by
        cases c with
        | leaf => exact Or.inl ⟨rfl, rfl⟩
        | inner zc dc uc cc sc => exact Or.inr p3.1
      have n0 : ∀ q, (@ite _ (badM d) (Classical.propDecidable _) (some (d.2.2.2, 4)) none : Nte) = some q → lo ≤ q.1 := by
        intro q hq
        split at hq
        case isTrue hb => cases hq; exact p2 (Or.inr hb.1)
        · cases hq
      unfold overO at h
      simp only at h
      split at h
      · rcases mn_some h with h | h
        · exact n0 q h
        · exact ihc lo p3 q h
      case h_2 y hy =>
        have pc' : lo ≤ plT c := by
          rcases pc with ⟨-, rfl⟩ | pc
          · cases hy
          · exact pc
        split at h
        · rcases mn_some h with h | h
          · exact n0 q h
          · rcases mn_some h with h | h
            · exact ihc lo p3 q h
            · cases h; exact pc'
        · split at h
          · split at h
            · rcases mn_some h with h | h
              · exact ihc lo p3 q h
              · cases h; exact p1
            · exact ihc lo p3 q h
          · split at h
            case isTrue hb =>
              rcases mn_some h with h | h
              · cases h; exact p2 (Or.inr hb.1)
              · exact ihc lo p3 q h
            · exact ihc lo p3 q h
theorem jdS_pl {e : JE} : ∀ (t : TT) (lo : Int), plw t lo → ∀ q, (jdS e t).2 = some q → lo ≤ q.1 := by
  intro t
  induction t with
  | leaf => intro lo _ q h; cases h
  | inner z d u c s ihc ihs =>
    intro lo hp q h
    obtain ⟨p1, p2, p3, p4⟩ := id hp
    rcases mn_some (show mn (nodeS e d c (jdS e c)).2 (jdS e s).2 = some q from h) with h | h
    · unfold nodeS at h
      split at h
      · exact tyO_pl (nd d c lf) lo ⟨p1, p2, p3, trivial⟩ q h
      · split at h
        · rcases mn_some h with h | h
          · exact ihc lo p3 q h
          · cases h; exact p1
        · split at h
          · exact ihc lo p3 q h
          · split at h
            · exact ihc lo p3 q h
            · rcases mn_some h with h | h
              · exact ihc lo p3 q h
              · cases h; exact p1
    · exact ihs lo p4 q h
section WALK2
variable {Q : Int → MM → Prop} {T : MM → Prop} {b : Int} {e : JE} {d : ND} {c : TT} {m : MM} {n : Nte} {lo hi k : Int} {dep : Nat}
theorem c_manyC {rc : List R3} (hb : isTx b) (hk : 0 ≤ k ∧ k < 160) (hc : chR m b (m (b + 2) k) rc) (h : Q (rc.length : Int) m) : P_X2_many b k m Q := by
  have L : ∀ (l : List R3) (kk acc : Int), chR m b kk l → acc + (l.length : Int) = (rc.length : Int) → P_X2_many_9 Q (l.length + 1) b acc kk m := by
    intro l
    induction l with
    | nil =>
      intro kk acc hl ha
      have k1 : kk = -1 := hl
      have ha' : acc + 0 = (rc.length : Int) := ha
      refine ⟨by rw [k1]; decide, ?_⟩
      rw [if_pos k1, show acc = (rc.length : Int) by omega]
      exact h
    | cons x l ih =>
      intro kk acc hl ha
      rw [show ((x :: l).length : Int) = (l.length : Int) + 1 from rfl] at ha
      obtain ⟨h1, h2, h3, h4⟩ := hl
      refine ⟨by constructor <;> omega, ?_⟩
      rw [if_neg (by omega)]
      exact ⟨hb, h1, ih _ (acc + 1) h4 (by omega)⟩
  exact ⟨hb, hk, _, L rc _ 0 hc (by omega)⟩
theorem functionC (hk : d.1 = 6) (w : okN d c) (wc : wfT c) (hC : JCon (R_X5_part dep) b e T c) (hE : ECj m b e) (hT : TN m b d c lo hi k) (hn : NC m n) (post : JPost m b e d c lo hi k n Q) : W_X5_function (R_X5_part (dep + 1)) k m Q T := by
  have h30 : d.1 < 30 := by omega
  have n34 : ¬ (d.1 = 3 ∨ d.1 = 4) := by omega
  have h5 : d.1 = 5 → e.2.2.1 d.2.2.2 := fun q => by exfalso; omega
  have ar := okN_ar w (by omega)
  have l1 : 1 ≤ lenT c := by have := ar.1; unfold arT at this; omega
  have fb := w.2.2.2.2.1 hk
  have f0 := w.2.1.1
  have hb := hE.2.1
  unfold W_X5_function
  refine toP5 (parts_nd hC ar.2 wc hE hT hn (fun m1 g f1 E1 T1 n1 hg => ?_))
  rcases hg with ⟨rfl, hrc⟩ | ⟨rfl, rc, hrc, ch, ln, an⟩
  · refine ⟨by decide, ?_⟩
    rw [if_pos rfl]
    exact own_none post f1 n1 h30 h5 hrc
  refine ⟨by decide, ?_⟩
  rw [if_neg (by decide)]
  obtain ⟨cl, ch', t2, ⟨e1, e4, e5, e9⟩, t4⟩ := id T1
  have kb : 0 ≤ k ∧ k < 160 := by omega
  have aR : AnR m1 b e d c k := ⟨fun q => by exfalso; omega, fun q => by exfalso; omega, fun _ => an⟩
  have own := own_fn (e := e) (rc := rc) hk
  have okr : ∀ x, x ∈ rc → ok3 x := fun x hx => by
    have := allS_ok _ _ (jdS_ok hE.ok c wc) hrc
    exact this x hx
  have ok := fun z hz => fnS_ok (f := d.2.2.1) (z := z) okr hz
  have l157 : ∀ v, v = encO (fnS d.2.2.1 rc) → P_X5_function_157 (R_X5_part (dep + 1)) Q T k v m1 := by
    rintro v rfl
    unfold P_X5_function_157
    rw [E1.1]
    refine ⟨encO_ri ok, ?_⟩
    by_cases q : fnS d.2.2.1 rc = none
    · rw [if_pos ((encO_1 ok).2 q)]
      exact ⟨hb, kb, own_bad post f1 n1 w.1 e5 (if_neg n34).symm h30 h5 hrc (own.trans q)⟩
    · rw [if_neg (fun z => q ((encO_1 ok).1 z))]
      rcases hj : fnS d.2.2.1 rc with - | j
      · exact absurd hj q
      · exact own_good post f1 n1 h30 h5 hrc (own.trans hj) aR
  rw [E1.1]
  refine ⟨hb, c_manyC hb kb ch ?_⟩
  rw [E1.1]
  have wt : (if d.2.2.1 = 0 then 2 else (if d.2.2.1 = 2 then 2 else (if d.2.2.1 = 3 then 2 else 1 : Int) : Int) : Int) = if d.2.2.1 = 0 ∨ d.2.2.1 = 2 ∨ d.2.2.1 = 3 then 2 else 1 := by
    split
    · rw [if_pos (by omega)]
    · split
      · rw [if_pos (by omega)]
      · split
        · rw [if_pos (by omega)]
        · rw [if_neg (by omega)]
  match rc, ch, ln, l157, own, hrc with
  | [], ch, ln, l157, own, hrc => exfalso; have : 0 = lenT c := ln; omega
  | [a], ch, ln, l157, own, hrc =>
    obtain ⟨kb1, ea, oa, -⟩ := ch
    rw [show (([a] : List R3).length : Int) = 1 from rfl]
    refine ⟨hb, kb, kb1, by decide, ?_⟩
    rw [if_pos (by decide), ea]
    unfold P_X5_function_63
    rw [E1.1, e4, wt]
    refine ⟨hb, kb, by constructor <;> omega, by decide, by split <;> decide, ?_⟩
    by_cases q : d.2.2.1 = 0 ∨ d.2.2.1 = 2 ∨ d.2.2.1 = 3
    · rw [if_pos q, if_neg (by decide)]
      refine l157 _ ?_
      show (-1 : Int) = encO (if d.2.2.1 = 0 ∨ d.2.2.1 = 2 ∨ d.2.2.1 = 3 then none else fn1S d.2.2.1 a)
      rw [if_pos q]
      rfl
    · rw [if_neg q, if_pos (by decide), if_neg (by decide)]
      refine c_ofOneC (by omega) oa (l157 _ ?_)
      show encO (fn1S d.2.2.1 a) = encO (if d.2.2.1 = 0 ∨ d.2.2.1 = 2 ∨ d.2.2.1 = 3 then none else fn1S d.2.2.1 a)
      rw [if_neg q]
  | [a, a2], ch, ln, l157, own, hrc =>
    obtain ⟨kb1, ea, oa, kb2, ea2, oa2, -⟩ := ch
    rw [show (([a, a2] : List R3).length : Int) = 2 from rfl]
    refine ⟨hb, kb, kb1, by decide, ?_⟩
    rw [if_neg (by decide), ea]
    refine ⟨hb, kb, kb1, ⟨kb2, ?_⟩⟩
    rw [ea2]
    unfold P_X5_function_63
    rw [E1.1, e4, wt]
    refine ⟨hb, kb, by constructor <;> omega, by decide, by split <;> decide, ?_⟩
    by_cases q : d.2.2.1 = 0 ∨ d.2.2.1 = 2 ∨ d.2.2.1 = 3
    · rw [if_pos q, if_pos (by decide), if_pos (by decide)]
      refine c_ofTwoC q oa oa2 (l157 _ ?_)
      show encO (fn2S d.2.2.1 a a2) = encO (if d.2.2.1 = 0 ∨ d.2.2.1 = 2 ∨ d.2.2.1 = 3 then fn2S d.2.2.1 a a2 else none)
      rw [if_pos q]
    · rw [if_neg q, if_neg (by decide)]
      refine l157 _ ?_
      show (-1 : Int) = encO (if d.2.2.1 = 0 ∨ d.2.2.1 = 2 ∨ d.2.2.1 = 3 then fn2S d.2.2.1 a a2 else none)
      rw [if_neg q]
      rfl
  | a :: a2 :: a3 :: l, ch, ln, l157, own, hrc =>
    obtain ⟨kb1, ea, oa, kb2, ea2, oa2, -⟩ := ch
    have lb : ((a :: a2 :: a3 :: l).length : Int) = (l.length : Int) + 3 := rfl
    have lb2 : ((a :: a2 :: a3 :: l).length : Int) ≤ 160 := by
      rw [ln]
      have h1 := TF_len t4
      omega
    refine ⟨hb, kb, kb1, by constructor <;> omega, ?_⟩
    rw [if_neg (by omega), ea]
    refine ⟨hb, kb, kb1, ⟨kb2, ?_⟩⟩
    rw [ea2]
    unfold P_X5_function_63
    rw [E1.1, e4, wt]
    refine ⟨hb, kb, by constructor <;> omega, by constructor <;> omega, by split <;> decide, ?_⟩
    rw [if_neg (by split <;> omega)]
    exact l157 _ rfl
theorem matrixC (hk : d.1 = 7) (w : okN d c) (wc : wfT c) (hC : JCon (R_X5_part dep) b e T c) (hE : ECj m b e) (hT : TN m b d c lo hi k) (hn : NC m n) (post : JPost m b e d c lo hi k n Q) : W_X5_matrix (R_X5_part (dep + 1)) k m Q T := by
  have h30 : d.1 < 30 := by omega
  have n34 : ¬ (d.1 = 3 ∨ d.1 = 4) := by omega
  have h5 : d.1 = 5 → e.2.2.1 d.2.2.2 := fun q => by exfalso; omega
  have ar := okN_ar w (by omega)
  have l1 : 1 ≤ lenT c := by have := ar.1; unfold arT at this; omega
  have fb := (w.2.2.2.2.2.1 hk).1
  have f0 := w.2.1.1
  have hb := hE.2.1
  unfold W_X5_matrix
  refine toP5 (parts_nd hC ar.2 wc hE hT hn (fun m1 g f1 E1 T1 n1 hg => ?_))
  rcases hg with ⟨rfl, hrc⟩ | ⟨rfl, rc, hrc, ch, ln, an⟩
  · refine ⟨by decide, ?_⟩
    rw [if_pos rfl]
    exact own_none post f1 n1 h30 h5 hrc
  refine ⟨by decide, ?_⟩
  rw [if_neg (by decide)]
  obtain ⟨cl, ch', t2, ⟨e1, e4, e5, e9⟩, t4⟩ := id T1
  have kb : 0 ≤ k ∧ k < 160 := by omega
  have aR : AnR m1 b e d c k := ⟨fun q => by exfalso; omega, fun q => by exfalso; omega, fun _ => an⟩
  have own := own_mx (e := e) (rc := rc) hk
  match rc, ch, ln, own, hrc with
  | [], ch, ln, own, hrc => exfalso; have : 0 = lenT c := ln; omega
  | a :: l, ch, ln, own, hrc =>
    obtain ⟨kb1, ea, oa, chl⟩ := ch
    have okr : ∀ x, x ∈ l → ok3 x := fun x hx => allS_ok _ _ (jdS_ok hE.ok c wc) hrc x (List.mem_cons_of_mem _ hx)
    rw [E1.1]
    refine ⟨hb, kb, kb1, ?_⟩
    rw [ea]
    have own2 : ∀ o, o = jnL a l → ownS e d (a :: l) = match o with
        | none => none
        | some j => if 0 < d.2.2.1 ∧ j.1 ≠ -2 ∧ j.2.2 = 0 then some (j.1, j.2.1, d.2.2.1) else none := by
      intro o ho
      rw [own, ho]
      rfl
    have l84 : ∀ o, o = jnL a l → P_X5_matrix_84 (R_X5_part (dep + 1)) Q T k (encO o) m1 := by
      intro o ho
      have own3 := own2 o ho
      have oo : ∀ x, o = some x → ok3 x := fun x hx => jnL_ok l a x oa okr (by rw [← ho]; exact hx)
      have bad : ownS e d (a :: l) = none → P_X5_fail 4 (m1 (b + 5) k) m1 (fun r1 m1 => Q r1 m1) := fun q => own_bad post f1 n1 w.1 e5 (if_neg n34).symm h30 h5 hrc q
      have l111 : ownS e d (a :: l) = none → P_X5_matrix_111 (R_X5_part (dep + 1)) Q T k (encO o) m1 := by
        intro q
        unfold P_X5_matrix_111
        rw [if_pos rfl, E1.1]
        exact ⟨hb, kb, bad q⟩
      unfold P_X5_matrix_84
      rw [E1.1, e4]
      refine ⟨hb, kb, by constructor <;> omega, ?_⟩
      by_cases v0 : d.2.2.1 ≤ 0
      · rw [if_pos v0]
        refine l111 ?_
        rw [own3]
        rcases o with - | j
        · rfl
        · simp only
          rw [if_neg (fun q => by have := q.1; omega)]
      rw [if_neg v0]
      refine ⟨encO_ri oo, ?_⟩
      rcases o with - | j
      · rw [if_pos (show encO none < 0 by decide)]
        exact l111 own3
      · have oj := oo j rfl
        have xj := encC_bd oj
        simp only at own3
        by_cases jB : j.1 = -2
        · rw [if_pos (show encO (some j) < 0 by rw [show encO (some j) = encC j from rfl, xj.2.1 jB]; decide)]
          exact l111 (by rw [own3, if_neg (fun q => q.2.1 jB)])
        · rw [if_neg (show ¬ encO (some j) < 0 from fun q => by have q' : encC j < 0 := q; have := xj.2.2 jB; omega)]
          have gj := encC_RG oj jB
          obtain ⟨gj1, gj2, gj3, gj4⟩ := id gj
          refine c_size gj ⟨by constructor <;> omega, ?_⟩
          by_cases s0 : j.2.2 = 0
          · rw [if_pos s0]
            refine ⟨by decide, ?_⟩
            rw [if_neg (by decide), E1.1, e4]
            refine ⟨hb, ?_⟩
            have g := own_good post f1 n1 h30 h5 hrc (own3.trans (if_pos ⟨by omega, jB, s0⟩)) aR
            have ee : encC ((j.1, j.2.1, d.2.2.1) : R3) = encO (some j) + d.2.2.1 := by
              show encC ((j.1, j.2.1, d.2.2.1) : R3) = encC j + d.2.2.1
              unfold encC
              simp only
              rw [if_neg jB, if_neg jB]
              omega
            rw [ee] at g
            exact g
          · rw [if_neg s0]
            refine ⟨by decide, ?_⟩
            rw [if_pos rfl, E1.1]
            exact ⟨hb, bad (by rw [own3, if_neg (fun q => s0 q.2.2)])⟩
    have L : ∀ (l' : List R3) (kk : Int) (acc : Option R3), chR m1 b kk l' → (∀ x, x ∈ l' → ok3 x) → (∀ x, acc = some x → ok3 x) → (match acc with
        | none => none
        | some j => jnL j l') = jnL a l → P_X5_matrix_47 (R_X5_part (dep + 1)) Q T (l'.length + 1) k (encO acc) kk m1 := by
      intro l'
      induction l' with
      | nil =>
        intro kk acc hc _ ha hj
        have k1 : kk = -1 := hc
        refine ⟨by rw [k1]; decide, ?_⟩
        rw [if_pos k1]
        refine l84 acc ?_
        rcases acc with - | j
        · exact hj
        · exact hj
      | cons x l' ih =>
        intro kk acc hc hl ha hj
        obtain ⟨h1, h2, h3, h4⟩ := hc
        refine ⟨by constructor <;> omega, ?_⟩
        rw [if_neg (by omega)]
        refine ⟨encO_ri ha, ?_⟩
        rcases acc with - | j
        · rw [if_pos (show encO none = -1 from rfl)]
          exact l84 none hj
        · have oj := ha j rfl
          have n1' : ¬ encO (some j) = -1 := fun q => by have := (encO_1 (o := some j) (fun y hy => by cases hy; exact oj)).1 q; cases this
          rw [if_neg n1', E1.1, h2]
          refine ⟨hb, h1, c_join oj h3 ?_⟩
          rw [E1.1]
          refine ⟨hb, ih _ (jn j x) h4 (fun y hy => hl y (List.mem_cons_of_mem _ hy)) (fun y hy => jn_ok oj h3 hy) ?_⟩
          rw [← hj]
          simp only
          show _ = jnL j (x :: l')
          unfold jnL
          rcases jn j x with - | y
          · rfl
          · cases l' <;> rfl
    exact ⟨_, L l _ (some a) chl okr (fun y hy => by cases hy; exact oa) rfl⟩
theorem callC (hk : d.1 = 5) (w : okN d c) (wc : wfT c) (hC : JCon (R_X5_part dep) b e T c) (hE : ECj m b e) (hT : TN m b d c lo hi k) (hn : NC m n) (post : JPost m b e d c lo hi k n Q) : W_X5_call (R_X5_part (dep + 1)) k m Q T := by
  have h30 : d.1 < 30 := by omega
  have n34 : ¬ (d.1 = 3 ∨ d.1 = 4) := by omega
  have ar := okN_ar w (by omega)
  have l1 : 1 ≤ lenT c := by have := ar.1; unfold arT at this; omega
  have hb := hE.2.1
  have bx := hb
  unfold isTx at bx
  obtain ⟨F, nf, hB, hup, kn, mt⟩ := hE.cl
  obtain ⟨cl0, ch0, t20, ⟨e10, e40, e50, e90⟩, t40⟩ := id hT
  have kb : 0 ≤ k ∧ k < 160 := by omega
  have e9' := e90 (by omega)
  unfold W_X5_call
  rw [hE.1, e9', hup]
  refine ⟨hb, kb, c_isCalledC hB w.2.2.1 (fun yes => ?_) (fun no => ?_)⟩
  · refine ⟨by decide, ?_⟩
    rw [if_neg (by decide)]
    have h5 : d.1 = 5 → e.2.2.1 d.2.2.2 := fun _ => by rw [kn]; exact yes
    refine toP5 (parts_nd hC ar.2 wc hE hT hn (fun m1 g f1 E1 T1 n1 hg => ?_))
    rcases hg with ⟨rfl, hrc⟩ | ⟨rfl, rc, hrc, ch, ln, an⟩
    · refine ⟨by decide, ?_⟩
      rw [if_pos rfl]
      exact own_none post f1 n1 h30 h5 hrc
    refine ⟨by decide, ?_⟩
    rw [if_neg (by decide), E1.1]
    refine ⟨hb, c_manyC hb kb ch ?_⟩
    rw [E1.1]
    refine ⟨hb, ?_⟩
    have okr : ∀ x, x ∈ rc → ok3 x := allS_ok _ _ (jdS_ok hE.ok c wc) hrc
    have own : ∀ o, o = mtS F nf d.2.2.2 rc → ownS e d rc = match o with
        | none => none
        | some x => some x.2.2 := by
      intro o ho
      rw [own_call hk, mt, ← ho]
      rcases o with - | x <;> rfl
    have lb : (rc.length : Int) ≤ 160 := by
      rw [ln]
      obtain ⟨cl, ch', t2, t3, t4⟩ := T1
      have h1 := TF_len t4
      omega
    -- behind the row
    have F4 : ∀ m4, (∀ c' i', c' ≠ 373 → m4 c' i' = m1 c' i') → FJd b lo hi m m4 ∧ ECj m4 b e ∧ TN m4 b d c lo hi k ∧ NC m4 (mn n (jdS e c).2) ∧ AnF m4 b e c (m4 (b + 2) k) := by
      intro m4 g4
      have f14 : FJd b lo lo m1 m4 := fun c' i' _ _ q3 _ => g4 c' i' q3
      have f4 : FJd b lo hi m m4 := fun c' i' q1 q2 q3 q4 => (g4 c' i' q3).trans (f1 c' i' q1 q2 q3 q4)
      refine ⟨f4, hE.fj f4, hT.fj hb f4, n1.congr (g4 _ _ (by decide)) (g4 _ _ (by decide)), ?_⟩
      obtain ⟨cl, ch', t2, t3, t4⟩ := T1
      rw [f14.st hb (by omega)]
      exact an.fj hb f14 t4 (by omega)
    have bad : ∀ m4, FJd b lo hi m m4 → ECj m4 b e → TN m4 b d c lo hi k → NC m4 (mn n (jdS e c).2) → ownS e d rc = none → P_X5_call_155 (R_X5_part (dep + 1)) Q T k (-1) m4 := by
      intro m4 f4 E4 T4 n4 q
      obtain ⟨cl, ch', t2, ⟨e1, e4, e5, e9⟩, t4⟩ := T4
      refine ⟨by decide, ?_⟩
      rw [if_pos rfl, E4.1]
      exact ⟨hb, kb, own_bad post f4 n4 w.1 e5 (if_neg n34).symm h30 h5 hrc q⟩
    have l121 : ∀ m4, (∀ c' i', c' ≠ 373 → m4 c' i' = m1 c' i') → (rc.length ≤ 3 → rowR m4 373 0 rc) → P_X5_call_121 (R_X5_part (dep + 1)) Q T k (rc.length : Int) m4 := by
      intro m4 g4 hr
      obtain ⟨f4, E4, T4, n4, an4⟩ := F4 m4 g4
      obtain ⟨cl, ch', t2, ⟨e1, e4, e5, e9⟩, t4⟩ := id T4
      unfold P_X5_call_121
      refine ⟨by constructor <;> omega, ?_⟩
      by_cases q3 : (rc.length : Int) ≤ 3
      · rw [if_pos q3, E4.1, e9 (by omega)]
        have up4 : m4 372 2 = nf := by rw [f4 372 2 (by omega) (by decide) (by decide) (by decide)]; exact hup
        rw [up4]
        have hB4 : BKh m4 F nf := hB.fr (fun c' i' z => by
          obtain ⟨b', tx, z⟩ := z
          have q := tx
          unfold isTx at q
          exact f4 c' i' (fun y => tx_ne hb tx (by omega) y.1) (by omega) (by omega) (by omega))
        refine ⟨hb, kb, c_meantC (Or.inl rfl) hB4 w.2.2.1 (hr (by omega)) (by omega) (fun m5 f5 w5 => ?_)⟩
        have f5' : FJd b lo hi m m5 := f4.trans f5.fj
        have E5 := hE.fj f5'
        have T5 := hT.fj hb f5'
        have n5 : NC m5 (mn n (jdS e c).2) := n4.congr (f5 _ _ (by decide)) (f5 _ _ (by decide))
        have mtd : mtS F nf d.2.2.2 rc = (match bestS F d.2.2.2 rc nf.toNat with
            | none => none
            | some x => match instS (F x.1) 0 x.2.2 with
              | none => none
              | some z => some (x.1, x.2.2, z)) := by
          unfold mtS
          rw [if_neg (by omega)]
          rcases bestS F d.2.2.2 rc nf.toNat with - | x
          · rfl
          · simp only
            rcases instS (F x.1) 0 x.2.2 with - | z <;> rfl
        rcases hbs : bestS F d.2.2.2 rc nf.toNat with - | ⟨j, p, R⟩
        · rw [hbs] at mtd
          exact bad m5 f5' E5 T5 n5 (own none mtd.symm)
        · rw [hbs] at mtd
          simp only at mtd
          obtain ⟨b1, b2, b3⟩ := bestS_bd _ j p R hbs
          have nfb := hB.1
          have hF := hB.2 j b1.1 (by omega)
          obtain ⟨c1, c2, c3, c4⟩ := candS_ok hF.1 okr b2
          have ia := inst_all hF.1 c2
          have w7 := w5 j p R hbs
          rcases hz : instS (F j) 0 R with - | z
          · exact absurd hz (ia 0 (by decide) (by have := hF.1.1; omega))
          rw [hz] at mtd
          simp only at mtd
          have tx := isTx_k (k := j) (by omega)
          show P_X5_call_155 (R_X5_part (dep + 1)) Q T k j m5
          unfold P_X5_call_155
          refine ⟨by constructor <;> omega, ?_⟩
          rw [if_neg (by omega), E5.1]
          refine ⟨hb, kb, ?_⟩
          rintro m6 rfl
          have e61 : up m5 (b + 7) k j 372 1 = b := by rw [up_ne (by omega)]; exact E5.1
          have e63 : up m5 (b + 7) k j 3 7 = encO R := by rw [up_ne (by omega)]; exact w7
          rw [e61, e63]
          refine ⟨hb, ?_⟩
          rintro m7 rfl
          have e73 : up (up m5 (b + 7) k j) (b + 8) k (encO R) 3 7 = encO R := by rw [up_ne (by omega)]; exact e63
          rw [e73]
          obtain ⟨m7, hm7⟩ : ∃ m7, m7 = up (up m5 (b + 7) k j) (b + 8) k (encO R) := ⟨_, rfl⟩
          rw [← hm7]
          have f57 : ∀ c' i', ¬ ((c' = b + 7 ∨ c' = b + 8) ∧ i' = k) → m7 c' i' = m5 c' i' := fun c' i' q => by
            rw [hm7, up_ne (fun z => q ⟨Or.inr z.1, z.2⟩), up_ne (fun z => q ⟨Or.inl z.1, z.2⟩)]
          have f7 : FJd b lo hi m m7 := fun c' i' q1 q2 q3 q4 => by
            rw [f57 c' i' (fun z => q1 ⟨by omega, by omega, by omega⟩)]
            exact f5' c' i' q1 q2 q3 q4
          have n7 : NC m7 (mn n (jdS e c).2) := n5.congr (f57 _ _ (by omega)) (f57 _ _ (by omega))
          have x7 : TXh m7 (8 + 17 * j) (F j) := hF.2.fr tx (fun c' i' z => by
            have q := tx
            unfold isTx at q
            exact f7 c' i' (fun y => tx_ne hb tx (by omega) y.1) (by omega) (by omega) (by omega))
          refine ⟨by omega, c_ringC tx hF.1 x7 ⟨by decide, by have := hF.1.1; omega⟩ c3 (fun q => by rcases c2 with z | z; exact z.2; exact absurd q z.2) ?_⟩
          rw [hz]
          have aR : AnR m7 b e d c k := by
            refine ⟨fun q => by exfalso; omega, fun _ rc' f' R' z' h1 h2 => ?_, fun _ => ?_⟩
            · rw [hrc] at h1
              cases h1
              rw [mt, mtd] at h2
              cases h2
              constructor
              · rw [hm7, up_ne (by omega), up_at]
              · rw [hm7, up_at]
            · have f47 : FJd b k (k + 1) m4 m7 := fun c' i' q1 q2 q3 q4 => by
                rw [f57 c' i' (fun z => q1 ⟨by omega, by omega, by omega⟩)]
                exact f5 c' i' q4
              rw [f47.st hb (by omega)]
              exact an4.fj hb f47 t4 (by omega)
          exact own_good post f7 n7 h30 h5 hrc (own _ mtd.symm) aR
      · rw [if_neg q3]
        refine bad m4 f4 E4 T4 n4 (own none ?_)
        unfold mtS
        rw [if_pos (by omega)]
    have L : ∀ (l : List R3) (pre : List R3) (kk i : Int) (m4 : MM), rc = pre ++ l → i = (pre.length : Int) → (∀ c' i', c' ≠ 373 → m4 c' i' = m1 c' i') → chR m1 b kk l → (pre.length ≤ 3) → (∀ p' x' s', pre = p' ++ x' :: s' → m4 373 (p'.length : Int) = encC x') → P_X5_call_74 (R_X5_part (dep + 1)) Q T (l.length + 1) k (rc.length : Int) i kk m4 := by
      intro l
      induction l with
      | nil =>
        intro pre kk i m4 hpre hi' g4 hc _ hrow
        have k1 : kk = -1 := hc
        refine ⟨by rw [k1]; decide, ?_⟩
        rw [if_pos k1]
        refine l121 m4 g4 (fun _ => ?_)
        rw [List.append_nil] at hpre
        have RR : ∀ (l' p' : List R3), pre = p' ++ l' → rowR m4 373 (p'.length : Int) l' := by
          intro l'
          induction l' with
          | nil => intro p' _; trivial
          | cons y l' ihl =>
            intro p' hp'
            refine ⟨hrow p' y l' hp', okr y (by rw [hpre, hp']; simp), ?_⟩
            have := ihl (p' ++ [y]) (by rw [hp']; simp)
            rw [show (((p' ++ [y]).length : Nat) : Int) = (p'.length : Int) + 1 by simp] at this
            exact this
        have := RR pre [] rfl
        rw [hpre]
        exact this
      | cons x l ih =>
        intro pre kk i m4 hpre hi' g4 hc h3 hrow
        obtain ⟨h1, h2, hx3, h4⟩ := hc
        have E4 := (F4 m4 g4).2.1
        refine ⟨by constructor <;> omega, ?_⟩
        rw [if_neg (by omega)]
        refine ⟨by constructor <;> omega, ?_⟩
        by_cases i3 : 3 ≤ i
        · rw [if_pos i3]
          refine l121 m4 g4 (fun q => ?_)
          exfalso
          rw [hpre] at q
          simp at q
          omega
        · rw [if_neg i3, E4.1]
          refine ⟨hb, h1, by omega, ?_⟩
          rintro m5 rfl
          have g5 : ∀ c' i', c' ≠ 373 → up m4 373 i (m4 (b + 6) kk) c' i' = m1 c' i' := fun c' i' q => by rw [up_ne (fun z => q z.1)]; exact g4 c' i' q
          have E5 := (F4 _ g5).2.1
          rw [E5.1, g5 (b + 3) kk (by omega)]
          refine ⟨hb, ih (pre ++ [x]) _ (i + 1) _ (by rw [hpre]; simp) (by rw [hi']; simp) g5 h4 (by simp; omega) ?_⟩
          intro p' x' s' hp'
          rcases List.append_eq_append_iff.1 hp' with ⟨a', q1, q2⟩ | ⟨a', q1, q2⟩
          · -- p' is pre ++ a'
            rcases a' with - | ⟨y, a'⟩
            · simp at q2
              rw [List.append_nil] at q1
              obtain ⟨rfl, -⟩ := q2
              rw [q1, ← hi', up_at, g4 (b + 6) kk (by omega)]
              exact h2
            · exfalso
              have := congrArg List.length q2
              simp at this
          · rcases a' with - | ⟨y, a'⟩
            · simp at q2
              rw [List.append_nil] at q1
              obtain ⟨rfl, -⟩ := q2
              rw [← q1, ← hi', up_at, g4 (b + 6) kk (by omega)]
              exact h2
            · have q3 : x' = y := by simp at q2; exact q2.1
              rw [q3]
              have hl : (p'.length : Int) ≠ i := by rw [hi', q1]; simp; omega
              rw [up_neI hl]
              exact hrow p' y a' q1
    exact ⟨_, L rc [] _ 0 m1 rfl rfl (fun _ _ _ => rfl) ch (by decide) (fun p' x' s' q => by simp at q)⟩
  · refine ⟨by decide, ?_⟩
    rw [if_pos rfl, hE.1, e50]
    have nk : d.1 = 5 ∧ ¬ e.2.2.1 d.2.2.2 := ⟨hk, fun q => no (by rw [kn] at q; exact q)⟩
    have e0 : nodeS e d c (jdS e c) = (none, mn (jdS e c).2 (some (d.2.1, 3))) := by
      unfold nodeS
      rw [if_neg (by omega), if_pos nk]
    have r1 : rgS e d c = none := congrArg Prod.fst e0
    have r2 : ntS e d c = some (d.2.1, 3) := (congrArg Prod.snd e0).trans (mn_big (fun q hq => by have := jdS_pl c _ (w.2.2.2.2.2.2.2.1 hk) q hq; omega))
    refine ⟨hb, c_failC hn (by decide) w.1 (fun m2 f2 n2 => ?_)⟩
    have := post m2 f2.fj (by rw [r2]; exact n2) (fun x hx => by rw [r1] at hx; cases hx)
    rw [r1] at this
    exact this
end WALK2
