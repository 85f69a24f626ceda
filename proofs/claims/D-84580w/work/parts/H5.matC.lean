set_option maxRecDepth 100000
/-! the component's parser: matrices -/
def mnL (rs : List (List PT)) : Int := rs.foldl (fun a r => min a (r.length : Int)) 150
def mxL (rs : List (List PT)) : Int := rs.foldl (fun a r => max a (r.length : Int)) 0
theorem mn_le : ∀ (rs : List (List PT)) (a n : Int), n ≤ rs.foldl (fun a r => min a (r.length : Int)) a ↔ n ≤ a ∧ ∀ r, r ∈ rs → n ≤ (r.length : Int) := by
  intro rs
  induction rs with
  | nil => intro a n; simp
  | cons r rs ih =>
    intro a n
    rw [List.foldl_cons, ih]
    constructor
    · rintro ⟨h1, h2⟩
      refine ⟨by omega, fun x hx => ?_⟩
      rcases List.mem_cons.1 hx with rfl | hx
      · omega
      · exact h2 x hx
    · rintro ⟨h1, h2⟩
      have := h2 r (by simp)
      exact ⟨by omega, fun x hx => h2 x (List.mem_cons_of_mem _ hx)⟩
theorem mx_le : ∀ (rs : List (List PT)) (a n : Int), rs.foldl (fun a r => max a (r.length : Int)) a ≤ n ↔ a ≤ n ∧ ∀ r, r ∈ rs → (r.length : Int) ≤ n := by
  intro rs
  induction rs with
  | nil => intro a n; simp
  | cons r rs ih =>
    intro a n
    rw [List.foldl_cons, ih]
    constructor
    · rintro ⟨h1, h2⟩
      refine ⟨by omega, fun x hx => ?_⟩
      rcases List.mem_cons.1 hx with rfl | hx
      · omega
      · exact h2 x hx
    · rintro ⟨h1, h2⟩
      have := h2 r (by simp)
      exact ⟨by omega, fun x hx => h2 x (List.mem_cons_of_mem _ hx)⟩
theorem mnL_app (rs : List (List PT)) (r : List PT) : mnL (rs ++ [r]) = min (mnL rs) (r.length : Int) := by unfold mnL; rw [List.foldl_append]; rfl
theorem mxL_app (rs : List (List PT)) (r : List PT) : mxL (rs ++ [r]) = max (mxL rs) (r.length : Int) := by unfold mxL; rw [List.foldl_append]; rfl
theorem rowsN_mm (rs : List (List PT)) : rowsN rs = if mnL rs = (rs.length : Int) ∧ mxL rs = (rs.length : Int) ∧ ¬ (3 < (rs.length : Int)) then (rs.length : Int) else 0 := by
  unfold rowsN
  by_cases h : (∀ r, r ∈ rs → r.length = rs.length) ∧ rs.length ≤ 3
  · rw [if_pos h]
    by_cases hz : rs.length = 0
    · rw [hz]; split <;> rfl
    · obtain ⟨r0, hr0⟩ : ∃ r, r ∈ rs := by
        cases rs with
        | nil => exact absurd rfl hz
        | cons r rs => exact ⟨r, by simp⟩
      have a1 := (mn_le rs 150 (rs.length : Int)).2 ⟨by omega, fun r hr => by have := h.1 r hr; omega⟩
      have a2 := ((mn_le rs 150 (mnL rs)).1 (Int.le_refl _)).2 r0 hr0
      have a3 := (mx_le rs 0 (rs.length : Int)).2 ⟨by omega, fun r hr => by have := h.1 r hr; omega⟩
      have a4 := ((mx_le rs 0 (mxL rs)).1 (Int.le_refl _)).2 r0 hr0
      have e0 := h.1 r0 hr0
      have a1' : (rs.length : Int) ≤ mnL rs := a1
      have a3' : mxL rs ≤ (rs.length : Int) := a3
      rw [if_pos ⟨by omega, by omega, by omega⟩]
  · rw [if_neg h]
    by_cases g : mnL rs = (rs.length : Int) ∧ mxL rs = (rs.length : Int) ∧ ¬ (3 < (rs.length : Int))
    · exfalso
      refine h ⟨fun r hr => ?_, by omega⟩
      have a2 := ((mn_le rs 150 (mnL rs)).1 (Int.le_refl _)).2 r hr
      have a4 := ((mx_le rs 0 (mxL rs)).1 (Int.le_refl _)).2 r hr
      omega
    · rw [if_neg g]
def rwB (rs : List (List PT)) (p : Int) : Prop := (0 ≤ mnL rs ∧ mnL rs ≤ 150) ∧ (0 ≤ mxL rs ∧ mxL rs ≤ 160) ∧ (rs.length : Int) ≤ p
def LrM (tk : Int → TK) (N b : Int) (T : MM → Prop) (f : Nat) : Prop := ∀ (dep n : Nat) (p o lo s x l : Int) (d : ND) (rws : List (List PT)) (m0 m : MM) (Q : Int → MM → Prop), 20 * (151 - p) + 15 < f → f ≤ n → 13 * (12 - (o + 1)) + 13 ≤ dep + 1 → PC m tk N b p o → Fnw b lo m0 m → lo ≤ x → Chn m b d rws.flatten x (m b 0) l → 0 ≤ s ∧ m b 0 + s ≤ p → rwB rws p → (∀ rs q, pS tk f 22 acc0 p o = .ok (rs, q) → ∀ l' m', PC m' tk N b q o → Fnw b lo m0 m' → Chn m' b d (rws ++ rs).flatten x (m' b 0) l' → m' b 0 + s ≤ q → rwB (rws ++ rs) q → P_X3_matrix_127 (R_X3_expression dep) Q T x ((rws ++ rs).length) (mnL (rws ++ rs)) (mxL (rws ++ rs)) m') → (∀ e, pS tk f 22 acc0 p o = .error e → PEr T b m0 e) → P_X3_matrix_28 (R_X3_expression dep) Q T n x (rws.length) l (mnL rws) (mxL rws) m
section MATC
variable {T : MM → Prop} {tk : Int → TK} {N b : Int} {f dep n : Nat} {m0 m : MM} {p o lo s x w kd : Int} {a : PT} {Q K : Int → MM → Prop}
theorem TF.len : ∀ {ps : List PT} {lo hi k : Int}, TF m b (chT ps) lo hi k → (ps.length : Int) ≤ hi - lo := by
  intro ps
  induction ps with
  | nil => intro lo hi k h; have := h.2; show ((0 : Nat) : Int) ≤ _; omega
  | cons a ps ih =>
    intro lo hi k h
    obtain ⟨mid, h1, h2, h3⟩ := h
    have r := TN.rng h2
    have := ih h3
    rw [List.length_cons]; omega
theorem rw_eq {f : Nat} {p o : Int} : pS tk (f + 1) 22 acc0 p o = (noS tk 91 p o >>= fun q => pS tk f 20 acc0 q (o + 1) >>= fun x => ndS tk 93 x.2 >>= fun q2 => if isSg tk 44 q2 then (goS tk q2 >>= fun q3 => pS tk f 22 acc0 q3 o >>= fun y => .ok (fstR x.1 :: y.1, y.2)) else .ok ([fstR x.1], q2)) := rfl
theorem c_lrM (hM : LiM tk N b T f) (hL : LrM tk N b T f) : LrM tk N b T (f + 1) := by
  intro dep n p o lo s x l d rws m0 m Q hf hn hd hP fr hx hC hs hB h1 h0
  obtain ⟨n', rfl⟩ : ∃ n', n = n' + 1 := ⟨n - 1, by omega⟩
  have hb := hP.1.1
  have hb' := tx_b hb
  have ob := hP.2.2.2.2
  have E := rw_eq (tk := tk) (f := f) (p := p) (o := o)
  refine c_needOpenP (by decide) hP (fun m1 a1 g1 P1 => ⟨f, ?_⟩) (fun e z => fr.per hb (h0 e (by rw [E, z]; rfl)))
  rw [a1] at E
  have E1 : pS tk (f + 1) 22 acc0 p o = (pS tk f 20 acc0 (p + 1) (o + 1) >>= fun x => ndS tk 93 x.2 >>= fun q2 => if isSg tk 44 q2 then (goS tk q2 >>= fun q3 => pS tk f 22 acc0 q3 o >>= fun y => .ok (fstR x.1 :: y.1, y.2)) else .ok ([fstR x.1], q2)) := E
  clear E
  have n1 : m1 b 0 = m b 0 := g1 _ _ (by omega)
  refine hM dep f (p + 1) (o + 1) lo s x l _ _ _ 0 _ d rws.flatten m0 m1 Q (by omega) (Nat.le_refl _) hd P1 (fr.s3 g1) hx (by rw [n1]; exact hC.fr (fun c i z _ _ => g1 c i (by omega))) (by omega) (fun ra qa ha l2 m2 P2 F2 C2 n2 => ?_) (fun e z => h0 e (by rw [E1, z]; rfl))
  have la := (pS_lt ha).2 (by omega)
  rw [ha] at E1
  have E2 : pS tk (f + 1) 22 acc0 p o = (ndS tk 93 qa >>= fun q2 => if isSg tk 44 q2 then (goS tk q2 >>= fun q3 => pS tk f 22 acc0 q3 o >>= fun y => .ok (fstR ra :: y.1, y.2)) else .ok ([fstR ra], q2)) := E1
  clear E1
  have ln : ((fstR ra).length : Int) ≤ 160 := by
    have h := TF.len C2.2.2.1
    have h' := C2.2.1
    rw [List.length_append] at h
    omega
  refine c_closesP (by decide) P2 (by omega) (fun m3 a3 g3 P3 => ?_) (fun e z => F2.per hb (h0 e (by rw [E2, z]; rfl)))
  rw [show o + 1 - 1 = o by omega] at P3
  rw [a3] at E2
  have E3 : pS tk (f + 1) 22 acc0 p o = (if isSg tk 44 (qa + 1) then (goS tk (qa + 1) >>= fun q3 => pS tk f 22 acc0 q3 o >>= fun y => .ok (fstR ra :: y.1, y.2)) else .ok ([fstR ra], qa + 1)) := E2
  clear E2
  have F3 := F2.s3 g3
  have n3 : m3 b 0 = m2 b 0 := g3 _ _ (by omega)
  obtain ⟨B1, B2, B3⟩ := hB
  have rl : RI (0 + ((fstR ra).length : Int)) := by constructor <;> omega
  refine c_min (by constructor <;> omega) rl (c_max (by constructor <;> omega) rl ?_)
  rw [show (0 : Int) + ((fstR ra).length : Int) = ((fstR ra).length : Int) by omega, ← mnL_app, ← mxL_app, show ((rws.length : Int) + 1) = ((rws ++ [fstR ra]).length : Int) by rw [List.length_append]; rfl]
  have C3 : Chn m3 b d (rws ++ [fstR ra]).flatten x (m3 b 0) l2 := by
    rw [n3, List.flatten_append]
    have e : ([fstR ra] : List (List PT)).flatten = fstR ra := by simp
    rw [e]
    exact C2.fr (fun c i z _ _ => g3 c i (by omega))
  have B4 : rwB (rws ++ [fstR ra]) (qa + 1) := by
    refine ⟨?_, ?_, ?_⟩
    · rw [mnL_app]; omega
    · rw [mxL_app]; omega
    · rw [List.length_append]; show ((rws.length + 1 : Nat) : Int) ≤ _; omega
  refine c_takesP (by decide) P3 (fun m4 y a4 g4 P4 => ⟨by decide, ?_⟩) (fun y => ⟨by decide, ?_⟩) (fun e y z => F3.per hb (h0 e (by rw [E3, if_pos y, z]; rfl)))
  · rw [if_neg (by decide)]
    have E4 : pS tk (f + 1) 22 acc0 p o = (pS tk f 22 acc0 (qa + 1 + 1) o >>= fun y => .ok (fstR ra :: y.1, y.2)) := by rw [E3, if_pos y, a4]; rfl
    have n4 : m4 b 0 = m3 b 0 := g4 _ _ (by omega)
    refine hL dep n' (qa + 1 + 1) o lo s x l2 d (rws ++ [fstR ra]) m0 m4 Q (by omega) (by omega) hd P4 (F3.s2 g4) hx (by rw [n4]; exact C3.fr (fun c i z _ _ => g4 c i (by omega))) (by omega) ⟨B4.1, B4.2.1, by have := B4.2.2; omega⟩ (fun rs q z l' m' P' F' C' nn' B' => ?_) (fun e z => h0 e (by rw [E4, z]; rfl))
    rw [List.append_assoc] at C' B' ⊢
    exact h1 (fstR ra :: rs) q (by rw [E4, z]; rfl) l' m' P' F' C' nn' B'
  · rw [if_pos rfl]
    exact h1 [fstR ra] (qa + 1) (by rw [E3, if_neg y]) l2 m3 P3 F3 C3 (by omega) B4
/-- a matrix -/
theorem c_matC {k0 : Int} (hL : LrM tk N b T f) (hf : 20 * (151 - (p + 1)) + 15 < f) (hd : 13 * (12 - (o + 2)) + 13 ≤ dep + 1) (hP : PC m tk N b p o) (hk : 1 ≤ (tk p).1 ∧ (tk p).1 ≤ 5) (hn : m b 0 = k0) (hs : 0 ≤ k0 ∧ 0 ≤ s ∧ k0 + s ≤ p)
    (h1 : ∀ rs q, opS tk p o = .ok (p + 1) → pS tk f 22 acc0 (p + 1) (o + 1) = .ok (rs, q) → ndS tk 93 q = .ok (q + 1) → ∀ r m', PC m' tk N b (q + 1) o → Fnw b k0 m m' → TNs m' b ((7, w, rowsN rs, 0), chT rs.flatten) k0 (m' b 0) r → m' b 0 + s ≤ q + 1 → Q r m')
    (e1 : ∀ e, opS tk p o = .error e → PEr T b m e) (e2 : ∀ e, opS tk p o = .ok (p + 1) → pS tk f 22 acc0 (p + 1) (o + 1) = .error e → PEr T b m e)
    (e3 : ∀ rs q e, opS tk p o = .ok (p + 1) → pS tk f 22 acc0 (p + 1) (o + 1) = .ok (rs, q) → ndS tk 93 q = .error e → PEr T b m e) : R_X3_expression (dep + 1) 6 [w] m Q T := by
  have hb := hP.1.1
  have hb' := tx_b hb
  have pb := hP.2.2.1
  have ob := hP.2.2.2.2
  show W_X3_matrix (R_X3_expression dep) w m Q T
  unfold W_X3_matrix
  rw [hP.2.1]
  refine ⟨hb, c_newC hP hn (by omega) (by decide) (fun m1 f1 n1 P1 d1 => ?_)⟩
  have F1 : Fnw b k0 m m1 := Fnw.refl.ad (Int.le_refl _) f1
  refine c_opensP P1 hk (fun m2 a2 g2 P2 => ⟨f, ?_⟩) (fun e z => F1.per hb (e1 e z))
  have n2 : m2 b 0 = k0 + 1 := by rw [g2 _ _ (by omega)]; exact n1
  have c2 : Chn m2 b (7, w, 0, 0) ([] : List (List PT)).flatten k0 (m2 b 0) (-1) := by
    rw [n2]
    exact (d1.fr (fun c z => g2 c k0 (by omega))).chn (by omega)
  refine hL dep f (p + 1) (o + 1) k0 s k0 (-1) (7, w, 0, 0) [] m m2 Q hf (Nat.le_refl _) (by omega) P2 (F1.s3 g2) (Int.le_refl _) c2 (by omega) ⟨by decide, by decide, by show ((0 : Nat) : Int) ≤ _; omega⟩ (fun rs q hq l' m3 P3 F3 C3 n3 B3 => ?_) (fun e z => e2 e a2 z)
  rw [List.nil_append] at C3 B3 ⊢
  obtain ⟨B31, B32, B33⟩ := B3
  have pq := P3.2.2.1
  refine c_closesP (by decide) P3 (by omega) (fun m4 a4 g4 P4 => ?_) (fun e z => F3.per hb (e3 rs q e a2 hq z))
  rw [show o + 1 - 1 = o by omega] at P4
  have n4 : m4 b 0 = m3 b 0 := g4 _ _ (by omega)
  have C4 : Chn m4 b (7, w, 0, 0) rs.flatten k0 (m3 b 0) l' := C3.fr (fun c i z _ _ => g4 c i (by omega))
  have F4 := F3.s3 g4
  rw [P4.2.1]
  refine ⟨hb, by constructor <;> omega, by constructor <;> omega, ?_⟩
  have fin : ∀ v, v = rowsN rs → ∀ m5, m5 = up m4 (b + 4) k0 v → Q k0 m5 := by
    rintro v rfl m5 rfl
    have n5 : up m4 (b + 4) k0 (rowsN rs) b 0 = m3 b 0 := by rw [up_ne (by omega)]; exact n4
    refine h1 rs q a2 hq a4 k0 _ (P4.tx (by omega)) (F4.tx (by omega) (Int.le_refl _)) ?_ (by omega)
    rw [n5]
    obtain ⟨⟨⟨y1, y2, y3, y4⟩, y5⟩, y6, y7, y8⟩ := C4
    refine ⟨⟨k0 + 1, m3 b 0, by omega, ⟨?_, up_at .., ?_, fun z => ?_⟩, ?_⟩, ?_⟩
    · rw [up_ne (by omega)]; exact y1
    · rw [up_ne (by omega)]; exact y3
    · exfalso
      have z' : (7 : Int) = 4 ∨ (7 : Int) = 5 ∨ (7 : Int) = 33 ∨ (7 : Int) = 35 := z
      omega
    · rw [up_ne (by omega)]; exact y7.frr (fun c i z z1 z2 => up_ne (by omega))
    · rw [up_ne (by omega)]; exact y5
  have RN := rowsN_mm rs
  by_cases y : mnL rs = (rs.length : Int)
  · rw [if_pos y]
    refine ⟨by constructor <;> omega, ?_⟩
    by_cases y1 : mxL rs = (rs.length : Int)
    · rw [if_pos y1]
      by_cases y2 : 3 < (rs.length : Int)
      · rw [if_pos y2]
        rw [if_neg (fun z => z.2.2 y2)] at RN
        exact ⟨by omega, fin 0 RN.symm⟩
      · rw [if_neg y2]
        rw [if_pos ⟨y, y1, y2⟩] at RN
        exact ⟨by omega, fin _ RN.symm⟩
    · rw [if_neg y1]
      rw [if_neg (fun z => y1 z.2.1)] at RN
      exact ⟨by omega, fin 0 RN.symm⟩
  · rw [if_neg y]
    rw [if_neg (fun z => y z.1)] at RN
    exact ⟨by omega, fin 0 RN.symm⟩
end MATC
