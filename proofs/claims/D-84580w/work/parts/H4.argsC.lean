set_option maxRecDepth 100000
/-! the component's parser: lists of parts -/
def LiA (tk : Int → TK) (N b : Int) (T : MM → Prop) (f : Nat) : Prop := ∀ (dep n : Nat) (p o lo s x l : Int) (d : ND) (acc : List PT) (m0 m : MM) (Q : Int → MM → Prop), 20 * (151 - p) + 14 < f → f ≤ n → 13 * (12 - o) + 13 ≤ dep + 1 → PC m tk N b p o → Fnw b lo m0 m → lo ≤ x → Chn m b d acc x (m b 0) l → 0 ≤ s ∧ m b 0 + s ≤ p → (∀ rs q, pS tk f 20 acc0 p o = .ok (rs, q) → ∀ l' m', PC m' tk N b q o → Fnw b lo m0 m' → Chn m' b d (acc ++ fstR rs) x (m' b 0) l' → m' b 0 + s ≤ q → P_X3_arguments_66 (R_X3_expression dep) Q T m') → (∀ e, pS tk f 20 acc0 p o = .error e → PEr T b m0 e) → P_X3_arguments_18 (R_X3_expression dep) Q T n x l m
def LiM (tk : Int → TK) (N b : Int) (T : MM → Prop) (f : Nat) : Prop := ∀ (dep n : Nat) (p o lo s x l x3 x5 x6 c : Int) (K28 : Int → Int → Int → Int → Int → MM → Prop) (d : ND) (acc : List PT) (m0 m : MM) (Q : Int → MM → Prop), 20 * (151 - p) + 14 < f → f ≤ n → 13 * (12 - o) + 13 ≤ dep + 1 → PC m tk N b p o → Fnw b lo m0 m → lo ≤ x → Chn m b d acc x (m b 0) l → 0 ≤ s ∧ m b 0 + s ≤ p → (∀ rs q, pS tk f 20 acc0 p o = .ok (rs, q) → ∀ l' m', PC m' tk N b q o → Fnw b lo m0 m' → Chn m' b d (acc ++ fstR rs) x (m' b 0) l' → m' b 0 + s ≤ q → P_X3_matrix_91 (R_X3_expression dep) Q T K28 x x3 l' x5 x6 (c + (fstR rs).length) m') → (∀ e, pS tk f 20 acc0 p o = .error e → PEr T b m0 e) → P_X3_matrix_37 (R_X3_expression dep) Q T K28 n x x3 l x5 x6 c m
section ARGSC
variable {T : MM → Prop} {tk : Int → TK} {N b : Int} {f dep n : Nat} {m0 m : MM} {p o lo s x w kd : Int} {a : PT} {Q K : Int → MM → Prop}
theorem Chn.lr {d : ND} {ps : List PT} {hi l : Int} (h : Chn m b d ps x hi l) : RI l ∧ (l ≠ -1 → x < l ∧ l < hi) := by
  obtain ⟨-, h6, h7, h8⟩ := h
  rcases h8 with ⟨-, rfl⟩ | ⟨hn, hl⟩
  · exact ⟨by decide, fun z => absurd rfl z⟩
  · have := lst_rng hn h7
    rw [← hl] at this
    exact ⟨by constructor <;> omega, fun _ => by omega⟩
theorem li_eq {f : Nat} {p o : Int} : pS tk (f + 1) 20 acc0 p o = (pS tk f 0 acc0 p o >>= fun x => if isSg tk 44 x.2 then (goS tk x.2 >>= fun q1 => pS tk f 20 acc0 q1 o >>= fun y => .ok ([fstP x.1 :: fstR y.1], y.2)) else oneR (fstP x.1) x.2) := rfl
theorem c_liA (hE : ExC tk N b T f 0 5 13) (hL : LiA tk N b T f) : LiA tk N b T (f + 1) := by
  intro dep n p o lo s x l d acc m0 m Q hf hn hd hP fr hx hC hs h1 h0
  obtain ⟨n', rfl⟩ : ∃ n', n = n' + 1 := ⟨n - 1, by omega⟩
  have hb := hP.1.1
  have hb' := tx_b hb
  have cr := hC.2.1
  have lr := hC.lr
  have E := li_eq (tk := tk) (f := f) (p := p) (o := o)
  refine hE dep p o (m b 0) s m _ (by omega) hd hP rfl (by omega) (fun ra qa ha r m1 P1 F1 T1 n1 => ⟨lr.1, ?_⟩) (fun e z => fr.per hb (h0 e (by rw [E, z]; rfl)))
  have la := (pS_lt ha).2 (by omega)
  rw [ha] at E
  have E1 : pS tk (f + 1) 20 acc0 p o = (if isSg tk 44 qa then (goS tk qa >>= fun q1 => pS tk f 20 acc0 q1 o >>= fun y => .ok ([fstP ra :: fstR y.1], y.2)) else oneR (fstP ra) qa) := E
  clear E
  have ad := hC.add (fun c i z z1 z2 => F1 c i (by omega) (by omega) (by omega)) T1
  have F1' := fr.trans F1 (by omega)
  have st : ∀ m3, PC m3 tk N b qa o → Fnw b lo m0 m3 → Chn m3 b d (acc ++ [fstP ra]) x (m1 b 0) r → m3 b 0 = m1 b 0 → P_X3_arguments_54 (R_X3_expression dep) Q T (fun z0 z1 z2 => P_X3_arguments_18 (R_X3_expression dep) Q T n' z0 z1 z2) x r m3 := by
    intro m3 P3 F3 C3 n3
    refine c_takesP (by decide) P3 (fun m4 y a4 g4 P4 => ⟨by decide, ?_⟩) (fun y => ⟨by decide, ?_⟩) (fun e y z => F3.per hb (h0 e (by rw [E1, if_pos y, z]; rfl)))
    · rw [if_neg (by decide)]
      have n4 : m4 b 0 = m1 b 0 := by rw [g4 _ _ (by omega)]; exact n3
      have E2 : pS tk (f + 1) 20 acc0 p o = (pS tk f 20 acc0 (qa + 1) o >>= fun y => .ok ([fstP ra :: fstR y.1], y.2)) := by rw [E1, if_pos y, a4]; rfl
      refine hL dep n' (qa + 1) o lo s x r d (acc ++ [fstP ra]) m0 m4 Q (by omega) (by omega) hd P4 (F3.s2 g4) hx (by rw [n4]; exact C3.fr (fun c i z _ _ => g4 c i (by omega))) (by omega) (fun rs q z l' m' P' F' C' nn' => h1 [fstP ra :: fstR rs] q (by rw [E2, z]; rfl) l' m' P' F' ?_ nn') (fun e z => h0 e (by rw [E2, z]; rfl))
      rw [List.append_assoc] at C'
      exact C'
    · rw [if_pos rfl]
      exact h1 [[fstP ra]] qa (by rw [E1, if_neg y]; rfl) r m3 P3 F3 (by rw [n3]; exact C3) (by omega)
  by_cases yl : l = -1
  · rw [if_pos yl, P1.2.1]
    refine ⟨hb, by omega, ?_⟩
    rintro m3 rfl
    exact st _ (P1.tx (by omega)) (F1'.tx (by omega) (by omega)) (ad.1 yl) (up_ne (by omega))
  · rw [if_neg yl, P1.2.1]
    have := lr.2 yl
    refine ⟨hb, by omega, ?_⟩
    rintro m3 rfl
    exact st _ (P1.tx (by omega)) (F1'.tx (by omega) (by omega)) (ad.2 yl).2 (up_ne (by omega))
theorem c_liM (hE : ExC tk N b T f 0 5 13) (hL : LiM tk N b T f) : LiM tk N b T (f + 1) := by
  intro dep n p o lo s x l x3 x5 x6 c K28 d acc m0 m Q hf hn hd hP fr hx hC hs h1 h0
  obtain ⟨n', rfl⟩ : ∃ n', n = n' + 1 := ⟨n - 1, by omega⟩
  have hb := hP.1.1
  have hb' := tx_b hb
  have cr := hC.2.1
  have lr := hC.lr
  have E := li_eq (tk := tk) (f := f) (p := p) (o := o)
  refine hE dep p o (m b 0) s m _ (by omega) hd hP rfl (by omega) (fun ra qa ha r m1 P1 F1 T1 n1 => ⟨lr.1, ?_⟩) (fun e z => fr.per hb (h0 e (by rw [E, z]; rfl)))
  have la := (pS_lt ha).2 (by omega)
  rw [ha] at E
  have E1 : pS tk (f + 1) 20 acc0 p o = (if isSg tk 44 qa then (goS tk qa >>= fun q1 => pS tk f 20 acc0 q1 o >>= fun y => .ok ([fstP ra :: fstR y.1], y.2)) else oneR (fstP ra) qa) := E
  clear E
  have ad := hC.add (fun c i z z1 z2 => F1 c i (by omega) (by omega) (by omega)) T1
  have F1' := fr.trans F1 (by omega)
  have st : ∀ m3, PC m3 tk N b qa o → Fnw b lo m0 m3 → Chn m3 b d (acc ++ [fstP ra]) x (m1 b 0) r → m3 b 0 = m1 b 0 → P_X3_matrix_75 (R_X3_expression dep) Q T K28 (fun z0 z1 z2 z3 z4 z5 z6 => P_X3_matrix_37 (R_X3_expression dep) Q T K28 n' z0 z1 z2 z3 z4 z5 z6) x x3 x5 x6 c r m3 := by
    intro m3 P3 F3 C3 n3
    refine c_takesP (by decide) P3 (fun m4 y a4 g4 P4 => ⟨by decide, ?_⟩) (fun y => ⟨by decide, ?_⟩) (fun e y z => F3.per hb (h0 e (by rw [E1, if_pos y, z]; rfl)))
    · rw [if_neg (by decide)]
      have n4 : m4 b 0 = m1 b 0 := by rw [g4 _ _ (by omega)]; exact n3
      have E2 : pS tk (f + 1) 20 acc0 p o = (pS tk f 20 acc0 (qa + 1) o >>= fun y => .ok ([fstP ra :: fstR y.1], y.2)) := by rw [E1, if_pos y, a4]; rfl
      refine hL dep n' (qa + 1) o lo s x r x3 x5 x6 (c + 1) K28 d (acc ++ [fstP ra]) m0 m4 Q (by omega) (by omega) hd P4 (F3.s2 g4) hx (by rw [n4]; exact C3.fr (fun c i z _ _ => g4 c i (by omega))) (by omega) (fun rs q z l' m' P' F' C' nn' => ?_) (fun e z => h0 e (by rw [E2, z]; rfl))
      rw [List.append_assoc] at C'
      have w := h1 [fstP ra :: fstR rs] q (by rw [E2, z]; rfl) l' m' P' F' C' nn'
      have e : (c + ((fstR [fstP ra :: fstR rs]).length : Nat) : Int) = c + 1 + ((fstR rs).length : Nat) := by
        show c + ((fstP ra :: fstR rs).length : Nat) = _
        rw [List.length_cons]; omega
      rw [e] at w
      exact w
    · rw [if_pos rfl]
      have w := h1 [[fstP ra]] qa (by rw [E1, if_neg y]; rfl) r m3 P3 F3 (by rw [n3]; exact C3) (by omega)
      exact w
  by_cases yl : l = -1
  · rw [if_pos yl, P1.2.1]
    refine ⟨hb, by omega, ?_⟩
    rintro m3 rfl
    exact st _ (P1.tx (by omega)) (F1'.tx (by omega) (by omega)) (ad.1 yl) (up_ne (by omega))
  · rw [if_neg yl, P1.2.1]
    have := lr.2 yl
    refine ⟨hb, by omega, ?_⟩
    rintro m3 rfl
    exact st _ (P1.tx (by omega)) (F1'.tx (by omega) (by omega)) (ad.2 yl).2 (up_ne (by omega))
/-- parts in brackets below a node -/
theorem c_argsC {d : ND} {k : Int} (hL : LiA tk N b T f) (hf : 20 * (151 - (p + 1)) + 14 < f) (hd : 13 * (12 - (o + 1)) + 13 ≤ dep + 1) (hP : PC m tk N b p o) (hn : m b 0 = x + 1) (hN : NdH (up m (b + 1) x k) b x d) (fr : Fnw b lo m0 m) (hx : lo ≤ x ∧ 0 ≤ x) (hs : 0 ≤ s ∧ x + 1 + s ≤ p)
    (h1 : ∀ rs q, noS tk 40 p o = .ok (p + 1) → pS tk f 20 acc0 (p + 1) (o + 1) = .ok (rs, q) → ndS tk 41 q = .ok (q + 1) → ∀ m', PC m' tk N b (q + 1) o → Fnw b lo m0 m' → TNs m' b (d, chT (fstR rs)) x (m' b 0) x → m' b 0 + s ≤ q + 1 → Q 0 m')
    (e1 : ∀ e, noS tk 40 p o = .error e → PEr T b m0 e) (e2 : ∀ e, noS tk 40 p o = .ok (p + 1) → pS tk f 20 acc0 (p + 1) (o + 1) = .error e → PEr T b m0 e)
    (e3 : ∀ rs q e, noS tk 40 p o = .ok (p + 1) → pS tk f 20 acc0 (p + 1) (o + 1) = .ok (rs, q) → ndS tk 41 q = .error e → PEr T b m0 e) : R_X3_expression (dep + 1) 0 [x, k] m Q T := by
  have hb := hP.1.1
  have hb' := tx_b hb
  have pb := hP.2.2.1
  have ob := hP.2.2.2.2
  show W_X3_arguments (R_X3_expression dep) x k m Q T
  unfold W_X3_arguments
  rw [hP.2.1]
  refine ⟨hb, by omega, ?_⟩
  rintro m1 rfl
  have P1 := hP.tx (c := b + 1) (i := x) (v := k) (by omega)
  have F1 : Fnw b lo m0 (up m (b + 1) x k) := fr.tx (by omega) hx.1
  refine c_needOpenP (by decide) P1 (fun m2 a2 g2 P2 => ⟨f, ?_⟩) (fun e z => F1.per hb (e1 e z))
  have n2 : m2 b 0 = x + 1 := by rw [g2 _ _ (by omega), up_ne (by omega)]; exact hn
  have c2 : Chn m2 b d [] x (m2 b 0) (-1) := by
    rw [n2]
    exact (hN.fr (fun c z => g2 c x (by omega))).chn (by omega)
  refine hL dep f (p + 1) (o + 1) lo s x (-1) d [] m0 m2 Q hf (Nat.le_refl _) hd P2 (F1.s3 g2) hx.1 c2 (by omega) (fun rs q hq l' m3 P3 F3 C3 n3 => ?_) (fun e z => e2 e a2 z)
  refine c_closesP (by decide) P3 (by omega) (fun m4 a4 g4 P4 => ?_) (fun e z => F3.per hb (e3 rs q e a2 hq z))
  rw [show o + 1 - 1 = o by omega] at P4
  have n4 : m4 b 0 = m3 b 0 := g4 _ _ (by omega)
  refine h1 rs q a2 hq a4 m4 P4 (F3.s3 g4) ?_ (by omega)
  rw [n4]
  exact C3.fin.fr (fun c i z _ _ => g4 c i (by omega))
end ARGSC
