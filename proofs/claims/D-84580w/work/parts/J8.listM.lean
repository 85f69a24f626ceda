set_option maxRecDepth 100000
/-! the model's parser: lists of items, rows -/
def IiEr (k0 p0 : Int) (Q : Int → MM → Prop) (m0 : MM) (o : Int) (e : Int × Int) : Prop := ∀ r m' q k', PF m' e q o k' → FwM k0 m0 m' → p0 ≤ q → k0 ≤ k' → k' ≤ k0 + 2 * (q - p0) + 3 → Q r m'
def LiI (tk : Int → TK) (N : Int) (T : MM → Prop) (f : Nat) : Prop := ∀ (dep n : Nat) (p o lo p0 first last k : Int) (acc : List PT) (ns : List Int) (m0 m : MM) (Q : Int → MM → Prop), 20 * (151 - p) + 14 < f → f ≤ n → 13 * (13 - o) + 13 ≤ dep + 1 → PM m tk N p o k → FwM lo m0 m → ChI m acc ns lo k first last → 0 ≤ lo ∧ p0 ≤ p ∧ k ≤ lo + 2 * (p - p0) ∧ lo + 2 * (150 - p0) ≤ 11900 → (∀ rs q, pS tk f 20 acc0 p o = .ok (rs, q) → ∀ first' m' k' ns', PM m' tk N q o k' → FwM lo m0 m' → ChG m' (acc ++ fstR rs) ns' lo k' first' → 1 ≤ ns'.length → k' ≤ lo + 2 * (q - p0) + 1 → Q first' m') → (∀ e, pS tk f 20 acc0 p o = .error e → IiEr lo p0 Q m0 o e) → P_X10_readItems_18 (R_X10_readE dep) Q T n 26 first last 1 m
section LISTM
variable {T : MM → Prop} {tk : Int → TK} {N : Int} {f dep n : Nat} {m0 m m' : MM} {p o lo hi p0 x k k0 w r first last : Int} {a : PT} {Q K : Int → MM → Prop} {e : Int × Int} {q : Int}
/-- the loop's last round with a fault: one item more -/
theorem fl_item1 (hn : 1 ≤ n) (hP : PF m e q o k) (kb : k < 12000) (hd : 10 ≤ dep) (fr : FwM lo m0 m) (hk : lo ≤ k) (rf : RI first) (rl : 0 ≤ first → lo ≤ last ∧ last < 12000) (l0 : 0 ≤ lo) (h0 : ∀ r m', PF m' e q o (k + 1) → FwM lo m0 m' → Q r m') : P_X10_readItems_18 (R_X10_readE dep) Q T (n + 1) 26 first last 1 m := by
  obtain ⟨n', rfl⟩ : ∃ n', n = n' + 1 := ⟨n - 1, by omega⟩
  have pb := hP.1
  refine ⟨by decide, ?_⟩
  rw [if_neg (by decide), pb.1]
  refine fe_E dep e q o k m _ hd hP ?_
  refine f_nodeM hP kb (by omega) fr hk (fun m1 P1 F1 => ⟨rf, ?_⟩)
  have fin : ∀ x2 x7 m2, PF m2 e q o (k + 1) → FwM lo m0 m2 → P_X10_readItems_66 (R_X10_readE dep) Q T (fun z0 z1 z2 z3 z4 => P_X10_readItems_18 (R_X10_readE dep) Q T (n' + 1) z0 z1 z2 z3 z4) 26 x2 x7 m2 := fun x2 x7 m2 P2 F2 => f_takesSign P2 ⟨by decide, by rw [if_pos rfl]; exact h0 x2 m2 P2 F2⟩
  by_cases y : 0 ≤ first
  · rw [if_pos y]
    have := rl y
    refine ⟨by omega, ?_⟩
    rintro m3 rfl
    exact fin _ _ _ (P1.up (by decide)) (F1.nd (by decide) (by omega))
  · rw [if_neg y]; exact fin _ _ _ P1 F1
theorem c_liI (hE : ExM tk N T f 0 4 13) (hL : LiI tk N T f) : LiI tk N T (f + 1) := by
  intro dep n p o lo p0 first last k acc ns m0 m Q hf hn hd hP fr hC hs h1 h0
  obtain ⟨n', rfl⟩ : ∃ n', n = n' + 1 := ⟨n - 1, by omega⟩
  have ob := hP.2.2.2.1.2
  have pb := hP.2.1
  have le := hC.1.le
  obtain ⟨n2, hn2⟩ : ∃ n2, n' = n2 + 1 := ⟨n' - 1, by omega⟩
  have E := li_eq (tk := tk) (f := f) (p := p) (o := o)
  refine ⟨by decide, ?_⟩
  rw [if_neg (by decide), pb.1]
  refine hE dep p o k m _ (by omega) hd hP (by omega) (fun ra qa ha r m1 k1 P1 F1 T1 n1 => ?_) (fun e z r m1 q k1 P1 F1 hq k1a k1b => ?_)
  · have la := (pS_lt ha).2 (by omega)
    rw [ha] at E
    have E1 : pS tk (f + 1) 20 acc0 p o = (if isSg tk 44 qa then (goS tk qa >>= fun q1 => pS tk f 20 acc0 q1 o >>= fun y => .ok ([fstP ra :: fstR y.1], y.2)) else oneR (fstP ra) qa) := E
    clear E
    have tr := T1.rng
    have pq := P1.2.1
    refine c_nodeM P1.2.2.2.2.1 ⟨by omega, by omega⟩ (by omega) (fun m2 f2 e15 e590 e591 e592 e593 e594 e595 e597 e605 => ?_)
    have ad := hC.add hs.1 (F1.ag (Int.le_refl _)) T1 (by omega) f2 e591 e594
    refine ⟨ad.1, ?_⟩
    have P2 := P1.nd f2 e15
    have F2 : FwM lo m0 m2 := (fr.trans F1 le).ad (by omega) f2
    have st : ∀ x2 m3, PM m3 tk N qa o (k1 + 1) → FwM lo m0 m3 → ChI m3 (acc ++ [fstP ra]) (ns ++ [r]) lo (k1 + 1) x2 k1 → P_X10_readItems_66 (R_X10_readE dep) Q T (fun z0 z1 z2 z3 z4 => P_X10_readItems_18 (R_X10_readE dep) Q T n' z0 z1 z2 z3 z4) 26 x2 k1 m3 := by
      intro x2 m3 P3 F3 C3
      refine c_takesSignM (c := 44) rfl (by decide) (by decide) P3 (fun m4 y g P4 f4 => ?_) (fun y => ?_) (fun e m4 y g P4 f4 => ?_)
      · have E2 : pS tk (f + 1) 20 acc0 p o = (pS tk f 20 acc0 (qa + 1) o >>= fun y => .ok ([fstP ra :: fstR y.1], y.2)) := by rw [E1, if_pos y, g]; rfl
        have C4 : ChI m4 (acc ++ [fstP ra]) (ns ++ [r]) lo (k1 + 1) x2 k1 := by
          refine ⟨C3.1.fr (Int.le_refl _) f4.agm, ?_⟩
          rcases C3.2 with h | ⟨a1, a2, a3⟩
          · exact .inl h
          · refine .inr ⟨a1, a2, ?_⟩
            have : ∀ (l : List Int) (i : Int), lstI m4 i l = lstI m3 i l := by
              intro l
              induction l with
              | nil => intro i; rfl
              | cons c cs ih => intro i; cases cs with
                | nil => rfl
                | cons c' cs =>
                  show lstI m4 (m4 594 i) (c' :: cs) = lstI m3 (m3 594 i) (c' :: cs)
                  rw [f4 594 i (by omega)]; exact ih _
            rw [this]; exact a3
        refine hL dep n' (qa + 1) o lo p0 x2 k1 (k1 + 1) (acc ++ [fstP ra]) (ns ++ [r]) m0 m4 Q (by omega) (by omega) hd P4 (F3.f11 f4) C4 (by omega) (fun rs q z first' m' k' ns' P' F' C' l' nn' => h1 [fstP ra :: fstR rs] q (by rw [E2, z]; rfl) first' m' k' ns' P' F' ?_ l' nn') (fun e z => h0 e (by rw [E2, z]; rfl))
        rw [List.append_assoc] at C'
        exact C'
      · show P_X10_readItems_18 (R_X10_readE dep) Q T n' 26 x2 k1 0 m3
        rw [hn2]
        refine ⟨by decide, ?_⟩
        rw [if_pos rfl]
        exact h1 [[fstP ra]] qa (by rw [E1, if_neg y]; rfl) x2 m3 (k1 + 1) (ns ++ [r]) P3 F3 C3.1 (by simp) (by omega)
      · show P_X10_readItems_18 (R_X10_readE dep) Q T n' 26 x2 k1 1 m4
        rw [hn2]
        have hx : RI x2 := by
          rcases C3.2 with ⟨-, -, h⟩ | ⟨a1, a2, a3⟩
          · rw [h]; decide
          · have it := C3.1.it
            cases hns : ns ++ [r] with
            | nil => exact absurd hns a1
            | cons c cs =>
              rw [hns] at it
              have := it.1
              constructor <;> omega
        exact fl_item1 (by omega) P4 (by omega) (by omega) (F3.f11 f4) (by omega) hx (fun _ => by omega) hs.1 (fun r' m' P' F' => h0 e (by rw [E1, if_pos y, g]; rfl) r' m' qa (k1 + 1 + 1) P' F' (by omega) (by omega) (by omega))
    by_cases y : 0 ≤ first
    · rw [if_pos y]
      have a2 := ad.2.2 y
      refine ⟨by omega, ?_⟩
      rintro m3 rfl
      exact st first _ (P2.up (by decide)) (F2.nd (by decide) (by omega)) a2.2
    · rw [if_neg y]; exact st k1 m2 P2 F2 (ad.2.1 y)
  · have hE0 := h0 e (by rw [E, z]; rfl)
    have pq := P1.1
    have F1' := fr.trans F1 le
    refine f_nodeM P1 (by omega) (by omega) F1' (by omega) (fun m2 P2 F2 => ?_)
    have rg : RI first ∧ (0 ≤ first → lo ≤ last ∧ last < k) := by
      rcases hC.2 with ⟨-, -, h⟩ | ⟨a1, a2, a3⟩
      · rw [h]; exact ⟨by decide, fun z => absurd z (by decide)⟩
      · have lr := hC.1.lst a1
        have it := hC.1.it
        rw [← a3] at lr
        cases hns : ns with
        | nil => exact absurd hns a1
        | cons c cs =>
          rw [hns] at it
          have := it.1
          exact ⟨by constructor <;> omega, fun _ => lr⟩
    refine ⟨rg.1, ?_⟩
    have fin : ∀ x2 x7 m3, PF m3 e q o (k1 + 1) → FwM lo m0 m3 → P_X10_readItems_66 (R_X10_readE dep) Q T (fun z0 z1 z2 z3 z4 => P_X10_readItems_18 (R_X10_readE dep) Q T n' z0 z1 z2 z3 z4) 26 x2 x7 m3 := fun x2 x7 m3 P3 F3 => by
      refine f_takesSign P3 ?_
      show P_X10_readItems_18 (R_X10_readE dep) Q T n' 26 x2 x7 0 m3
      rw [hn2]
      exact ⟨by decide, by rw [if_pos rfl]; exact hE0 x2 m3 q (k1 + 1) P3 F3 (by omega) (by omega) (by omega)⟩
    by_cases y : 0 ≤ first
    · rw [if_pos y]
      have := rg.2 y
      refine ⟨by omega, ?_⟩
      rintro m3 rfl
      exact fin _ _ _ (P2.up (by decide)) (F2.nd (by decide) (by omega))
    · rw [if_neg y]; exact fin _ _ _ P2 F2
/-- a list of items from its beginning -/
theorem c_itemsM (hL : LiI tk N T f) (hf : 20 * (151 - p) + 14 < f) (hd : 13 * (13 - o) + 13 ≤ dep + 1) (hP : PM m tk N p o k0) (hb : k0 + 2 * (150 - p) ≤ 11900) (h1 : ∀ rs q, pS tk f 20 acc0 p o = .ok (rs, q) → ∀ first' m' k' ns', PM m' tk N q o k' → FwM k0 m m' → ChG m' (fstR rs) ns' k0 k' first' → 1 ≤ ns'.length → k' ≤ k0 + 2 * (q - p) + 1 → Q first' m') (h0 : ∀ e, pS tk f 20 acc0 p o = .error e → IiEr k0 p Q m o e) : R_X10_readE (dep + 1) 5 [26] m Q T := by
  show W_X10_readItems (R_X10_readE dep) 26 m Q T
  unfold W_X10_readItems
  have kb := hP.2.2.2.2
  rw [hP.2.2.1]
  refine ⟨by decide, ?_⟩
  rw [if_pos rfl]
  refine ⟨f, hL dep f p o k0 p (-1) (-1) k0 [] [] m m Q hf (Nat.le_refl _) hd hP FwM.refl ⟨⟨rfl, Int.le_refl _⟩, .inl ⟨rfl, rfl, rfl⟩⟩ (by omega) (fun rs q hq first' m' k' ns' P' F' C' l' n' => h1 rs q hq first' m' k' ns' P' F' C' l' n') h0⟩
end LISTM
