set_option maxRecDepth 100000
/-! tokens: the component looks a word up -/
def TXc (m : MM) (tx : Int → Int) (n : Int) : Prop := (0 ≤ n ∧ n ≤ 400) ∧ m 366 1 = n ∧ ∀ i, 0 ≤ i → i < n → iAnd (m 367 i) 255 = tx i ∧ (0 ≤ tx i ∧ tx i ≤ 255)
def WL (z : Int) (N : Nat) (st ln nm : Int → Int) : Prop := isSt z ∧ st 0 = 1 ∧ st N = sLen z ∧ ∀ k : Int, 0 ≤ k → k < N → (st (k + 1) = st k + ln k + 1 ∧ 1 ≤ st k ∧ 0 ≤ ln k ∧ st k + ln k < sLen z) ∧ sBy z (st k + ln k) = 32 ∧ (∀ i, 0 ≤ i → i < ln k → 33 ≤ sBy z (st k + i) ∧ sBy z (st k + i) ≤ 127) ∧ nm k = pkS (sBy z) (ln k).toNat (st k) 0
section FINDC
variable {Q : Int → MM → Prop} {T : MM → Prop} {m : MM} {tx : Int → Int} {n q e z : Int}
theorem pkS_cong {a b : Int → Int} : ∀ (l : Nat) (p r : Int), (∀ i : Int, 0 ≤ i → i < l → a (p + i) = b (r + i)) → pkS a l p 0 = pkS b l r 0 := by
  intro l
  induction l with
  | zero => intro p r _; rfl
  | succ l ih =>
    intro p r h
    rw [pkS_snoc, pkS_snoc, ih p r (fun i i0 i1 => h i i0 (by omega)), h l (by omega) (by omega)]
theorem pkS_nn {a : Int → Int} : ∀ (l : Nat) (p : Int), (∀ i : Int, 0 ≤ i → i < l → 1 ≤ a (p + i) ∧ a (p + i) ≤ 255) → 0 ≤ pkS a l p 0 := by
  intro l
  induction l with
  | zero => intro p _; exact Int.le_refl _
  | succ l ih =>
    intro p h
    have h1 := ih p (fun i i0 i1 => h i i0 (by omega))
    have h2 := h l (by omega) (by omega)
    rw [pkS_snoc]
    omega
theorem pkS_inj {a b : Int → Int} : ∀ (l l' : Nat) (p r : Int), (∀ i : Int, 0 ≤ i → i < l → 1 ≤ a (p + i) ∧ a (p + i) ≤ 255) → (∀ i : Int, 0 ≤ i → i < l' → 1 ≤ b (r + i) ∧ b (r + i) ≤ 255) → pkS a l p 0 = pkS b l' r 0 → l = l' ∧ ∀ i : Int, 0 ≤ i → i < l → a (p + i) = b (r + i) := by
  intro l
  induction l with
  | zero =>
    intro l' p r _ hb e
    cases l' with
    | zero => exact ⟨rfl, fun i i0 i1 => by omega⟩
    | succ l' =>
      exfalso
      have h1 := pkS_nn l' r (fun i i0 i1 => hb i i0 (by omega))
      have h2 := hb l' (by omega) (by omega)
      rw [pkS_snoc] at e
      have e0 : pkS a 0 p 0 = 0 := rfl
      omega
  | succ l ih =>
    intro l' p r ha hb e
    have g1 := pkS_nn l p (fun i i0 i1 => ha i i0 (by omega))
    have g2 := ha l (by omega) (by omega)
    cases l' with
    | zero =>
      exfalso
      rw [pkS_snoc] at e
      have e0 : pkS b 0 r 0 = 0 := rfl
      omega
    | succ l' =>
      have h1 := pkS_nn l' r (fun i i0 i1 => hb i i0 (by omega))
      have h2 := hb l' (by omega) (by omega)
      rw [pkS_snoc, pkS_snoc] at e
      obtain ⟨r1, r2⟩ := ih l' p r (fun i i0 i1 => ha i i0 (by omega)) (fun i i0 i1 => hb i i0 (by omega)) (by omega)
      subst r1
      refine ⟨rfl, fun i i0 i1 => ?_⟩
      by_cases y : i = l
      · rw [y]; omega
      · exact r2 i i0 (by omega)
theorem i2C_id {x : Int} (h : 0 ≤ x ∧ x ≤ 127) : i2C (iAnd x 255) = x := by
  have A : ∀ k : Fin 128, i2C (iAnd (k.val : Int) 255) = k.val := by decide +kernel
  have := A ⟨x.toNat, by omega⟩
  rw [show ((x.toNat : Nat) : Int) = x by omega] at this
  exact this
theorem c_charAt {i : Int} (hz : isSt z) (hi : 0 ≤ i ∧ i < sLen z) (hb : 0 ≤ sBy z i ∧ sBy z i ≤ 127) (h : Q (sBy z i) m) : P_J0_charAt z i m Q T := by
  have sl : sLen z ≤ 72 := by unfold sLen; split <;> (try split) <;> omega
  refine ⟨hz, ?_⟩
  unfold P_J0_isLatin1
  rw [if_neg (by decide), if_pos rfl]
  refine ⟨hz, by decide, ?_⟩
  rw [if_neg (by decide)]
  unfold P_J1_charAt
  rw [show z - 10 + 10 = z by omega, i2C_id hb]
  refine ⟨hz, fun z1 => ?_⟩
  refine ⟨by constructor <;> omega, ?_⟩
  rw [if_neg (by omega)]
  refine ⟨by constructor <;> omega, ?_⟩
  rw [if_pos hi.2]
  exact ⟨hi, by omega, by omega, h⟩
theorem c_see {p : Int} (hT : TXc m tx n) (hp : 0 ≤ p ∧ p ≤ 2000) (h1 : p < n → (0 ≤ tx p ∧ tx p ≤ 255) → Q (tx p) m) (h0 : n ≤ p → Q (-1) m) : P_X4_see p m Q := by
  have nb := hT.1
  unfold P_X4_see
  rw [hT.2.1]
  refine ⟨by constructor <;> omega, by constructor <;> omega, ?_⟩
  by_cases a : n ≤ p
  · rw [if_pos a]; exact h0 a
  · rw [if_neg a]
    obtain ⟨c1, c2⟩ := hT.2.2 p hp.1 (by omega)
    rw [c1]
    exact ⟨by omega, h1 (by omega) c2⟩
theorem c_findC {N : Nat} {st ln nm : Int → Int} (hT : TXc m tx n) (hW : WL z N st ln nm) (hq : 0 ≤ q ∧ q ≤ e ∧ e ≤ n) (hw : ∀ i, q ≤ i → i < e → isLt (tx i) ∨ isDg (tx i)) (h : Q (encP (fstI nm (pkS tx (e - q).toNat q 0) N 0)) m) : P_X4_find z q e m Q T := by
  have nb := hT.1
  obtain ⟨hz, s0, sN, hk⟩ := hW
  have sl : 0 ≤ sLen z ∧ sLen z ≤ 72 := by unfold sLen; split <;> (try split) <;> omega
  obtain ⟨w, hww⟩ : ∃ w, w = pkS tx (e - q).toNat q 0 := ⟨_, rfl⟩
  rw [← hww] at h
  have hb1 : ∀ i : Int, 0 ≤ i → i < (e - q).toNat → 1 ≤ tx (q + i) ∧ tx (q + i) ≤ 255 := fun i i0 i1 => by
    have := hw (q + i) (by omega) (by omega)
    unfold isLt isDg at this
    omega
  have hlen : ∀ {Q1 : Int → MM → Prop}, Q1 (sLen z) m → P_J0_length z m Q1 := by
    intro Q1 g
    unfold P_J0_length P_J0_coder
    rw [show z - 10 + 10 = z by omega, if_neg (by decide)]
    refine ⟨hz, hz, hz, ?_⟩
    have : iShr (sLen z) 0 = sLen z := by
      rcases hz with rfl | rfl | rfl <;> decide +kernel
    show Q1 (iShr (sLen z) 0) m
    rw [this]
    exact g
  have L : ∀ (r : Nat) (k : Int), 0 ≤ k → k + r = N → Q (encP (fstI nm w r k)) m → P_X4_find_6 Q T (r + 1) z q e k (st k) m := by
    intro r
    induction r with
    | zero =>
      intro k k0 k1 hq'
      refine ⟨hz, hlen ?_⟩
      have ek : k = N := by omega
      rw [ek, sN]
      refine ⟨by constructor <;> omega, by constructor <;> omega, ?_⟩
      rw [if_pos (Int.le_refl _)]
      exact hq'
    | succ r ih =>
      intro k k0 k1 hq'
      obtain ⟨⟨g1, g2, g3, g4⟩, g5, g6, g7⟩ := hk k k0 (by omega)
      unfold fstI at hq'
      refine ⟨hz, hlen ?_⟩
      refine ⟨by constructor <;> omega, by constructor <;> omega, ?_⟩
      rw [if_neg (by omega)]
      have by1 : ∀ i, 0 ≤ i → i ≤ ln k → 0 ≤ sBy z (st k + i) ∧ sBy z (st k + i) ≤ 127 := fun i i0 i1 => by
        by_cases y : i = ln k
        · rw [y, g5]; decide
        · have := g6 i i0 (by omega)
          omega
      have same : nm k = w ↔ (ln k = e - q ∧ ∀ i : Int, 0 ≤ i → i < ln k → sBy z (st k + i) = tx (q + i)) := by
        constructor
        · intro y
          rw [g7, hww] at y
          obtain ⟨y1, y2⟩ := pkS_inj _ _ _ _ (fun i i0 i1 => by have := g6 i i0 (by omega); omega) hb1 y
          exact ⟨by omega, fun i i0 i1 => y2 i i0 (by omega)⟩
        · rintro ⟨y1, y2⟩
          rw [g7, hww, show (e - q).toNat = (ln k).toNat by omega]
          exact pkS_cong _ _ _ (fun i i0 i1 => y2 i i0 (by omega))
      have skip : ¬ nm k = w → ∃ nn, P_X4_find_77 Q T (fun z0 z1 z2 z3 z4 z5 => P_X4_find_6 Q T (r + 1) z0 z1 z2 z3 z4 z5) nn z q e k (st k) m := by
        intro y
        rw [if_neg y] at hq'
        have nx := ih (k + 1) (by omega) (by omega) hq'
        have M : ∀ (d : Nat) (i : Int), 0 ≤ i → i + d = ln k → P_X4_find_77 Q T (fun z0 z1 z2 z3 z4 z5 => P_X4_find_6 Q T (r + 1) z0 z1 z2 z3 z4 z5) (d + 1) z q e k (st k + i) m := by
          intro d
          induction d with
          | zero =>
            intro i i0 i1
            have b := by1 i i0 (by omega)
            refine ⟨hz, c_charAt hz (by omega) b ⟨by constructor <;> omega, ?_⟩⟩
            rw [show i = ln k by omega, if_pos g5, ← g1]
            exact nx
          | succ d ih2 =>
            intro i i0 i1
            have b := by1 i i0 (by omega)
            have b' := g6 i i0 (by omega)
            refine ⟨hz, c_charAt hz (by omega) b ⟨by constructor <;> omega, ?_⟩⟩
            rw [if_neg (by omega), show st k + i + 1 = st k + (i + 1) by omega]
            exact ih2 (i + 1) (by omega) (by omega)
        have := M (ln k).toNat 0 (by omega) (by omega)
        rw [show st k + 0 = st k by omega] at this
        exact ⟨_, this⟩
      have c52 : ∀ j, 0 ≤ j → j ≤ e - q → j ≤ ln k → (∀ i, 0 ≤ i → i < j → sBy z (st k + i) = tx (q + i)) → (j = e - q ∨ sBy z (st k + j) ≠ tx (q + j)) → P_X4_find_52 Q T (fun z0 z1 z2 z3 z4 z5 => P_X4_find_6 Q T (r + 1) z0 z1 z2 z3 z4 z5) z q e k (st k) j m := by
        intro j j0 j1 j2 hj hs
        refine ⟨by constructor <;> omega, by constructor <;> omega, ?_⟩
        by_cases y : j = e - q
        · rw [if_pos y]
          have b := by1 j j0 j2
          refine ⟨hz, c_charAt hz (by omega) b ⟨by constructor <;> omega, ?_⟩⟩
          by_cases y2 : sBy z (st k + j) = 32
          · rw [if_pos y2]
            have jl : j = ln k := by
              by_cases y3 : j = ln k
              · exact y3
              · have := g6 j j0 (by omega)
                omega
            rw [if_pos (same.2 ⟨by omega, fun i i0 i1 => hj i i0 (by omega)⟩)] at hq'
            exact hq'
          · rw [if_neg y2]
            refine skip (fun u => y2 ?_)
            rw [show j = ln k by have := (same.1 u).1; omega]
            exact g5
        · rw [if_neg y]
          refine skip (fun u => ?_)
          obtain ⟨u1, u2⟩ := same.1 u
          rcases hs with hs | hs
          · exact y hs
          · exact hs (u2 j j0 (by omega))
      have M : ∀ (d : Nat) (j : Int), 0 ≤ j → j + d = e - q → j ≤ ln k → (∀ i, 0 ≤ i → i < j → sBy z (st k + i) = tx (q + i)) → P_X4_find_18 Q T (fun z0 z1 z2 z3 z4 z5 => P_X4_find_6 Q T (r + 1) z0 z1 z2 z3 z4 z5) (d + 1) z q e k (st k) j m := by
        intro d
        induction d with
        | zero =>
          intro j j0 j1 j2 hj
          refine ⟨by constructor <;> omega, by constructor <;> omega, ?_⟩
          rw [if_pos (by omega)]
          exact c52 j j0 (by omega) j2 hj (Or.inl (by omega))
        | succ d ih2 =>
          intro j j0 j1 j2 hj
          have b := by1 j j0 j2
          refine ⟨by constructor <;> omega, by constructor <;> omega, ?_⟩
          rw [if_neg (by omega)]
          refine ⟨hz, c_charAt hz (by omega) b ?_⟩
          refine c_see hT (by omega) (fun a a' => ⟨by constructor <;> omega, by constructor <;> omega, ?_⟩) (fun a => by omega)
          by_cases y : sBy z (st k + j) = tx (q + j)
          · rw [if_pos y]
            have jl : j ≠ ln k := by
              intro u
              rw [u, g5, ← u] at y
              have := hw (q + j) (by omega) (by omega)
              unfold isLt isDg at this
              omega
            refine ih2 (j + 1) (by omega) (by omega) (by omega) (fun i i0 i1 => ?_)
            by_cases u : i = j
            · rw [u]; exact y
            · exact hj i i0 (by omega)
          · rw [if_neg y]
            exact c52 j j0 (by omega) j2 hj (Or.inr y)
      exact ⟨_, M (e - q).toNat 0 (by omega) (by omega) (by omega) (fun i i0 i1 => by omega)⟩
  refine ⟨N + 1, ?_⟩
  have := L N 0 (by omega) (by omega) h
  rw [s0] at this
  exact this
def kSt (k : Int) : Int := [1, 4, 9, 14, 18, 21, 25, 29, 33, 37, 42, 48, 54, 56, 58, 60, 62, 64, 66, 68, 70, 72].getD k.toNat 0
def kLn (k : Int) : Int := kSt (k + 1) - kSt k - 1
def fSt (k : Int) : Int := [1, 5, 9, 14, 17, 21, 25, 28, 31, 35, 39, 44, 50, 54, 58].getD k.toNat 0
def fLn (k : Int) : Int := fSt (k + 1) - fSt k - 1
theorem wl_of {N : Nat} {st nm : Int → Int} (hz : isSt z) (h0 : st 0 = 1) (hN : st N = sLen z) (h : ∀ k : Fin N, (1 ≤ st k.val ∧ 0 ≤ st (k.val + 1) - st k.val - 1 ∧ st (k.val + 1) ≤ sLen z ∧ st (k.val + 1) - st k.val ≤ 8) ∧ sBy z (st (k.val + 1) - 1) = 32 ∧ (∀ i : Fin 8, (i.val : Int) < st (k.val + 1) - st k.val - 1 → 33 ≤ sBy z (st k.val + i.val) ∧ sBy z (st k.val + i.val) ≤ 127) ∧ nm k.val = pkS (sBy z) (st (k.val + 1) - st k.val - 1).toNat (st k.val) 0) : WL z N st (fun k => st (k + 1) - st k - 1) nm := by
  refine ⟨hz, h0, hN, fun k k0 k1 => ?_⟩
  have g := h ⟨k.toNat, by omega⟩
  have e : ((k.toNat : Nat) : Int) = k := by omega
  simp only [e] at g
  obtain ⟨⟨a, b, c, d⟩, f, w, p⟩ := g
  refine ⟨⟨by show _ = _ + (_ - _ - 1) + 1; omega, a, b, by show _ + (_ - _ - 1) < _; omega⟩, ?_, fun i i0 i1 => ?_, p⟩
  · show sBy z (st k + (st (k + 1) - st k - 1)) = 32
    rw [show st k + (st (k + 1) - st k - 1) = st (k + 1) - 1 by omega]
    exact f
  · have i1' : i < st (k + 1) - st k - 1 := i1
    have u := w ⟨i.toNat, by omega⟩
    have e2 : ((i.toNat : Nat) : Int) = i := by omega
    simp only [e2] at u
    exact u i1'
theorem wlK : WL (-1) 21 kSt (fun k => kSt (k + 1) - kSt k - 1) kyn := wl_of (Or.inl rfl) (by decide) (by decide) (by decide +kernel)
theorem wlF : WL (-2) 14 fSt (fun k => fSt (k + 1) - fSt k - 1) bfn := wl_of (Or.inr (Or.inl rfl)) (by decide) (by decide) (by decide +kernel)
end FINDC
