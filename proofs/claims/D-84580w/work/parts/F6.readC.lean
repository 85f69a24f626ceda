set_option maxRecDepth 100000
/-! tokens: the component's signs; Tokens.read -/
section READC
variable {Q : Int → MM → Prop} {T : MM → Prop} {m : MM} {tx : Int → Int} {n q t c d : Int}
theorem isS_by (h : 0 ≤ c ∧ c ≤ 255) : (∃ i : Int, (0 ≤ i ∧ i < 16) ∧ sBy (-3) i = i2B (i2C c)) ↔ isS c := by
  have A : ∀ k : Fin 256, (∃ i : Fin 16, sBy (-3) (i.val : Int) = i2B (i2C (k.val : Int))) ↔ ((k.val : Int) = 40 ∨ (k.val : Int) = 41 ∨ (k.val : Int) = 91 ∨ (k.val : Int) = 93 ∨ (k.val : Int) = 44 ∨ (k.val : Int) = 58 ∨ (k.val : Int) = 61 ∨ (k.val : Int) = 35 ∨ (k.val : Int) = 60 ∨ (k.val : Int) = 43 ∨ (k.val : Int) = 45 ∨ (k.val : Int) = 42 ∨ (k.val : Int) = 47 ∨ (k.val : Int) = 94 ∨ (k.val : Int) = 33 ∨ (k.val : Int) = 37) := by decide +kernel
  have g := A ⟨c.toNat, by omega⟩
  have e : ((c.toNat : Nat) : Int) = c := by omega
  simp only [e] at g
  unfold isS
  rw [← g]
  constructor
  · rintro ⟨i, i0, i1⟩
    refine ⟨⟨i.toNat, by omega⟩, ?_⟩
    show sBy (-3) ((i.toNat : Nat) : Int) = _
    rw [show ((i.toNat : Nat) : Int) = i by omega]
    exact i1
  · rintro ⟨i, i1⟩
    exact ⟨i.val, ⟨by omega, by omega⟩, i1⟩
theorem i2C_fit (h : 0 ≤ c ∧ c ≤ 255) : i2C c = c ∧ RI (i2B (i2C c)) := by
  have A : ∀ k : Fin 256, i2C (k.val : Int) = k.val ∧ RI (i2B (i2C (k.val : Int))) := by decide +kernel
  have g := A ⟨c.toNat, by omega⟩
  have e : ((c.toNat : Nat) : Int) = c := by omega
  simp only [e] at g
  exact g
theorem sBy_ri : ∀ i : Int, 0 ≤ i → i < 16 → RI (sBy (-3) i) := by
  intro i i0 i1
  have A : ∀ k : Fin 16, RI (sBy (-3) (k.val : Int)) := by decide +kernel
  have g := A ⟨i.toNat, by omega⟩
  have e : ((i.toNat : Nat) : Int) = i := by omega
  simp only [e] at g
  exact g
theorem c_len {z : Int} (hz : isSt z) (h : Q (sLen z) m) : P_J0_length z m Q := by
  unfold P_J0_length P_J0_coder
  rw [show z - 10 + 10 = z by omega, if_neg (by decide)]
  refine ⟨hz, hz, hz, ?_⟩
  have : iShr (sLen z) 0 = sLen z := by
    rcases hz with rfl | rfl | rfl <;> decide +kernel
  show Q (iShr (sLen z) 0) m
  rw [this]
  exact h
theorem c_idx {z b : Int} (hz : z + 10 = -3) (rb : RI b) (h1 : ∀ r, 0 ≤ r → r < 16 → sBy (-3) r = b → Q r m) (h0 : (∀ j, 0 ≤ j → j < 16 → sBy (-3) j ≠ b) → Q (-1) m) : ∃ nn, P_J1_indexOfChar_7 Q nn z 16 b 0 m := by
  have st3 : isSt (-3) := Or.inr (Or.inr rfl)
  have sl : sLen (-3) = 16 := by decide
  have L : ∀ (r : Nat) (i : Int), 0 ≤ i → i + r = 16 → (∀ j, 0 ≤ j → j < i → sBy (-3) j ≠ b) → P_J1_indexOfChar_7 Q (r + 1) z 16 b i m := by
    intro r
    induction r with
    | zero =>
      intro i i0 i1 hj
      unfold P_J1_indexOfChar_7
      refine ⟨by constructor <;> omega, by decide, ?_⟩
      rw [if_pos (by omega)]
      exact h0 (fun j j0 j1 => hj j j0 (by omega))
    | succ r ih =>
      intro i i0 i1 hj
      unfold P_J1_indexOfChar_7
      rw [hz, sl]
      refine ⟨by constructor <;> omega, by decide, ?_⟩
      rw [if_neg (by omega)]
      refine ⟨st3, ⟨i0, by omega⟩, sBy_ri i i0 (by omega), rb, ?_⟩
      by_cases y : sBy (-3) i = b
      · rw [if_pos y]
        exact h1 i i0 (by omega) y
      · rw [if_neg y]
        refine ih (i + 1) (by omega) (by omega) (fun j j0 j1 => ?_)
        by_cases u : j = i
        · rw [u]; exact y
        · exact hj j j0 (by omega)
  exact ⟨_, L 16 0 (by decide) (by decide) (fun j j0 j1 => by omega)⟩
theorem c_idx0 {z c' : Int} (hz : isSt z) (sl : sLen z = 16) (z3 : z = -3) (hc : 0 ≤ c' ∧ c' ≤ 255) (rb : RI (i2B c')) (h1 : ∀ r, 0 ≤ r → r < 16 → sBy (-3) r = i2B c' → Q r m) (h0 : (∀ j, 0 ≤ j → j < 16 → sBy (-3) j ≠ i2B c') → Q (-1) m) : P_J0_indexOf z c' m Q := by
  have k := c_idx (z := z - 10) (by omega) rb h1 h0
  unfold P_J0_indexOf P_J0_indexOf_2 P_J0_isLatin1
  rw [if_neg (by decide), if_pos rfl]
  refine ⟨hz, hz, hz, by decide, ?_⟩
  rw [if_neg (by decide)]
  refine c_len hz ?_
  rw [sl]
  show P_J1_indexOf (z - 10) c' 0 16 m _
  unfold P_J1_indexOf P_J1_canEncode
  rw [show z - 10 + 10 = z by omega, sl]
  refine ⟨by constructor <;> omega, ?_⟩
  rw [if_neg (by omega), if_neg (by omega)]
  refine ⟨by decide, ?_⟩
  rw [if_neg (by decide)]
  refine ⟨by decide, by decide, ?_⟩
  rw [if_neg (by decide)]
  refine ⟨hz, by decide, by decide, ?_⟩
  rw [if_neg (by decide)]
  refine ⟨by decide, by decide, ?_⟩
  rw [if_pos (by decide)]
  exact k
theorem c_indexOf (hc : 0 ≤ c ∧ c ≤ 255) (h1 : isS c → ∀ r, 0 ≤ r → r < 16 → Q r m) (h0 : ¬ isS c → Q (-1) m) : P_J0_indexOf (-3) (i2C c) m Q := by
  obtain ⟨ec, rb⟩ := i2C_fit hc
  have ib := isS_by hc
  generalize i2C c = c' at ec rb ib
  refine c_idx0 (Or.inr (Or.inr rfl)) (by decide) rfl (by omega) rb (fun r r0 r1 y => h1 (ib.1 ⟨r, ⟨r0, r1⟩, y⟩) r r0 r1) (fun y => h0 (fun z => ?_))
  obtain ⟨j, j0, j1⟩ := ib.2 z
  exact y j j0.1 j0.2 j1
theorem sg2_26 (h : ¬ (c = 58 ∧ d = 61)) : (if c = 61 then (if d = 61 then 129 else (if c = 58 then (if d = 58 then 130 else (if c = 60 then (if d = 61 then 131 else (-1) : Int) else (-1) : Int) : Int) else (if c = 60 then (if d = 61 then 131 else (-1) : Int) else (-1) : Int) : Int) : Int) else (if c = 58 then (if d = 58 then 130 else (if c = 60 then (if d = 61 then 131 else (-1) : Int) else (-1) : Int) : Int) else (if c = 60 then (if d = 61 then 131 else (-1) : Int) else (-1) : Int) : Int) : Int) = sg2 c d := by
  unfold sg2
  rw [if_neg h]
  by_cases a : c = 61
  · subst a
    by_cases b : d = 61
    · subst b; decide
    · rw [if_pos rfl, if_neg b, if_neg (by decide), if_neg (by decide), if_neg (show ¬ ((61 : Int) = 61 ∧ d = 61) by omega), if_neg (show ¬ ((61 : Int) = 58 ∧ d = 58) by omega), if_neg (show ¬ ((61 : Int) = 60 ∧ d = 61) by omega)]
  · rw [if_neg a, if_neg (show ¬ (c = 61 ∧ d = 61) by omega)]
    by_cases a : c = 58
    · subst a
      by_cases b : d = 58
      · subst b; decide
      · rw [if_pos rfl, if_neg b, if_neg (by decide), if_neg (show ¬ ((58 : Int) = 58 ∧ d = 58) by omega), if_neg (show ¬ ((58 : Int) = 60 ∧ d = 61) by omega)]
    · rw [if_neg a, if_neg (show ¬ (c = 58 ∧ d = 58) by omega)]
      by_cases a : c = 60
      · subst a
        by_cases b : d = 61
        · subst b; decide
        · rw [if_pos rfl, if_neg b, if_neg (show ¬ ((60 : Int) = 60 ∧ d = 61) by omega)]
      · rw [if_neg a, if_neg (show ¬ (c = 60 ∧ d = 61) by omega)]
theorem sg2_ri : RI (sg2 c d) := by
  unfold sg2
  split
  · decide
  · split
    · decide
    · split
      · decide
      · split <;> decide
theorem c_sign81 (hc : 0 ≤ c ∧ c ≤ 255) (ht : m 366 2 = t) (tb : 0 ≤ t ∧ t < 401) (h : ∀ m', F1c t m m' → m' 366 2 = t + 1 → TKc m' t (sgnS c d q).1 → Q (sgnS c d q).2 m') : P_X4_sign_81 Q q c (sg2 c d) m := by
  have rc : RI c := by constructor <;> omega
  refine ⟨sg2_ri, ?_⟩
  unfold sgnS at h
  by_cases hg : sg2 c d = -1
  · rw [if_pos hg]
    rw [if_pos hg] at h
    refine ⟨Or.inr (Or.inr rfl), ?_⟩
    refine c_indexOf hc (fun hs r r0 r1 => ?_) (fun hs => ?_)
    · rw [if_pos hs] at h
      have c0 : ¬ c ≤ 0 := by unfold isS at hs; omega
      rw [if_neg (by omega), if_neg (by omega), if_neg c0]
      refine ⟨⟨by constructor <;> omega, rc⟩, ?_⟩
      exact c_putC ht tb (fun m' fr h2 h8 h9 h10 h11 => h m' fr h2 ⟨h8, h9, h10, fun z => (by rcases z with z | z | z <;> cases z)⟩)
    · rw [if_neg hs] at h
      rw [if_pos (by decide), if_pos (by decide)]
      refine ⟨⟨by decide, trivial⟩, ?_⟩
      exact c_putC ht tb (fun m' fr h2 h8 h9 h10 h11 => h m' fr h2 ⟨h8, h9, h10, fun z => (by rcases z with z | z | z <;> cases z)⟩)
  · rw [if_neg hg]
    rw [if_neg hg] at h
    exact c_putC ht tb (fun m' fr h2 h8 h9 h10 h11 => h m' fr h2 ⟨h8, h9, h10, fun z => (by rcases z with z | z | z <;> cases z)⟩)
theorem c_signC (hT : TXc m tx n) (hq : 0 ≤ q ∧ q < n) (ht : m 366 2 = t) (tb : 0 ≤ t ∧ t < 401) (hl : ¬ isLt (tx q)) (hd : ¬ isDg (tx q)) (h : ∀ m', F1c t m m' → m' 366 2 = t + 1 → TKc m' t (tokS tx n q).1 → Q (tokS tx n q).2 m') : P_X4_sign q (tx q) m Q := by
  have nb := hT.1
  have hc := (hT.2.2 q hq.1 hq.2).2
  have rc : RI (tx q) := by constructor <;> omega
  have tk : tokS tx n q = sgnS (tx q) (if q + 1 < n then tx (q + 1) else -1) q := by unfold tokS; rw [if_neg hl, if_neg hd]
  rw [tk] at h
  have go : ∀ d, RI d → (∀ m', F1c t m m' → m' 366 2 = t + 1 → TKc m' t (sgnS (tx q) d q).1 → Q (sgnS (tx q) d q).2 m') → (RI (tx q)) ∧ (if tx q = 58 then (RI d) ∧ (if d = 61 then P_X4_sign_81 Q q (tx q) 128 m else P_X4_sign_26 Q q (tx q) d m) else P_X4_sign_26 Q q (tx q) d m) := by
    intro d rd h
    have k := c_sign81 hc ht tb h
    have k26 : ¬ (tx q = 58 ∧ d = 61) → P_X4_sign_26 Q q (tx q) d m := by
      intro g
      unfold P_X4_sign_26
      rw [sg2_26 g]
      refine ⟨⟨rc, ?_⟩, k⟩
      split
      · exact rd
      · split
        · exact rd
        · split
          · exact rd
          · trivial
    refine ⟨rc, ?_⟩
    by_cases a : tx q = 58
    · rw [if_pos a]
      refine ⟨rd, ?_⟩
      by_cases b : d = 61
      · rw [if_pos b]
        have : sg2 (tx q) d = 128 := by unfold sg2; rw [if_pos ⟨a, b⟩]
        rw [this] at k
        exact k
      · rw [if_neg b]; exact k26 (fun z => b z.2)
    · rw [if_neg a]; exact k26 (fun z => a z.1)
  refine c_see hT (by omega) (fun a a' => go _ (by constructor <;> omega) ?_) (fun a => go _ (by decide) ?_)
  · rw [if_pos a] at h; exact h
  · rw [if_neg (by omega)] at h; exact h
def TLc (m : MM) : List TK → Int → Prop
  | [], _ => True
  | k :: ks, i => TKc m i k ∧ TLc m ks (i + 1)
def Fsc (t : Int) (m m' : MM) : Prop := ∀ c i, ¬ ((c = 368 ∨ c = 369 ∨ c = 370 ∨ c = 371) ∧ t ≤ i) → ¬ (c = 366 ∧ i = 2) → m' c i = m c i
def SCc (m m' : MM) (ts : List TK) (t : Int) : Prop := Fsc t m m' ∧ TLc m' ts t ∧ m' 366 2 = t + ts.length
theorem c_readLoop : ∀ (f : Nat) (p t : Int) (m : MM), TXc m tx n → 0 ≤ p → p ≤ n → n - p < f → m 366 2 = t → 0 ≤ t → t + (n - p) ≤ 400 → (t = 0 ∨ (RI (m 368 (t - 1)) ∧ m 368 (t - 1) ≠ 0 ∧ m 368 (t - 1) ≠ 6)) → (∀ m', SCc m m' (scanS tx n f p) t → Q 0 m') → P_X4_read_23 Q T (f + 1) p m := by
  intro f
  induction f with
  | zero => intro p t m hT p0 p1 hf; omega
  | succ f ih =>
    intro p t m hT p0 p1 hf ht t0 tt hlast h
    have nb := hT.1
    obtain ⟨e, he⟩ : ∃ e, e = runB tx n (n - p).toNat p := ⟨_, rfl⟩
    have eb := runB_bd (tx := tx) (n := n) (n - p).toNat p (by omega)
    unfold scanS at h
    rw [← he] at eb h
    have stop : ∀ (k : TK) (m' : MM) (x : Int), m' 366 2 = t + 1 → TKc m' t k → (k.1 = 0 ∨ k.1 = 6) → F1c t m m' → (∀ m', SCc m m' [k] t → Q 0 m') → P_X4_read_23 Q T (f + 1) x m' := by
      intro k m' x h2 hk hs fr g
      have q0 : Q 0 m' := g m' ⟨fun c i z z' => fr c i (fun y => z ⟨y.1, by omega⟩) z', ⟨hk, trivial⟩, by rw [h2]; rfl⟩
      unfold P_X4_read_23
      rw [h2, show t + 1 - 1 = t by omega, hk.1]
      refine ⟨by constructor <;> omega, ?_⟩
      rw [if_neg (by omega)]
      refine ⟨by omega, ?_, ?_⟩
      · rcases hs with hs | hs <;> rw [hs] <;> decide
      · by_cases y : k.1 = 0
        · rw [if_pos y]; exact q0
        · rw [if_neg y, if_pos (by omega)]; exact q0
    have k76 : (e < n → tx e ≠ 32) → P_X4_read_76 Q T (fun z0 z1 => P_X4_read_23 Q T (f + 1) z0 z1) e m := by
      intro nb32
      refine c_see hT (by omega) (fun a a' => ⟨by constructor <;> omega, ?_⟩) (fun a => ⟨by decide, ?_⟩)
      · rw [if_neg (by omega)]
        rw [if_neg (by omega)] at h
        have kd := (tok_kd (tx := tx) (n := n) (q := e)).1
        have tb := tok_bd (tx := tx) (n := n) (q := e) a
        have nxt : ∀ m', F1c t m m' → m' 366 2 = t + 1 → TKc m' t (tokS tx n e).1 → P_X4_read_23 Q T (f + 1) (tokS tx n e).2 m' := by
          generalize hk : tokS tx n e = k at h kd tb
          intro m' fr h2 tk
          by_cases c6 : k.1.1 = 6
          · rw [if_pos c6] at h
            exact stop k.1 m' k.2 h2 tk (Or.inr c6) fr h
          · rw [if_neg c6] at h
            refine ih k.2 (t + 1) m' ⟨nb, by rw [fr _ _ (by omega) (by omega)]; exact hT.2.1, fun i i0 i1 => by rw [fr _ _ (by omega) (by omega)]; exact hT.2.2 i i0 i1⟩ (by omega) (by omega) (by omega) h2 (by omega) (by omega) (Or.inr ?_) ?_
            · rw [show t + 1 - 1 = t by omega, tk.1]
              exact ⟨by constructor <;> omega, by omega, c6⟩
            · intro m2 s
              refine h m2 ⟨fun c i z z' => ?_, ⟨⟨?_, ?_, ?_, ?_⟩, s.2.1⟩, ?_⟩
              · rw [s.1 c i (fun y => z ⟨y.1, by omega⟩) z']
                exact fr c i (fun y => z ⟨y.1, by omega⟩) z'
              · rw [s.1 _ _ (by omega) (by omega)]; exact tk.1
              · rw [s.1 _ _ (by omega) (by omega)]; exact tk.2.1
              · rw [s.1 _ _ (by omega) (by omega)]; exact tk.2.2.1
              · rw [s.1 _ _ (by omega) (by omega)]; exact tk.2.2.2
              · rw [s.2.2, List.length_cons]; omega
        have rc : RI (tx e) := by constructor <;> omega
        refine c_ltC rc (fun y => ⟨by decide, ?_⟩) (fun y => ⟨by decide, ?_⟩)
        · rw [if_neg (by decide)]
          exact c_wordC hT (by omega) ht (by omega) y nxt
        · rw [if_pos rfl]
          refine c_dgC rc (fun y' => ⟨by decide, ?_⟩) (fun y' => ⟨by decide, ?_⟩)
          · rw [if_neg (by decide)]
            exact c_numC hT (by omega) ht (by omega) y y' nxt
          · rw [if_pos rfl]
            exact c_signC hT (by omega) ht (by omega) y y' nxt
      · rw [if_pos rfl]
        rw [if_pos (by omega)] at h
        refine c_putC ht (by omega) (fun m' fr h2 h8 h9 h10 h11 => ?_)
        refine stop (0, 0, 0, n) m' e h2 ⟨h8, h9, ?_, fun z => (by rcases z with z | z | z <;> cases z)⟩ (Or.inl rfl) fr h
        rw [h10]; exact hT.2.1
    have L : ∀ (r : Nat) (j : Int), 0 ≤ j → j + r = n → e = runB tx n r j → P_X4_read_60 Q T (fun z0 z1 => P_X4_read_23 Q T (f + 1) z0 z1) (r + 1) j m := by
      intro r
      induction r with
      | zero =>
        intro j j0 j1 hr
        have ej : e = j := hr
        refine c_see hT (by omega) (fun z => by omega) (fun _ => ⟨by decide, ?_⟩)
        rw [if_neg (by decide), ← ej]
        exact k76 (fun z => by omega)
      | succ r ih2 =>
        intro j j0 j1 hr
        have c2 := (hT.2.2 j (by omega) (by omega)).2
        unfold runB at hr
        refine c_see hT (by omega) (fun a a' => ⟨by constructor <;> omega, ?_⟩) (fun z => by omega)
        by_cases cb : tx j = 32
        · rw [if_pos cb]
          rw [if_pos ⟨by omega, cb⟩] at hr
          exact ih2 (j + 1) (by omega) (by omega) hr
        · rw [if_neg cb]
          rw [if_neg (fun y => cb y.2)] at hr
          rw [← hr]
          exact k76 (fun z => by rw [hr]; exact cb)
    have big := L (n - p).toNat p p0 (by omega) he
    unfold P_X4_read_23
    rw [ht]
    refine ⟨by constructor <;> omega, ?_⟩
    by_cases y : t = 0
    · rw [if_pos y]; exact ⟨_, big⟩
    · rw [if_neg y]
      obtain ⟨l1, l2, l3⟩ := hlast.resolve_left y
      refine ⟨by omega, l1, ?_⟩
      rw [if_neg l2, if_neg l3]
      exact ⟨_, big⟩
end READC
