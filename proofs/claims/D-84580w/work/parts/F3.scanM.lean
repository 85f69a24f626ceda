set_option maxRecDepth 100000
/-! tokens: the model's scan -/
section SCANM
variable {Q : Int → MM → Prop} {m : MM} {tx : Int → Int} {n q t : Int}
theorem sgn_all {c d : Int} : (1 ≤ (sgnS c d q).1.1 ∧ (sgnS c d q).1.1 ≤ 6) ∧ (sgnS c d q).1.2.2.2 = q ∧ ((sgnS c d q).2 = q + 1 ∨ (sgnS c d q).2 = q + 2) := by
  unfold sgnS
  by_cases a : sg2 c d = -1
  · rw [if_pos a]
    by_cases b : isS c
    · rw [if_pos b]; exact ⟨by show (1 : Int) ≤ 5 ∧ (5 : Int) ≤ 6; decide, rfl, Or.inl rfl⟩
    · rw [if_neg b]; exact ⟨by show (1 : Int) ≤ 6 ∧ (6 : Int) ≤ 6; decide, rfl, Or.inl rfl⟩
  · rw [if_neg a]; exact ⟨by show (1 : Int) ≤ 5 ∧ (5 : Int) ≤ 6; decide, rfl, Or.inr rfl⟩
theorem tok_kd : (1 ≤ (tokS tx n q).1.1 ∧ (tokS tx n q).1.1 ≤ 6) ∧ (tokS tx n q).1.2.2.2 = q := by
  unfold tokS
  by_cases a : isLt (tx q)
  · rw [if_pos a]
    unfold wordS
    generalize pkS tx (runW tx n (n - q).toNat q - q).toNat q 0 = w
    by_cases b : 8 < runW tx n (n - q).toNat q - q
    · rw [if_pos b]; exact ⟨by show (1 : Int) ≤ 6 ∧ (6 : Int) ≤ 6; decide, rfl⟩
    · rw [if_neg b]
      refine ⟨?_, rfl⟩
      by_cases c : 0 ≤ keyI w
      · rw [if_pos c]; show (1 : Int) ≤ 3 ∧ (3 : Int) ≤ 6; decide
      · rw [if_neg c]
        by_cases c : 0 ≤ fnI w
        · rw [if_pos c]; show (1 : Int) ≤ 4 ∧ (4 : Int) ≤ 6; decide
        · rw [if_neg c]; show (1 : Int) ≤ 2 ∧ (2 : Int) ≤ 6; decide
  · rw [if_neg a]
    by_cases b : isDg (tx q)
    · rw [if_pos b]
      unfold numS
      refine ⟨?_, rfl⟩
      by_cases c : 9 < runD tx n (n - q).toNat q - q ∨ runD tx n (n - q).toNat q < n ∧ isLt (tx (runD tx n (n - q).toNat q))
      · rw [if_pos c]; show (1 : Int) ≤ 6 ∧ (6 : Int) ≤ 6; decide
      · rw [if_neg c]; show (1 : Int) ≤ 1 ∧ (1 : Int) ≤ 6; decide
    · rw [if_neg b]
      exact ⟨sgn_all.1, sgn_all.2.1⟩
theorem tok_bd (hq : q < n) : q < (tokS tx n q).2 ∧ (tokS tx n q).2 ≤ n := by
  unfold tokS
  by_cases a : isLt (tx q)
  · rw [if_pos a]
    have h1 := runW_lt hq a
    have h2 := runW_bd (tx := tx) (n := n) (n - q).toNat q (by omega)
    exact ⟨h1, by show runW tx n (n - q).toNat q ≤ n; omega⟩
  · rw [if_neg a]
    by_cases b : isDg (tx q)
    · rw [if_pos b]
      have h1 := runD_lt hq b
      have h2 := runD_bd (tx := tx) (n := n) (n - q).toNat q (by omega)
      exact ⟨h1, by show runD tx n (n - q).toNat q ≤ n; omega⟩
    · rw [if_neg b]
      by_cases e : q + 1 < n
      · have := (sgn_all (q := q) (c := tx q) (d := if q + 1 < n then tx (q + 1) else -1)).2.2
        omega
      · rw [if_neg e]
        have s : sg2 (tx q) (-1) = -1 := by
          unfold sg2
          rw [if_neg (by omega), if_neg (by omega), if_neg (by omega), if_neg (by omega)]
        unfold sgnS
        rw [if_pos s]
        show q < q + 1 ∧ q + 1 ≤ n; omega
def TLm (m : MM) : List TK → Int → Prop
  | [], _ => True
  | k :: ks, i => (TKm m i k ∧ m 588 i = k.2.2.2) ∧ TLm m ks (i + 1)
def Fs (t : Int) (m m' : MM) : Prop := ∀ c i, ¬ ((c = 587 ∨ c = 588 ∨ c = 589) ∧ t ≤ i) → ¬ (c = 582 ∧ (i = 8 ∨ i = 9)) → m' c i = m c i
def SCm (m m' : MM) (ts : List TK) (t : Int) : Prop := Fs t m m' ∧ TLm m' ts t ∧ m' 582 8 = t + ts.length ∧ (∀ j, 0 ≤ j → j < 4 → m' 587 (t + ts.length + j) = 6) ∧ m' 582 9 = 0
theorem fin9 {x1 x2 : Int} {f : Nat} (ht : m 582 8 = t) (tb : 0 ≤ t ∧ t ≤ 415) (h : ∀ m', Fs t m m' → m' 582 8 = t → (∀ j, 0 ≤ j → j < 4 → m' 587 (t + j) = 6) → m' 582 9 = 0 → Q 0 m') : P_X10_scan_9 Q (f + 1) x1 x2 0 m := by
  refine ⟨by decide, ?_⟩
  rw [if_pos rfl]
  have L : ∀ (r : Nat) (j : Int) (m1 : MM), 0 ≤ j → j + r = 4 → Fs t m m1 → m1 582 8 = t → (∀ i, 0 ≤ i → i < j → m1 587 (t + i) = 6) → P_X10_scan_135 Q (r + 1) j m1 := by
    intro r
    induction r with
    | zero =>
      intro j m1 j0 j1 fr h8 hb
      refine ⟨by constructor <;> omega, ?_⟩
      rw [if_pos (by omega)]
      rintro m2 rfl
      refine h _ (fun c i z z' => ?_) ?_ (fun i i0 i1 => ?_) (up_at ..)
      · rw [up_ne (fun y => z' ⟨y.1, Or.inr y.2⟩)]; exact fr c i z z'
      · rw [up_ne (by omega)]; exact h8
      · rw [up_ne (by omega)]; exact hb i i0 (by omega)
    | succ r ih =>
      intro j m1 j0 j1 fr h8 hb
      unfold P_X10_scan_135
      rw [h8]
      refine ⟨by constructor <;> omega, ?_⟩
      rw [if_neg (by omega)]
      refine ⟨by omega, ?_⟩
      rintro m2 rfl
      refine ih (j + 1) _ (by omega) (by omega) (fun c i z z' => ?_) ?_ (fun i i0 i1 => ?_)
      · rw [up_ne (fun y => z ⟨Or.inl y.1, by omega⟩)]; exact fr c i z z'
      · rw [up_ne (by omega)]; exact h8
      · by_cases a : i = j
        · rw [a, up_at]
        · rw [up_ne (by omega)]; exact hb i i0 (by omega)
  exact ⟨_, L 4 0 m (by decide) (by decide) (fun _ _ _ _ => rfl) ht (fun i i0 i1 => by omega)⟩
theorem kT_0 {k : Int} (h : 1 ≤ k ∧ k ≤ 6) : RI (kT k) ∧ kT k ≠ 0 ∧ (kT k = 6 ↔ k = 6) := by
  have : k = 1 ∨ k = 2 ∨ k = 3 ∨ k = 4 ∨ k = 5 ∨ k = 6 := by omega
  rcases this with rfl | rfl | rfl | rfl | rfl | rfl <;> decide
theorem c_scanLoop : ∀ (f : Nat) (p t : Int) (m : MM), TXm m tx n → KYM m → BFM m → 0 ≤ p → p ≤ n → n - p < f → m 582 8 = t → 0 ≤ t → t + (n - p) ≤ 400 → (∀ m', SCm m m' (scanS tx n f p) t → Q 0 m') → P_X10_scan_9 Q (f + 1) n p 1 m := by
  intro f
  induction f with
  | zero => intro p t m hT hK hB p0 p1 hf; omega
  | succ f ih =>
    intro p t m hT hK hB p0 p1 hf ht t0 tt h
    have nb := hT.1
    obtain ⟨e, he⟩ : ∃ e, e = runB tx n (n - p).toNat p := ⟨_, rfl⟩
    have eb := runB_bd (tx := tx) (n := n) (n - p).toNat p (by omega)
    unfold scanS at h
    rw [← he] at eb h
    have k35 : P_X10_scan_35 Q (fun z0 z1 z2 z3 => P_X10_scan_9 Q (f + 1) z0 z1 z2 z3) n e m := by
      unfold P_X10_scan_35
      rw [ht]
      refine ⟨by omega, ?_⟩
      rintro m1 rfl
      have a1 : up m 588 t e 582 8 = t := by rw [up_ne (by omega)]; exact ht
      rw [a1]
      refine ⟨by omega, ?_⟩
      rintro m2 rfl
      have a2 : up (up m 588 t e) 589 t 0 582 8 = t := by rw [up_ne (by omega)]; exact a1
      rw [a2]
      refine ⟨⟨by constructor <;> omega, by constructor <;> omega⟩, by omega, ?_⟩
      intro m3 h3
      have a3 : m3 582 8 = t := by rw [h3, up_ne (by omega)]; exact a2
      have f3 : ∀ c i, ¬ ((c = 587 ∨ c = 588 ∨ c = 589) ∧ i = t) → m3 c i = m c i := fun c i z => by
        rw [h3, up_ne (fun y => z ⟨Or.inl y.1, y.2⟩), up_ne (fun y => z ⟨Or.inr (Or.inr y.1), y.2⟩), up_ne (fun y => z ⟨Or.inr (Or.inl y.1), y.2⟩)]
      have p3 : m3 588 t = e := by rw [h3, up_ne (by omega), up_ne (by omega), up_at]
      have k3 : m3 587 t = if e = n then 0 else 6 := by rw [h3, up_at]
      clear h3
      refine ⟨by constructor <;> omega, by constructor <;> omega, ?_⟩
      by_cases en : e = n
      · rw [if_pos (by omega)]
        rw [if_pos en] at h k3
        unfold P_X10_scan_87
        rw [a3, k3]
        refine ⟨by omega, by decide, ?_⟩
        rintro m4 rfl
        rw [if_pos rfl]
        refine fin9 (t := t + 1) (up_at ..) (by omega) (fun m' fr h8 hb h9 => h m' ⟨fun c i z z' => ?_, ?_, ?_, ?_, h9⟩)
        · rw [fr c i (fun y => z ⟨y.1, by omega⟩) z', up_ne (fun y => z' ⟨y.1, Or.inl y.2⟩)]
          exact f3 c i (fun y => z ⟨y.1, by omega⟩)
        · refine ⟨⟨⟨?_, fun z => (by cases z), fun z => (by rcases z with z | z | z <;> cases z), fun z => (by cases z)⟩, ?_⟩, trivial⟩
          · rw [fr _ _ (by omega) (by omega), up_ne (by omega), k3]; rfl
          · rw [fr _ _ (by omega) (by omega), up_ne (by omega), p3]; exact en
        · rw [h8]; rfl
        · intro j j0 j1
          exact hb j j0 j1
      · rw [if_neg (by omega)]
        rw [if_neg en] at h k3
        have kd := (tok_kd (tx := tx) (n := n) (q := e)).1
        have tb := tok_bd (tx := tx) (n := n) (q := e) (by omega)
        have T3 : TXm m3 tx n := ⟨nb, fun i i0 i1 => by rw [f3 _ _ (by omega)]; exact hT.2 i i0 i1⟩
        have K3 : KYM m3 := fun k k0 k1 => by rw [f3 _ _ (by omega)]; exact hK k k0 k1
        have B3 : BFM m3 := fun k k0 k1 => by rw [f3 _ _ (by omega)]; exact hB k k0 k1
        refine c_tokenM T3 K3 B3 ⟨by omega, by omega⟩ a3 (by omega) k3 ?_
        intro m4 fr4 tk4
        obtain ⟨kr, k0, k6⟩ := kT_0 kd
        have pl : (tokS tx n e).1.2.2.2 = e := (tok_kd (tx := tx) (n := n) (q := e)).2
        generalize hk : tokS tx n e = k at h kd tb tk4 kr k0 k6 pl ⊢
        have f4 : ∀ c i, ¬ ((c = 587 ∨ c = 588 ∨ c = 589) ∧ i = t) → m4 c i = m c i := fun c i z => by
          rw [fr4 c i (fun y => z ⟨by omega, y.2⟩)]; exact f3 c i z
        have p4 : m4 588 t = e := by rw [fr4 _ _ (by omega)]; exact p3
        have a4 : m4 582 8 = t := by rw [fr4 _ _ (by omega)]; exact a3
        unfold P_X10_scan_87
        rw [a4, tk4.1]
        refine ⟨by omega, kr, ?_⟩
        rw [if_neg k0]
        intro m5 h5
        have tk5 : TKm m5 t k.1 := by
          rw [h5]
          refine ⟨?_, ?_, ?_, ?_⟩
          · rw [up_ne (by omega)]; exact tk4.1
          · rw [up_ne (by omega)]; exact tk4.2.1
          · rw [up_ne (by omega)]; exact tk4.2.2.1
          · rw [up_ne (by omega)]; exact tk4.2.2.2
        have p5 : m5 588 t = e := by rw [h5, up_ne (by omega)]; exact p4
        have a5 : m5 582 8 = t + 1 := by rw [h5, up_at]
        have f5 : ∀ c i, ¬ ((c = 587 ∨ c = 588 ∨ c = 589) ∧ i = t) → ¬ (c = 582 ∧ i = 8) → m5 c i = m c i := fun c i z z' => by
          rw [h5, up_ne z']; exact f4 c i z
        clear h5
        have keep : ∀ m', Fs (t + 1) m5 m' → TKm m' t k.1 ∧ m' 588 t = k.1.2.2.2 := fun m' fr => by
          refine ⟨⟨?_, ?_, ?_, ?_⟩, ?_⟩
          · rw [fr _ _ (by omega) (by omega)]; exact tk5.1
          · rw [fr _ _ (by omega) (by omega)]; exact tk5.2.1
          · rw [fr _ _ (by omega) (by omega)]; exact tk5.2.2.1
          · rw [fr _ _ (by omega) (by omega)]; exact tk5.2.2.2
          · rw [fr _ _ (by omega) (by omega), p5, pl]
        have frm : ∀ m', Fs (t + 1) m5 m' → Fs t m m' := fun m' fr c i z z' => by
          rw [fr c i (fun y => z ⟨y.1, by omega⟩) z']
          exact f5 c i (fun y => z ⟨y.1, by omega⟩) (fun y => z' ⟨y.1, Or.inl y.2⟩)
        by_cases c6 : k.1.1 = 6
        · rw [if_pos (k6.2 c6)]
          rw [if_pos c6] at h
          refine fin9 (t := t + 1) a5 (by omega) (fun m' fr h8 hb h9 => h m' ⟨frm m' fr, ⟨keep m' fr, trivial⟩, ?_, ?_, h9⟩)
          · rw [h8]; rfl
          · intro j j0 j1
            exact hb j j0 j1
        · rw [if_neg (fun y => c6 (k6.1 y))]
          rw [if_neg c6] at h
          refine ih k.2 (t + 1) m5 ⟨nb, fun i i0 i1 => by rw [f5 _ _ (by omega) (by omega)]; exact hT.2 i i0 i1⟩ (fun j j0 j1 => by rw [f5 _ _ (by omega) (by omega)]; exact hK j j0 j1) (fun j j0 j1 => by rw [f5 _ _ (by omega) (by omega)]; exact hB j j0 j1) (by omega) (by omega) (by omega) a5 (by omega) (by omega) ?_
          intro m' s
          have ln : ∀ l : List TK, t + ((k.1 :: l).length : Int) = t + 1 + (l.length : Int) := fun l => by
            rw [List.length_cons]; omega
          refine h m' ⟨frm m' s.1, ⟨keep m' s.1, s.2.1⟩, ?_, ?_, s.2.2.2.2⟩
          · rw [ln]; exact s.2.2.1
          · rw [ln]; exact s.2.2.2.1
    refine ⟨by decide, ?_⟩
    rw [if_neg (by decide)]
    have L : ∀ (r : Nat) (j : Int), 0 ≤ j → j + r = n → e = runB tx n r j → P_X10_scan_13 Q (fun z0 z1 z2 z3 => P_X10_scan_9 Q (f + 1) z0 z1 z2 z3) (r + 1) n j m := by
      intro r
      induction r with
      | zero =>
        intro j j0 j1 hr
        have ej : e = j := hr
        refine ⟨by constructor <;> omega, by constructor <;> omega, ?_⟩
        rw [if_pos (by omega), ← ej]
        exact k35
      | succ r ih2 =>
        intro j j0 j1 hr
        obtain ⟨c1, c2⟩ := hT.2 j (by omega) (by omega)
        refine ⟨by constructor <;> omega, by constructor <;> omega, ?_⟩
        rw [if_neg (by omega), c1]
        refine ⟨by omega, by constructor <;> omega, ?_⟩
        unfold runB at hr
        by_cases cb : tx j = 32
        · rw [if_pos cb]
          rw [if_pos ⟨by omega, cb⟩] at hr
          exact ih2 (j + 1) (by omega) (by omega) hr
        · rw [if_neg cb]
          rw [if_neg (fun y => cb y.2)] at hr
          rw [← hr]
          exact k35
    exact ⟨_, L (n - p).toNat p p0 (by omega) he⟩
theorem c_scanM (hT : TXm m tx n) (hK : KYM m) (hB : BFM m) (h : ∀ m', SCm m m' (scanS tx n 401 0) 0 → Q 0 m') : P_X10_scan n m Q := by
  have nb := hT.1
  rintro m1 rfl
  refine ⟨402, c_scanLoop 401 0 0 _ ⟨nb, fun i i0 i1 => by rw [up_ne (by omega)]; exact hT.2 i i0 i1⟩ (fun j j0 j1 => by rw [up_ne (by omega)]; exact hK j j0 j1) (fun j j0 j1 => by rw [up_ne (by omega)]; exact hB j j0 j1) (by omega) (by omega) (by omega) (up_at ..) (by omega) (by omega) ?_⟩
  intro m' s
  refine h m' ⟨fun c i z z' => ?_, s.2.1, s.2.2.1, s.2.2.2.1, s.2.2.2.2⟩
  rw [s.1 c i z z', up_ne (fun y => z' ⟨y.1, Or.inl y.2⟩)]
end SCANM
