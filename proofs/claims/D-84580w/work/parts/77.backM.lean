set_option maxRecDepth 100000
/-! values that go back: the model -/
theorem c_entryAt {m : MM} {Q : Int → MM → Prop} {x i j : Int} (h : Q (x + 98 * (3 * i + j)) m) : P_X10_entryAt x i j m Q := h
def cell (u : Int → PP) (k : Int) : Int := if k % 2 = 0 then (u (k / 2)).1 else (u (k / 2)).2
theorem Rw.cl_ {g : Int → Int} {x n k : Int} {u : Int → PP} (h : Rw g x u n) (h0 : 0 ≤ k) (h1 : k < 2 * n) : g (x + k) = cell u k := by
  have q := h (k / 2) (by omega) (by omega)
  unfold cell
  by_cases c : k % 2 = 0
  · rw [if_pos c, ← q.1]
    congr 1
    omega
  · rw [if_neg c, ← q.2]
    congr 1
    omega
theorem cell_eq {u v : Int → PP} : (∀ k, 0 ≤ k → k < 98 → cell u k = cell v k) ↔ ∀ q, (0 ≤ q ∧ q < 49) → u q = v q := by
  constructor
  · intro h q hq
    have a := h (2 * q) (by omega) (by omega)
    have b := h (2 * q + 1) (by omega) (by omega)
    unfold cell at a b
    rw [if_pos (by omega), if_pos (by omega), show 2 * q / 2 = q by omega] at a
    rw [if_neg (by omega), if_neg (by omega), show (2 * q + 1) / 2 = q by omega] at b
    exact Prod.ext a b
  · intro h k k0 k1
    unfold cell
    rw [h (k / 2) (by omega)]
theorem cell_zr {k : Int} : cell zr k = k % 2 := by
  unfold cell zr
  by_cases c : k % 2 = 0
  · rw [if_pos c]; exact c.symm
  · rw [if_neg c]; show (1 : Int) = _; omega
def ErM (m m' : MM) (ok : Prop) : Prop := (ok → m' = m) ∧ (¬ ok → m' = up m 582 84 3)
theorem ErM.at {m m' : MM} {ok : Prop} (h : ErM m m' ok) {i : Int} : m' 635 i = m 635 i := by
  by_cases c : ok
  · rw [h.1 c]
  · rw [h.2 c, up_ne (fun z => absurd z.1 (by decide))]
theorem ErM.nx {m m' : MM} {ok g ok' : Prop} (h : ErM m m' ok) (hg : ok' ↔ ok ∧ g) : (g → ErM m m' ok') ∧ (¬ g → ErM m (up m' 582 84 3) ok') := by
  refine ⟨fun z => ⟨fun o => h.1 (hg.1 o).1, fun o => h.2 (fun o2 => o (hg.2 ⟨o2, z⟩))⟩, fun z => ⟨fun o => absurd (hg.1 o).2 z, fun _ => ?_⟩⟩
  by_cases c : ok
  · rw [h.1 c]
  · rw [h.2 c, upup]
theorem ErM.eqv {m m' : MM} {ok ok' : Prop} (h : ErM m m' ok) (hg : ok' ↔ ok) : ErM m m' ok' := ⟨fun o => h.1 (hg.1 o), fun o => h.2 (fun z => o (hg.2 z))⟩
theorem ErM.err {m m' : MM} {ok : Prop} (h : ErM m m' ok) (he : m 582 84 = 0) : RI (m' 582 84) ∧ (ok → m' 582 84 = 0) ∧ (¬ ok → m' 582 84 = 3) := by
  by_cases c : ok
  · rw [h.1 c, he]
    exact ⟨by decide, fun _ => rfl, fun z => absurd c z⟩
  · rw [h.2 c, up_at]
    exact ⟨by decide, fun z => absurd z c, fun _ => rfl⟩
theorem ErM.vm {m m' : MM} {ok : Prop} {x : Int} {V : VV} (h : ErM m m' ok) (v : VM (m 635) x V) : VM (m' 635) x V := by
  intro i j hi hj k k0 k1
  rw [h.at, h.at]
  exact v i j hi hj k k0 k1
theorem ErM.fm {m m' : MM} {ok : Prop} {S : Int → Prop} (h : ErM m m' ok) : Fm S m m' := by
  by_cases c : ok
  · rw [h.1 c]; exact Fm.refl m
  · rw [h.2 c]; exact Fm.err
section BACKM
variable {Q : Int → MM → Prop} {b c d e s t mu x : Int} {V : VV}
def gd1 (V : VV) (i j : Int) : Prop := ∀ q, (0 ≤ q ∧ q < 49) → V i j q = (if i = j then V 0 0 q else (0, 1))
theorem backM_33 {K10 : Int → Int → Int → Int → Int → Int → Int → MM → Prop} {K20 : Int → Int → Int → Int → Int → Int → Int → Int → MM → Prop} {m : MM} {i j : Int} (hi : in3 i) (hj : in3 j) (hx : 0 ≤ x ∧ x + 882 ≤ 1590000) (vx : VM (m 635) x V) (nV : ∀ i j k, NB mu (V i j k)) (fin : ∀ x10, (x10 = 1 ∧ gd1 V i j) ∨ (x10 = 0 ∧ ¬ gd1 V i j) → P_X10_goBack_102 Q K10 K20 x b s c e t i j x10 m) : ∃ nn, P_X10_goBack_33 Q K10 K20 nn x b s c e t i j 1 0 m := by
  have hg : gd1 V i j ↔ ∀ k, 0 ≤ k → k < 98 → cell (V i j) k = (if i = j then cell (V 0 0) k else k % 2) := by
    unfold gd1
    by_cases c : i = j
    · simp only [if_pos c]
      exact cell_eq.symm
    · simp only [if_neg c]
      have e := cell_eq (u := V i j) (v := zr)
      simp only [cell_zr] at e
      exact e.symm
  have r1 := vx i j hi hj
  have r0 := vx 0 0 (by decide) (by decide)
  rw [show x + 98 * (3 * 0 + 0) = x by omega] at r0
  have rl : ∀ (i j k : Int), RL (cell (V i j) k) := by
    intro i j k
    have := (nV i j (k / 2)).p1
    have := (nV i j (k / 2)).p2
    unfold cell
    split <;> constructor <;> omega
  have L : ∀ (n : Nat) (k : Int), 0 ≤ k → k + n = 98 → (∀ l, 0 ≤ l → l < k → cell (V i j) l = (if i = j then cell (V 0 0) l else l % 2)) → P_X10_goBack_33 Q K10 K20 (n + 2) x b s c e t i j 1 k m := by
    intro n
    induction n with
    | zero =>
      intro k k0 k1 hk
      refine ⟨by constructor <;> omega, ?_⟩
      rw [if_pos (by omega)]
      exact fin 1 (Or.inl ⟨rfl, hg.2 (fun l l0 l1 => hk l l0 (by omega))⟩)
    | succ n ih =>
      intro k k0 k1 hk
      refine ⟨by constructor <;> omega, ?_⟩
      rw [if_neg (by omega)]
      refine ⟨by decide, ?_⟩
      rw [if_neg (by decide)]
      have ck : m 635 (x + 98 * (3 * i + j) + k) = cell (V i j) k := r1.cl_ k0 (by omega)
      have c0 : m 635 (x + k) = cell (V 0 0) k := r0.cl_ k0 (by omega)
      have tm : Int.tmod k 2 = k % 2 := tmod_pos k0
      show (0 ≤ x + 98 * (3 * i + j) + k ∧ x + 98 * (3 * i + j) + k < 1600000) ∧ _
      rw [ck, c0, tm]
      refine ⟨by omega, ⟨by constructor <;> omega, by constructor <;> omega, ?_⟩, rl i j k, ?_, ?_⟩
      · split
        · omega
        · constructor <;> omega
      · split
        · exact rl 0 0 k
        · constructor <;> omega
      · by_cases ce : cell (V i j) k = (if i = j then cell (V 0 0) k else k % 2)
        · rw [if_pos ce]
          refine ih (k + 1) (by omega) (by omega) (fun l l0 l1 => ?_)
          by_cases cl : l = k
          · rw [cl]; exact ce
          · exact hk l l0 (by omega)
        · rw [if_neg ce]
          have q := fin 0 (Or.inr ⟨rfl, fun z => ce (hg.1 z k k0 (by omega))⟩)
          refine ⟨by constructor <;> omega, ?_⟩
          by_cases c9 : 98 ≤ k + 1
          · rw [if_pos c9]; exact q
          · rw [if_neg c9]
            refine ⟨by decide, ?_⟩
            rw [if_pos rfl]
            exact q
  exact ⟨_, L 98 0 (by decide) (by decide) (fun l l0 l1 => by omega)⟩
theorem lex_step {G : Int → Int → Prop} {i j : Int} {s : Int} (hj : 0 ≤ j ∧ j < s) (hi : 0 ≤ i) : (∀ k l, 0 ≤ k → 0 ≤ l → l < s → (k < i ∨ k = i ∧ l < j + 1) → G k l) ↔ (∀ k l, 0 ≤ k → 0 ≤ l → l < s → (k < i ∨ k = i ∧ l < j) → G k l) ∧ G i j := by
  constructor
  · intro z
    exact ⟨fun k l k0 l0 l1 o => z k l k0 l0 l1 (by omega), z i j hi hj.1 hj.2 (by omega)⟩
  · rintro ⟨z1, z2⟩ k l k0 l0 l1 o
    by_cases cc : k = i ∧ l = j
    · rw [cc.1, cc.2]; exact z2
    · exact z1 k l k0 l0 l1 (by omega)
theorem lex_row {G : Int → Int → Prop} {i j : Int} {s : Int} (hj : j = s) : (∀ k l, 0 ≤ k → 0 ≤ l → l < s → (k < i + 1 ∨ k = i + 1 ∧ l < 0) → G k l) ↔ (∀ k l, 0 ≤ k → 0 ≤ l → l < s → (k < i ∨ k = i ∧ l < j) → G k l) := by
  constructor
  · intro z k l k0 l0 l1 o
    exact z k l k0 l0 l1 (by omega)
  · intro z k l k0 l0 l1 o
    exact z k l k0 l0 l1 (by omega)
/-- the first loop: whether it is a number times 1 -/
theorem backM_10 {m : MM} (hs : 1 ≤ s ∧ s ≤ 3) (hx : 0 ≤ x ∧ x + 882 ≤ 1590000) (vx : VM (m 635) x V) (nV : ∀ i j k, NB mu (V i j k)) (fin : ∀ m', ErM m m' (∀ k l, 0 ≤ k → 0 ≤ l → l < s → k < s → gd1 V k l) → P_X10_goBack_124 Q x b s c e t m') : ∃ nn, P_X10_goBack_10 Q nn x b s c e t 0 m := by
  have L2 : ∀ {K10 : Int → Int → Int → Int → Int → Int → Int → MM → Prop} {i : Int}, (0 ≤ i ∧ i < s) → (∀ m', ErM m m' (∀ k l, 0 ≤ k → 0 ≤ l → l < s → (k < i + 1 ∨ k = i + 1 ∧ l < 0) → gd1 V k l) → K10 x b s c e t (i + 1) m') → ∀ (n : Nat) (j : Int) (m' : MM), 0 ≤ j → j + n = s → ErM m m' (∀ k l, 0 ≤ k → 0 ≤ l → l < s → (k < i ∨ k = i ∧ l < j) → gd1 V k l) → P_X10_goBack_20 Q K10 (n + 1) x b s c e t i j m' := by
    intro K10 i hi fin2 n
    induction n with
    | zero =>
      intro j m' j0 j1 er
      refine ⟨by constructor <;> omega, by constructor <;> omega, ?_⟩
      rw [if_pos (by omega)]
      exact fin2 m' (er.eqv (lex_row (by omega)))
    | succ n ih =>
      intro j m' j0 j1 er
      refine ⟨by constructor <;> omega, by constructor <;> omega, ?_⟩
      rw [if_neg (by omega)]
      refine backM_33 (V := V) (mu := mu) (by omega) (by omega) hx (er.vm vx) nV (fun x10 h10 => ?_)
      have stp := lex_step (G := gd1 V) (i := i) (j := j) (s := s) (by omega) hi.1
      refine ⟨by constructor <;> omega, ?_⟩
      rcases h10 with ⟨a, z⟩ | ⟨a, z⟩
      · rw [if_neg (by omega)]
        exact ih (j + 1) m' (by omega) (by omega) ((er.nx stp).1 z)
      · rw [if_pos a]
        rintro _ rfl
        exact ih (j + 1) _ (by omega) (by omega) ((er.nx stp).2 z)
  have L1 : ∀ (n : Nat) (i : Int) (m' : MM), 0 ≤ i → i + n = s → ErM m m' (∀ k l, 0 ≤ k → 0 ≤ l → l < s → (k < i ∨ k = i ∧ l < 0) → gd1 V k l) → P_X10_goBack_10 Q (n + 1) x b s c e t i m' := by
    intro n
    induction n with
    | zero =>
      intro i m' i0 i1 er
      refine ⟨by constructor <;> omega, by constructor <;> omega, ?_⟩
      rw [if_pos (by omega)]
      refine fin m' (er.eqv ⟨fun z k l k0 l0 l1 o => z k l k0 l0 l1 (by omega), fun z k l k0 l0 l1 k1 => z k l k0 l0 l1 (by omega)⟩)
    | succ n ih =>
      intro i m' i0 i1 er
      refine ⟨by constructor <;> omega, by constructor <;> omega, ?_⟩
      rw [if_neg (by omega)]
      exact ⟨_, L2 (by omega) (fun m2 er2 => ih (i + 1) m2 (by omega) (by omega) er2) s.toNat 0 m' (by decide) (by omega) er⟩
  exact ⟨_, L1 s.toNat 0 m (by decide) (by omega) ⟨fun _ => rfl, fun z => absurd (fun k l k0 l0 l1 o => by omega) z⟩⟩
/-- what is asked of one entry at last -/
def gd2 (b c e : Int) (W : VV) (i j : Int) : Prop := (∀ q, cof e ≤ q → q < 49 → W i j q = (0, 1)) ∧ (b = 1 → c = 0 → ∀ q, 0 ≤ q → q < 49 → (W i j q).2 = 1)
theorem backM_236 {K165 : Int → Int → Int → Int → Int → Int → MM → Prop} {K185 : Int → Int → Int → Int → Int → Int → Int → MM → Prop} {m0 : MM} {W : VV} {i j : Int} {ok ok' : Prop} (hi : in3 i) (hj : in3 j) (hb : RI b) (hc : RI c) (hx : 0 ≤ x ∧ x + 882 ≤ 1590000) (vx : VM (m0 635) x W) (nW : ∀ i j k, NB mu (W i j k)) (hok : ok' ↔ ok ∧ (b = 1 → c = 0 → ∀ q, 0 ≤ q → q < 49 → (W i j q).2 = 1)) (fin : ∀ m', ErM m0 m' ok' → K185 x b c e t i (j + 1) m') {m : MM} (er : ErM m0 m ok) : ∃ nn, P_X10_goBack_236 Q K165 K185 nn x b c e t i j (x + 98 * (3 * i + j)) 0 m := by
  by_cases cb : b = 1 ∧ c = 0
  · obtain ⟨rfl, rfl⟩ := cb
    have r1 := vx i j hi hj
    have L : ∀ (n : Nat) (k : Int) (m' : MM), 0 ≤ k → k + n = 49 → ErM m0 m' (ok ∧ ∀ q, 0 ≤ q → q < k → (W i j q).2 = 1) → P_X10_goBack_236 Q K165 K185 (n + 1) x 1 0 e t i j (x + 98 * (3 * i + j)) (2 * k) m' := by
      intro n
      induction n with
      | zero =>
        intro k m' k0 k1 er'
        refine ⟨by constructor <;> omega, ?_⟩
        rw [if_pos (by omega)]
        refine fin m' (er'.eqv (hok.trans ⟨fun z => ⟨z.1, fun q q0 q1 => z.2 rfl rfl q q0 (by omega)⟩, fun z => ⟨z.1, fun _ _ q q0 q1 => z.2 q q0 (by omega)⟩⟩))
      | succ n ih =>
        intro k m' k0 k1 er'
        refine ⟨by constructor <;> omega, ?_⟩
        rw [if_neg (by omega)]
        refine ⟨by decide, ?_⟩
        rw [if_pos rfl]
        refine ⟨by decide, ?_⟩
        rw [if_pos rfl]
        have ck := (r1 k k0 (by omega)).2
        have n2 := (nW i j k).p2
        rw [er'.at, ck]
        refine ⟨by omega, by constructor <;> omega, ?_⟩
        have stp : (ok ∧ ∀ q, 0 ≤ q → q < k + 1 → (W i j q).2 = 1) ↔ (ok ∧ ∀ q, 0 ≤ q → q < k → (W i j q).2 = 1) ∧ (W i j k).2 = 1 := by
          constructor
          · rintro ⟨o, z⟩
            exact ⟨⟨o, fun q q0 q1 => z q q0 (by omega)⟩, z k k0 (by omega)⟩
          · rintro ⟨⟨o, z1⟩, z2⟩
            refine ⟨o, fun q q0 q1 => ?_⟩
            by_cases cq : q = k
            · rw [cq]; exact z2
            · exact z1 q q0 (by omega)
        by_cases c1 : (W i j k).2 = 1
        · rw [if_pos c1]
          have := ih (k + 1) m' (by omega) (by omega) ((er'.nx stp).1 c1)
          rw [show 2 * (k + 1) = 2 * k + 2 by omega] at this
          exact this
        · rw [if_neg c1]
          rintro _ rfl
          have := ih (k + 1) _ (by omega) (by omega) ((er'.nx stp).2 c1)
          rw [show 2 * (k + 1) = 2 * k + 2 by omega] at this
          exact this
    exact ⟨_, L 49 0 m (by decide) (by decide) (er.eqv ⟨fun z => z.1, fun z => ⟨z, fun q q0 q1 => by omega⟩⟩)⟩
  · have q := fin m (er.eqv (hok.trans ⟨fun z => z.1, fun z => ⟨z, fun z1 z2 => absurd ⟨z1, z2⟩ cb⟩⟩))
    refine ⟨1, by decide, ?_⟩
    rw [if_neg (by decide)]
    refine ⟨hb, ?_⟩
    by_cases c1 : b = 1
    · rw [if_pos c1]
      refine ⟨hc, ?_⟩
      rw [if_neg (fun z => cb ⟨c1, z⟩)]
      exact q
    · rw [if_neg c1]; exact q
theorem backM_165 {m : MM} {W : VV} (he : 0 ≤ e ∧ e ≤ 2) (ht : 0 ≤ t ∧ t ≤ 3) (hb : RI b) (hc : RI c) (he0 : m 582 84 = 0) (hx : 0 ≤ x ∧ x + 882 ≤ 1590000) (vx : VM (m 635) x W) (nW : ∀ i j k, NB mu (W i j k)) (fin : ∀ m', ErM m m' (∀ k l, 0 ≤ k → 0 ≤ l → l < rws t → k < rws t → gd2 b c e W k l) → Q 0 m') : ∃ nn, P_X10_goBack_165 Q nn x b c e t 0 m := by
  have hce := cof_bd he
  have rt := rws_bd ht
  have L2 : ∀ {K165 : Int → Int → Int → Int → Int → Int → MM → Prop} {i : Int}, (0 ≤ i ∧ i < rws t) → (∀ m', ErM m m' (∀ k l, 0 ≤ k → 0 ≤ l → l < rws t → (k < i + 1 ∨ k = i + 1 ∧ l < 0) → gd2 b c e W k l) → K165 x b c e t (i + 1) m') → ∀ (n : Nat) (j : Int) (m' : MM), 0 ≤ j → j + n = rws t → ErM m m' (∀ k l, 0 ≤ k → 0 ≤ l → l < rws t → (k < i ∨ k = i ∧ l < j) → gd2 b c e W k l) → P_X10_goBack_185 Q K165 (n + 1) x b c e t i j m' := by
    intro K165 i hi fin2 n
    induction n with
    | zero =>
      intro j m' j0 j1 er
      refine c_rows ht ⟨by constructor <;> omega, by constructor <;> omega, ?_⟩
      rw [if_pos (by omega)]
      exact fin2 m' (er.eqv (lex_row (by omega)))
    | succ n ih =>
      intro j m' j0 j1 er
      refine c_rows ht ⟨by constructor <;> omega, by constructor <;> omega, ?_⟩
      rw [if_neg (by omega)]
      refine c_entryAt (c_width he (c_width he ?_))
      have r1 := (er.vm vx) i j (by omega) (by omega)
      have sub := r1.sub (k := cof e) (l := 49 - cof e) (by omega) (by omega)
      rw [← show (((49 - cof e).toNat : Nat) : Int) = 49 - cof e by omega] at sub
      have key := c_isZero (Q := fun r5 m5 => (RI r5) ∧ (if r5 = 0 then ∀ m6 : MM, m6 = up m5 582 84 3 → ∃ nn, P_X10_goBack_236 Q K165 (fun z0 z1 z2 z3 z4 z5 z6 z7 => P_X10_goBack_185 Q K165 (n + 1) z0 z1 z2 z3 z4 z5 z6 z7) nn x b c e t i j (x + 98 * (3 * i + j)) 0 m6 else ∃ nn, P_X10_goBack_236 Q K165 (fun z0 z1 z2 z3 z4 z5 z6 z7 => P_X10_goBack_185 Q K165 (n + 1) z0 z1 z2 z3 z4 z5 z6 z7) nn x b c e t i j (x + 98 * (3 * i + j)) 0 m5)) (m := m') (at_ := x + 98 * (3 * i + j) + 2 * cof e) (n := (49 - cof e).toNat) (u := fun q => W i j (cof e + q)) (by omega) (by omega) sub (fun k _ _ => by have := (nW i j (cof e + k)).p1; constructor <;> omega) ?_
      · rw [show 2 * (((49 - cof e).toNat : Nat) : Int) = 98 - 2 * cof e by omega] at key
        exact key
      have ga : allZ (fun q => W i j (cof e + q)) (49 - cof e).toNat 0 = true ↔ ∀ q, cof e ≤ q → q < 49 → W i j q = (0, 1) := by
        rw [allZ_NB (mu := mu) (fun k => nW i j _)]
        constructor
        · intro z k k0 k1
          have := z (k - cof e) (by omega) (by omega)
          rw [show cof e + (k - cof e) = k by omega] at this
          exact this
        · intro z k k0 k1
          exact z (cof e + k) (by omega) (by omega)
      have stp := lex_step (G := gd2 b c e W) (i := i) (j := j) (s := rws t) (by omega) hi.1
      have goon : ∀ m2, ErM m m2 ((∀ k l, 0 ≤ k → 0 ≤ l → l < rws t → (k < i ∨ k = i ∧ l < j) → gd2 b c e W k l) ∧ ∀ q, cof e ≤ q → q < 49 → W i j q = (0, 1)) → ∃ nn, P_X10_goBack_236 Q K165 (fun z0 z1 z2 z3 z4 z5 z6 z7 => P_X10_goBack_185 Q K165 (n + 1) z0 z1 z2 z3 z4 z5 z6 z7) nn x b c e t i j (x + 98 * (3 * i + j)) 0 m2 := by
        intro m2 er2
        refine backM_236 (m0 := m) (W := W) (mu := mu) (by omega) (by omega) hb hc hx vx nW ?_ (fun m3 er3 => ih (j + 1) m3 (by omega) (by omega) er3) er2
        rw [stp]
        unfold gd2
        exact ⟨fun z => ⟨⟨z.1, z.2.1⟩, z.2.2⟩, fun z => ⟨z.1.1, z.1.2, z.2⟩⟩
      by_cases gz : allZ (fun q => W i j (cof e + q)) (49 - cof e).toNat 0 = true
      · rw [if_pos gz]
        refine ⟨by decide, ?_⟩
        rw [if_neg (by decide)]
        exact goon m' ((er.nx Iff.rfl).1 (ga.1 gz))
      · rw [if_neg gz]
        refine ⟨by decide, ?_⟩
        rw [if_pos rfl]
        rintro _ rfl
        exact goon _ ((er.nx Iff.rfl).2 (fun z => gz (ga.2 z)))
  have L1 : ∀ (n : Nat) (i : Int) (m' : MM), 0 ≤ i → i + n = rws t → ErM m m' (∀ k l, 0 ≤ k → 0 ≤ l → l < rws t → (k < i ∨ k = i ∧ l < 0) → gd2 b c e W k l) → P_X10_goBack_165 Q (n + 1) x b c e t i m' := by
    intro n
    induction n with
    | zero =>
      intro i m' i0 i1 er
      refine c_rows ht ⟨by constructor <;> omega, by constructor <;> omega, ?_⟩
      rw [if_pos (by omega)]
      refine fin m' (er.eqv ⟨fun z k l k0 l0 l1 o => z k l k0 l0 l1 (by omega), fun z k l k0 l0 l1 k1 => z k l k0 l0 l1 (by omega)⟩)
    | succ n ih =>
      intro i m' i0 i1 er
      refine c_rows ht ⟨by constructor <;> omega, by constructor <;> omega, ?_⟩
      rw [if_neg (by omega)]
      obtain ⟨q1, q2, q3⟩ := er.err he0
      refine ⟨q1, ?_⟩
      by_cases A : ∀ k l, 0 ≤ k → 0 ≤ l → l < rws t → (k < i ∨ k = i ∧ l < 0) → gd2 b c e W k l
      · rw [if_pos (q2 A)]
        exact ⟨_, L2 (by omega) (fun m2 er2 => ih (i + 1) m2 (by omega) (by omega) er2) (rws t).toNat 0 m' (by decide) (by omega) er⟩
      · rw [if_neg (by rw [q3 A]; decide)]
        refine fin m' ⟨fun z => absurd (fun k l k0 l0 l1 o => z k l k0 l0 l1 (by omega)) A, fun _ => er.2 A⟩
  exact ⟨_, L1 (rws t).toNat 0 m (by decide) (by omega) ⟨fun _ => rfl, fun z => absurd (fun k l k0 l0 l1 o => by omega) z⟩⟩
theorem c_X10_goBack {m : MM} {ch : Int} (hd : 0 ≤ d ∧ d ≤ 2) (he : 0 ≤ e ∧ e ≤ 2) (hs : 0 ≤ s ∧ s ≤ 3) (ht : 0 ≤ t ∧ t ≤ 3) (hst : s = t ∨ t = 0) (hch : ch = if b = c then 0 else 1) (hbc : c = b ∨ c = 0) (hB : BM m b mu) (he0 : m 582 84 = 0) (hx : 0 ≤ x ∧ x + 882 ≤ 1590000) (vx : VM (m 635) x V) (nV : NN mu d s V) (h : OutW (SX x) m (backS ch mu e s t V) x Q) : P_X10_goBack x b d s c e t m Q := by
  have hM : MU mu := hB.2.2.2.1
  have hce := cof_bd he
  have hone := hB.one
  have rb : RI b := by have := hB.1; have := hB.2.1; constructor <;> omega
  have rc : RI c := by have := hB.1; have := hB.2.1; constructor <;> omega
  have rt := rws_bd ht
  -- the last loop tells what is asked
  have last : ∀ (m1 : MM) (W : VV), Fm (SX x) m m1 → m1 582 84 = 0 → VM (m1 635) x W → (∀ i j k, NB mu (W i j k)) → (∀ i j k, (0 ≤ i ∧ i < rws t) → (0 ≤ j ∧ j < rws t) → 0 ≤ k → W i j k = V i j k) → (∀ i j k, 0 ≤ k → W i j k = backV s t V i j k) → (s ≠ t → ∀ i j, (0 ≤ i ∧ i < s) → (0 ≤ j ∧ j < s) → ∀ k, (0 ≤ k ∧ k < 49) → V i j k = (if i = j then V 0 0 k else (0, 1))) → ∃ nn, P_X10_goBack_165 Q nn x b c e t 0 m1 := by
    intro m1 W f1 e1 v1 nW wv wb g1
    refine backM_165 (mu := mu) he ht rb rc e1 hx v1 nW (fun m2 er => ?_)
    have eqv : okB ch mu e s t V ↔ ∀ k l, 0 ≤ k → 0 ≤ l → l < rws t → k < rws t → gd2 b c e W k l := by
      unfold okB gd2
      constructor
      · rintro ⟨-, z2, z3⟩ k l k0 l0 l1 k1
        refine ⟨fun q q0 q1 => ?_, fun b1 c0 q q0 q1 => ?_⟩
        · rw [wv k l q ⟨k0, k1⟩ ⟨l0, l1⟩ (by omega)]
          exact z2 k l q ⟨k0, k1⟩ ⟨l0, l1⟩ ⟨q0, q1⟩
        · rw [wv k l q ⟨k0, k1⟩ ⟨l0, l1⟩ q0]
          exact z3 (hone.1 b1) (by rw [hch, if_neg (by omega)]; decide) k l q ⟨k0, k1⟩ ⟨l0, l1⟩ ⟨q0, q1⟩
      · intro z
        refine ⟨g1, fun i j k hi hj hk => ?_, fun mu1 c0 i j k hi hj hk => ?_⟩
        · rw [← wv i j k hi hj (by omega)]
          exact (z i j hi.1 hj.1 hj.2 hi.2).1 k hk.1 hk.2
        · rw [← wv i j k hi hj hk.1]
          have b1 := hone.2 mu1
          have cz : c = 0 := by
            rcases hbc with q | q
            · rw [if_pos q.symm] at hch; exact absurd hch c0
            · exact q
          exact (z i j hi.1 hj.1 hj.2 hi.2).2 b1 cz k hk.1 hk.2
    obtain ⟨q1, q2, q3⟩ := er.err e1
    by_cases A : ∀ k l, 0 ≤ k → 0 ≤ l → l < rws t → k < rws t → gd2 b c e W k l
    · refine h.1 _ m2 (backS_ok (eqv.2 A)) (f1.trans er.fm) (q2 A) ?_
      intro i j hi hj k k0 k1
      rw [← wb i j k k0]
      exact (er.vm v1) i j hi hj k k0 k1
    · exact h.2 3 m2 (backS_no (fun z => A (eqv.1 z))) (f1.trans er.fm) (q3 A)
  refine ⟨by constructor <;> omega, by constructor <;> omega, ?_⟩
  by_cases cst : s ≤ t
  · rw [if_pos cst]
    have st : s = t := by omega
    refine last m V (Fm.refl m) he0 vx nV.1 (fun i j k _ _ _ => rfl) (fun i j k k0 => ?_) (fun z => absurd st z)
    unfold backV
    rw [if_pos k0, if_pos st]
  · rw [if_neg cst]
    have t0 : t = 0 := by omega
    subst t0
    have r0 : rws 0 = 1 := rfl
    refine backM_10 (mu := mu) (by omega) hx vx nV.1 (fun m1 er => ?_)
    obtain ⟨q1, q2, q3⟩ := er.err he0
    refine ⟨q1, ?_⟩
    by_cases A : ∀ k l, 0 ≤ k → 0 ≤ l → l < s → k < s → gd1 V k l
    · rw [if_pos (by rw [q2 A]; decide)]
      have mm := er.1 A
      subst mm
      have rs : rws s = s := by unfold rws; omega
      have L : ∀ (n : Nat) (i : Int) (m2 : MM), 1 ≤ i → i + n = s → Fm (SX x) m1 m2 → m2 582 84 = 0 → (∀ k l, in3 k → in3 l → Rw (m2 635) (x + 98 * (3 * k + l)) (if k = l ∧ 1 ≤ k ∧ k < i then zr else V k l) 49) → P_X10_goBack_135 Q (n + 1) x b s c e 0 i m2 := by
        intro n
        induction n with
        | zero =>
          intro i m2 i0 i1 f2 e2 v2
          refine ⟨by constructor <;> omega, by constructor <;> omega, ?_⟩
          rw [if_pos (by omega)]
          refine last m2 (rvv (V 0 0)) f2 e2 (fun k l hk hl => ?_) (fun i j k => ?_) (fun i j k hi hj k0 => ?_) (fun i j k k0 => ?_) (fun _ i j hi hj k hk => A i j hi.1 hj.1 hj.2 hi.2 k hk)
          · intro q q0 q1
            have o := v2 k l hk hl q q0 q1
            by_cases c0 : k = 0 ∧ l = 0
            · rw [c0.1, c0.2] at o ⊢
              rw [rvv_at]
              rw [if_neg (by omega)] at o
              exact o
            · rw [rvv_ne c0]
              by_cases c1 : k = l ∧ 1 ≤ k ∧ k < i
              · rw [if_pos c1] at o
                exact o
              · rw [if_neg c1] at o
                have z : V k l q = (0, 1) := by
                  by_cases c2 : k < s ∧ l < s
                  · have := A k l hk.1 hl.1 c2.2 c2.1 q ⟨q0, q1⟩
                    rw [if_neg (by omega)] at this
                    exact this
                  · exact nV.2 k l q (by omega)
                rw [z] at o
                exact o
          · by_cases c0 : i = 0 ∧ j = 0
            · rw [c0.1, c0.2, rvv_at]; exact nV.1 0 0 k
            · rw [rvv_ne c0]; exact NB_zr hM
          · rw [show i = 0 by omega, show j = 0 by omega, rvv_at]
          · unfold backV
            rw [if_pos k0, if_neg (by omega)]
        | succ n ih =>
          intro i m2 i0 i1 f2 e2 v2
          refine ⟨by constructor <;> omega, by constructor <;> omega, ?_⟩
          rw [if_neg (by omega)]
          refine c_clear (n := 49) (at_ := x + 98 * (3 * i + i)) (by omega) (by omega) (fun m3 f3 e3 r3 => ?_)
          refine ih (i + 1) m3 (by omega) (by omega) (f2.trans (f3.mono (fun q z => by have z1 : x + 98 * (3 * i + i) ≤ q ∧ q < x + 98 * (3 * i + i) + 2 * 49 := z; unfold SX; omega))) (by rw [e3, e2]) (fun k l hk hl => ?_)
          by_cases cc : k = i ∧ l = i
          · rw [cc.1, cc.2, if_pos (by omega)]
            exact r3
          · have o := (v2 k l hk hl).fm f3 (fun q q0 q1 z => by have z1 : x + 98 * (3 * i + i) ≤ q ∧ q < x + 98 * (3 * i + i) + 2 * 49 := z; omega)
            by_cases c1 : k = l ∧ 1 ≤ k ∧ k < i
            · rw [if_pos c1] at o
              rw [if_pos (by omega)]
              exact o
            · rw [if_neg c1] at o
              rw [if_neg (by omega)]
              exact o
      refine ⟨_, L (s - 1).toNat 1 m1 (by decide) (by omega) (Fm.refl m1) he0 (fun k l hk hl => ?_)⟩
      rw [if_neg (by omega)]
      exact vx k l hk hl
    · rw [if_neg (by rw [q3 A]; decide)]
      have mm := er.2 A
      subst mm
      refine h.2 3 _ (backS_no (fun z => A (fun k l k0 l0 l1 k1 => z.1 (by omega) k l ⟨k0, k1⟩ ⟨l0, l1⟩))) Fm.err (up_at ..)
end BACKM
