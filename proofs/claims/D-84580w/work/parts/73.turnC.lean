set_option maxRecDepth 100000
/-! values that go to a greater ring: the specification; the component -/
def gC (ch mu : Int) (p : PP) : PP := if ch = 0 then p else if 1 < mu then (p.1 % mu, 1) else p
def goV (ch mu s t : Int) (V : VV) : VV := fun i j => if s = t then (fun k => gC ch mu (V i j k)) else if i = j ∧ 0 ≤ i ∧ i < rws t then (fun k => gC ch mu (V 0 0 k)) else zr
theorem gC_z {ch mu : Int} : gC ch mu (0, 1) = (0, 1) := by
  unfold gC
  split
  · rfl
  · split
    · rw [Int.zero_emod]
    · rfl
theorem gC_NB {ch mu : Int} {p : PP} (hM : MU mu) (h0 : ch = 0 → NB mu p) (h1 : ch ≠ 0 → NB 0 p) : NB mu (gC ch mu p) := by
  unfold gC
  split
  case isTrue c => exact h0 c
  case isFalse c =>
    have h := h1 c
    split
    case isTrue c1 =>
      have a := Int.emod_nonneg p.1 (show mu ≠ 0 by omega)
      have b := Int.emod_lt_of_pos p.1 (show 0 < mu by omega)
      refine ⟨⟨by show -999999999 ≤ p.1 % mu; omega, by show p.1 % mu ≤ 999999999; omega, by show (1 : Int) ≤ 999999999; decide⟩, by show (1 : Int) ≤ 1; decide, fun _ => rfl, fun z => by omega, fun _ => ⟨a, b⟩⟩
    case isFalse c1 =>
      have p2 : p.2 = 1 := h.2.2.1 (by decide)
      refine ⟨h.1, h.2.1, fun _ => p2, fun _ => ?_, fun z => absurd z c1⟩
      rw [p2]
      exact Int.gcd_one_right ..
theorem goV_NN {ch mu d e s t : Int} {V : VV} (hM : MU mu) (hd : 0 ≤ d ∧ d ≤ 2) (he : 0 ≤ e ∧ e ≤ 2) (hde : d ≤ e) (h0 : ch = 0 → NN mu d s V) (h1 : ch ≠ 0 → NN 0 d s V) : NN mu e t (goV ch mu s t V) := by
  have cd : cof d ≤ cof e := by
    rcases cof_cs hd with ⟨a, b⟩ | ⟨a, b⟩ | ⟨a, b⟩ <;> rcases cof_cs he with ⟨a', b'⟩ | ⟨a', b'⟩ | ⟨a', b'⟩ <;> omega
  have nb : ∀ i j k, NB mu (gC ch mu (V i j k)) := fun i j k => gC_NB hM (fun z => (h0 z).1 i j k) (fun z => (h1 z).1 i j k)
  have z : ∀ i j k, ¬ ((0 ≤ i ∧ i < rws s) ∧ (0 ≤ j ∧ j < rws s) ∧ k < cof d) → V i j k = (0, 1) := by
    intro i j k hn
    by_cases c : ch = 0
    · exact (h0 c).2 i j k hn
    · exact (h1 c).2 i j k hn
  refine ⟨fun i j k => ?_, fun i j k hn => ?_⟩
  · unfold goV
    split
    · exact nb i j k
    · split
      · exact nb 0 0 k
      · exact NB_zr hM
  · unfold goV
    split
    case isTrue c =>
      subst c
      show gC ch mu (V i j k) = (0, 1)
      rw [z i j k (by omega), gC_z]
    case isFalse c =>
      split
      case isTrue c2 => show gC ch mu (V 0 0 k) = (0, 1); rw [z 0 0 k (by omega), gC_z]
      case isFalse => rfl
theorem blk_bd {c i N : Int} (hc : 1 ≤ c) (hi : 0 ≤ i ∧ i < N) : 0 ≤ 2 * c * i ∧ 2 * c * i + 2 * c ≤ 2 * c * N := by
  have a : 0 ≤ 2 * c * i := Int.mul_nonneg (by omega) hi.1
  have b : 2 * c * (i + 1) ≤ 2 * c * N := Int.mul_le_mul_of_nonneg_left (by omega) (by omega)
  rw [Int.mul_add, Int.mul_one] at b
  exact ⟨a, b⟩
theorem blk_ne {c i j : Int} (hc : 1 ≤ c) (h : i ≠ j) : 2 * c * i + 2 * c ≤ 2 * c * j ∨ 2 * c * j + 2 * c ≤ 2 * c * i := by
  rcases (show i + 1 ≤ j ∨ j + 1 ≤ i by omega) with k | k
  · left
    have b : 2 * c * (i + 1) ≤ 2 * c * j := Int.mul_le_mul_of_nonneg_left k (by omega)
    rw [Int.mul_add, Int.mul_one] at b
    exact b
  · right
    have b : 2 * c * (j + 1) ≤ 2 * c * i := Int.mul_le_mul_of_nonneg_left k (by omega)
    rw [Int.mul_add, Int.mul_one] at b
    exact b
section TURNC
variable {Q : Int → MM → Prop} {r r' b c d e s t mu x : Int} {V : VV}
/-- some blocks are copied to places in a clear value -/
theorem turnC_148 {m0 : MM} {cd ce M N x5 x8 x9 : Int} {so g : Int → Int} {src : Int → Int → PP} (hc : 1 ≤ cd ∧ cd ≤ ce ∧ ce ≤ 49) (hx : 0 ≤ x ∧ x + 2 * ce * M ≤ 1155420) (h9 : x9 = 0 ∨ x9 = 1) (hN : (if x9 = 0 then x8 else x5) = N) (hN0 : 0 ≤ N ∧ N ≤ 9) (hso : ∀ k, 0 ≤ k → k < N → (if x9 = 0 then 0 else (2 * cd) * k) = so k ∧ (0 ≤ so k ∧ so k + 2 * cd ≤ 882)) (hg : ∀ k, 0 ≤ k → k < N → (if x9 = 0 then ((x8 * k) + k) else k) = g k ∧ (0 ≤ g k ∧ g k < M)) (hi : ∀ k l, 0 ≤ k → k < N → 0 ≤ l → l < N → g k = g l → k = l) (h : ∀ m', Fc (fun q => x ≤ q ∧ q < x + 2 * ce * M) m0 m' → m' 378 2 = m0 378 2 → (∀ l, 0 ≤ l → l < N → Rw (m' 379) (x + 2 * ce * g l) (fun q => if q < cd then src l q else (0, 1)) ce) → (∀ i, (0 ≤ i ∧ i < M) → (∀ l, 0 ≤ l → l < N → g l ≠ i) → Rw (m' 379) (x + 2 * ce * i) zr ce) → Q 0 m') : ∀ (n : Nat) (k : Int) (m : MM), 0 ≤ k → k + n = N → Fc (fun q => x ≤ q ∧ q < x + 2 * ce * M) m0 m → m 378 2 = m0 378 2 → (∀ l, 0 ≤ l → l < N → Rw (m 379) (1155420 + so l) (src l) cd) → (∀ l, 0 ≤ l → l < k → Rw (m 379) (x + 2 * ce * g l) (fun q => if q < cd then src l q else (0, 1)) ce) → (∀ i, (0 ≤ i ∧ i < M) → (∀ l, 0 ≤ l → l < k → g l ≠ i) → Rw (m 379) (x + 2 * ce * i) zr ce) → P_X8_turn_148 Q (n + 1) x cd x5 ce x8 x9 k m := by
  have r9 : RI x9 := by constructor <;> omega
  intro n
  induction n with
  | zero =>
    intro k m k0 k1 f er hs hd hz
    refine ⟨r9, by constructor <;> omega, by rw [hN]; constructor <;> omega, ?_⟩
    rw [hN, if_pos (by omega)]
    have : k = N := by omega
    subst this
    exact h m f er hd hz
  | succ n ih =>
    intro k m k0 k1 f er hs hd hz
    refine ⟨r9, by constructor <;> omega, by rw [hN]; constructor <;> omega, ?_⟩
    rw [hN, if_neg (by omega)]
    obtain ⟨s1, s2⟩ := hso k k0 (by omega)
    obtain ⟨g1, g2⟩ := hg k k0 (by omega)
    rw [s1, g1]
    have bd := blk_bd (c := ce) (by omega) g2
    refine ⟨r9, r9, c_X8_copy (by omega) (by omega) (by omega) (fun m1 f1 e1 cp => ?_)⟩
    have f1' : Fc (fun q => x ≤ q ∧ q < x + 2 * ce * M) m m1 := f1.mono (fun q z => by omega)
    have old := hz (g k) g2 (fun l l0 l1 z => by have := hi l k l0 (by omega) k0 (by omega) z; omega)
    refine ih (k + 1) m1 (by omega) (by omega) (f.trans f1') (by rw [e1, er]) (fun l l0 l1 => ?_) (fun l l0 l1 => ?_) (fun i i0 i1 => ?_)
    · have := (hso l l0 l1).2
      exact (hs l l0 l1).fr f1 (fun q q0 q1 z => by omega)
    · by_cases cc : l = k
      · subst cc
        intro q q0 q1
        have new := (hs l k0 (by omega)).cp cp
        by_cases c3 : q < cd
        · simp only [if_pos c3]
          exact new q q0 c3
        · simp only [if_neg c3]
          rw [f1.2 _ (by omega), f1.2 _ (by omega)]
          exact old q q0 q1
      · have ne : g l ≠ g k := fun z => cc (hi l k l0 (by omega) k0 (by omega) z)
        have b2 := blk_ne (c := ce) (by omega) ne
        exact (hd l l0 (by omega)).fr f1 (fun q q0 q1 z => by omega)
    · have ne : i ≠ g k := fun z => i1 k k0 (by omega) z.symm
      have b2 := blk_ne (c := ce) (by omega) ne
      exact (hz i i0 (fun l l0 l1 => i1 l l0 (by omega))).fr f1 (fun q q0 q1 z => by omega)
/-- a clear value: all its blocks are clear -/
theorem Rw_blk {g : Int → Int} {ce M : Int} (h : Rw g x zr (ce * M)) (hc : 1 ≤ ce) (i : Int) (hi : 0 ≤ i ∧ i < M) : Rw g (x + 2 * ce * i) zr ce := by
  intro q q0 q1
  have bd := blk_bd (c := ce) hc hi
  have e : 2 * ce * i = 2 * (ce * i) := Int.mul_assoc ..
  have e2 : 2 * ce * M = 2 * (ce * M) := Int.mul_assoc ..
  have := h (ce * i + q) (by omega) (by omega)
  rw [show x + 2 * ce * i + 2 * q = x + 2 * (ce * i + q) by omega]
  exact this
/-- where what goes lies by blocks, from 1155420 on -/
theorem fl_blk {W : VV} (hd : 0 ≤ d ∧ d ≤ 2) {g : Int → Int} (h : Rw g 1155420 (fl d s W) (cof d * enn s)) (l : Int) (hl : 0 ≤ l ∧ l < enn s) : Rw g (1155420 + 2 * cof d * l) (fun q => fl d s W (cof d * l + q)) (cof d) := by
  have hc := cof_bd hd
  have bd := blk_bd (c := cof d) (by omega) hl
  have e : 2 * cof d * l = 2 * (cof d * l) := Int.mul_assoc ..
  have e2 : 2 * cof d * enn s = 2 * (cof d * enn s) := Int.mul_assoc ..
  intro q q0 q1
  have := h (cof d * l + q) (by omega) (by omega)
  rw [show 1155420 + 2 * cof d * l + 2 * q = 1155420 + 2 * (cof d * l + q) by omega]
  exact this
theorem turnC_111 {m0 m : MM} {W : VV} (hR : RG r b d s) (hR' : RG r' c e t) (hde : d ≤ e) (hst : s = t ∨ s = 0) (hx : 0 ≤ x ∧ x + 882 ≤ 1155420) (rw_ : Rw (m 379) 1155420 (fl d s W) (cof d * enn s)) (hW : ∀ i j k, ¬ ((0 ≤ i ∧ i < rws s) ∧ (0 ≤ j ∧ j < rws s) ∧ k < cof d) → W i j k = (0, 1)) (h : ∀ m', Fc (fun q => x ≤ q ∧ q < x + VS e t) m m' → m' 378 2 = m 378 2 → VC (m' 379) x e t (goV 0 0 s t W) → Q 0 m') : P_X8_turn_111 Q r r' x (cof d) (enn s) (cof e) m := by
  obtain ⟨-, hb, hd, hs⟩ := id hR
  obtain ⟨-, hb', he, ht⟩ := id hR'
  have hc := cof_bd hd
  have hc' := cof_bd he
  have cd : cof d ≤ cof e := by
    rcases cof_cs hd with ⟨a, b⟩ | ⟨a, b⟩ | ⟨a, b⟩ <;> rcases cof_cs he with ⟨a', b'⟩ | ⟨a', b'⟩ | ⟨a', b'⟩ <;> omega
  have vb := VS_bd he ht
  have vb' := VS_bd hd hs
  have ve : VS e t = 2 * cof e * enn t := rfl
  have ve' : VS d s = 2 * cof d * enn s := rfl
  have e1 : 2 * cof e * enn t = 2 * (cof e * enn t) := Int.mul_assoc ..
  have hN : (((cof e * enn t).toNat : Nat) : Int) = cof e * enn t := by omega
  refine c_size hR' (c_entries hR' ?_)
  rw [← hN]
  refine c_X8_clear (by omega) (by omega) (fun m1 f1 er1 r1 => ?_)
  rw [hN] at f1 r1
  have f1' : Fc (fun q => x ≤ q ∧ q < x + 2 * cof e * enn t) m m1 := f1.mono (fun q z => by omega)
  have rw1 : Rw (m1 379) 1155420 (fl d s W) (cof d * enn s) := rw_.fr f1 (fun q q0 q1 z => by omega)
  refine c_size hR ⟨by constructor <;> omega, by constructor <;> omega, ?_⟩
  have es := enn_cs hs
  have et := enn_cs ht
  by_cases cst : s = t
  · rw [if_pos cst]
    subst cst
    refine ⟨(enn s).toNat + 1, turnC_148 (m0 := m) (M := enn s) (N := enn s) (so := fun k => 2 * cof d * k) (g := fun k => k) (src := fun l q => fl d s W (cof d * l + q)) ⟨hc.1, cd, hc'.2⟩ (by omega) (Or.inr rfl) (if_neg (by decide)) (by omega) (fun k k0 k1 => ⟨if_neg (by decide), by have := blk_bd (c := cof d) hc.1 ⟨k0, k1⟩; omega⟩) (fun k k0 k1 => ⟨if_neg (by decide), k0, k1⟩) (fun k l _ _ _ _ z => z) (fun m' f' er' hd' hz' => ?_) (enn s).toNat 0 m1 (by decide) (by omega) f1' er1 (fun l l0 l1 => fl_blk hd rw1 l ⟨l0, l1⟩) (fun l l0 l1 => by omega) (fun i i0 i1 => Rw_blk r1 hc'.1 i i0)⟩
    refine h m' (f'.mono (fun q z => by omega)) er' (fun i j hi hj => ?_)
    have ix : 0 ≤ s * i + j ∧ s * i + j < enn s := by
      rcases es with ⟨a1, a2, a3⟩ | ⟨a1, a2, a3⟩ | ⟨a1, a2, a3⟩ | ⟨a1, a2, a3⟩ <;> subst a1 <;> omega
    have row := hd' (s * i + j) ix.1 ix.2
    intro q q0 q1
    have rq := row q q0 q1
    have ev : goV 0 0 s s W i j q = (if q < cof d then fl d s W (cof d * (s * i + j) + q) else (0, 1)) := by
      unfold goV gC
      rw [if_pos rfl, if_pos rfl]
      by_cases c3 : q < cof d
      · rw [if_pos c3, fl_at hd hs hi hj ⟨q0, c3⟩]
      · rw [if_neg c3]
        exact hW i j q (by omega)
    rw [ev]
    exact rq
  · rw [if_neg cst]
    have s0 : s = 0 := by omega
    subst s0
    have t1 : 1 ≤ t := by omega
    have rt : rws t = t := by unfold rws; omega
    have e0 : enn 0 = 1 := rfl
    have gb : ∀ k, 0 ≤ k → k < t → 0 ≤ t * k + k ∧ t * k + k < enn t := by
      intro k k0 k1
      rcases et with ⟨a1, a2, a3⟩ | ⟨a1, a2, a3⟩ | ⟨a1, a2, a3⟩ | ⟨a1, a2, a3⟩ <;> subst a1 <;> omega
    refine ⟨t.toNat + 1, turnC_148 (m0 := m) (M := enn t) (N := t) (so := fun k => 0) (g := fun k => t * k + k) (src := fun l q => fl d 0 W (cof d * 0 + q)) ⟨hc.1, cd, hc'.2⟩ (by omega) (Or.inl rfl) (if_pos rfl) (by omega) (fun k k0 k1 => ⟨if_pos rfl, by omega⟩) (fun k k0 k1 => ⟨if_pos rfl, gb k k0 k1⟩) (fun k l k0 k1 l0 l1 z => ?_) (fun m' f' er' hd' hz' => ?_) t.toNat 0 m1 (by decide) (by omega) f1' er1 (fun l l0 l1 => by have q := fl_blk hd rw1 0 (by decide); rw [Int.mul_zero] at q; exact q) (fun l l0 l1 => by omega) (fun i i0 i1 => Rw_blk r1 hc'.1 i i0)⟩
    · have z : t * k + k = t * l + l := z
      rcases et with ⟨a1, a2, a3⟩ | ⟨a1, a2, a3⟩ | ⟨a1, a2, a3⟩ | ⟨a1, a2, a3⟩ <;> subst a1 <;> omega
    refine h m' (f'.mono (fun q z => by omega)) er' (fun i j hi hj => ?_)
    rw [rt] at hi hj
    by_cases cij : i = j
    · subst cij
      have row := hd' i hi.1 hi.2
      intro q q0 q1
      have rq := row q q0 q1
      have ev : goV 0 0 0 t W i i q = (if q < cof d then fl d 0 W (cof d * 0 + q) else (0, 1)) := by
        unfold goV gC
        rw [if_neg cst, if_pos ⟨rfl, hi.1, by omega⟩]
        show W 0 0 q = _
        by_cases c3 : q < cof d
        · rw [if_pos c3]
          have := fl_at (V := W) (i := 0) (j := 0) hd (s := 0) (by decide) (by decide) (by decide) ⟨q0, c3⟩
          rw [show (0 : Int) * 0 + 0 = 0 by decide] at this
          exact this.symm
        · rw [if_neg c3]
          exact hW 0 0 q (by omega)
      rw [ev]
      exact rq
    · have ix : 0 ≤ t * i + j ∧ t * i + j < enn t := by
        rcases et with ⟨a1, a2, a3⟩ | ⟨a1, a2, a3⟩ | ⟨a1, a2, a3⟩ | ⟨a1, a2, a3⟩ <;> subst a1 <;> omega
      have row := hz' (t * i + j) ix (fun l l0 l1 z => by
        have z : t * l + l = t * i + j := z
        rcases et with ⟨a1, a2, a3⟩ | ⟨a1, a2, a3⟩ | ⟨a1, a2, a3⟩ | ⟨a1, a2, a3⟩ <;> subst a1 <;> omega)
      intro q q0 q1
      have rq := row q q0 q1
      have ev : goV 0 0 0 t W i j q = zr q := by
        unfold goV
        rw [if_neg cst, if_neg (fun z => cij z.1)]
      rw [ev]
      exact rq
theorem turnC_66 {W : VV} (hM : 1 < mu ∧ mu ≤ 9973) (hd : 0 ≤ d ∧ d ≤ 2) (hs : 0 ≤ s ∧ s ≤ 3) (nV : NN 0 d s V) {m : MM} (rw_ : Rw (m 379) 1155420 (fl d s V) (cof d * enn s)) (h : ∀ m', Fc (fun q => 1155420 ≤ q ∧ q < 1155420 + VS d s) m m' → m' 378 2 = m 378 2 → Rw (m' 379) 1155420 (fl d s (fun i j k => gC 1 mu (V i j k))) (cof d * enn s) → P_X8_turn_111 Q r r' x (cof d) (enn s) (cof e) m') : ∃ nn, P_X8_turn_66 Q nn r r' x (cof d) (enn s) (cof e) mu 0 m := by
  have vb := VS_bd hd hs
  have ve : VS d s = 2 * (cof d * enn s) := VS_eq
  have L : ∀ (n : Nat) (k : Int) (m' : MM), 0 ≤ k → k + n = cof d * enn s → Fc (fun q => 1155420 ≤ q ∧ q < 1155420 + VS d s) m m' → m' 378 2 = m 378 2 → (∀ j, 0 ≤ j → j < cof d * enn s → m' 379 (1155420 + 2 * j) = (if j < k then (gC 1 mu (fl d s V j)).1 else (fl d s V j).1) ∧ m' 379 (1155420 + 2 * j + 1) = 1) → P_X8_turn_66 Q (n + 1) r r' x (cof d) (enn s) (cof e) mu k m' := by
    intro n
    induction n with
    | zero =>
      intro k m' k0 k1 f er hr
      refine ⟨by constructor <;> omega, by constructor <;> omega, ?_⟩
      rw [if_pos (by omega)]
      refine h m' f er (fun j j0 j1 => ?_)
      have := hr j j0 j1
      rw [if_pos (by omega)] at this
      have e2 : (gC 1 mu (fl d s V j)).2 = 1 := by unfold gC; rw [if_neg (by decide), if_pos hM.1]
      show _ = (gC 1 mu (fl d s V j)).1 ∧ _ = (gC 1 mu (fl d s V j)).2
      rw [e2]
      exact this
    | succ n ih =>
      intro k m' k0 k1 f er hr
      refine ⟨by constructor <;> omega, by constructor <;> omega, ?_⟩
      rw [if_neg (by omega)]
      have rk := hr k k0 (by omega)
      rw [if_neg (by omega)] at rk
      have nb := (nV.nv.row hd hs k k0 (by omega)).p1
      refine ⟨by omega, c_floorModI (by rw [rk.1]; constructor <;> omega) (by constructor <;> omega) (by omega) ?_⟩
      rintro _ rfl
      refine ih (k + 1) _ (by omega) (by omega) (f.trans (Fc.ofUp (by omega))) (by rw [up_ne (fun z => absurd z.1 (by decide)), er]) (fun j j0 j1 => ?_)
      have rj := hr j j0 j1
      by_cases cc : j = k
      · subst cc
        rw [up_at, up_neI (by omega), if_pos (by omega), rk.1]
        refine ⟨?_, rj.2⟩
        unfold gC
        rw [if_neg (by decide), if_pos hM.1]
      · rw [up_neI (by omega), up_neI (by omega)]
        refine ⟨rj.1.trans ?_, rj.2⟩
        by_cases c2 : j < k
        · rw [if_pos c2, if_pos (by omega)]
        · rw [if_neg c2, if_neg (by omega)]
  refine ⟨_, L (cof d * enn s).toNat 0 m (by decide) (by omega) (Fc.refl m) rfl (fun j j0 j1 => ?_)⟩
  rw [if_neg (by omega)]
  have := rw_ j j0 j1
  have nb := (nV.nv.row hd hs j j0 j1).2.2.1 (by decide)
  rw [nb] at this
  exact this
theorem goV_comp {ch : Int} : goV 0 0 s t (fun i j k => gC ch mu (V i j k)) = goV ch mu s t V := by
  funext i j
  unfold goV
  by_cases c1 : s = t
  · rw [if_pos c1, if_pos c1]
    funext k
    show (if (0 : Int) = 0 then _ else _) = _
    rw [if_pos rfl]
  · rw [if_neg c1, if_neg c1]
    by_cases c2 : i = j ∧ 0 ≤ i ∧ i < rws t
    · rw [if_pos c2, if_pos c2]
      funext k
      show (if (0 : Int) = 0 then _ else _) = _
      rw [if_pos rfl]
    · rw [if_neg c2, if_neg c2]
theorem c_X8_turn {m : MM} {ch : Int} (hR : RG r b d s) (hR' : RG r' c e t) (hde : d ≤ e) (hst : s = t ∨ s = 0) (hch : ch = if b = c then 0 else 1) (hmu : muC m c = mu) (hM : MU mu) (hx : 0 ≤ x ∧ x + 882 ≤ 1155420) (vx : VC (m 379) x d s V) (n0 : ch = 0 → NN mu d s V) (n1 : ch ≠ 0 → NN 0 d s V) (h : ∀ m', Fc (fun q => x ≤ q ∧ q < x + 882 ∨ 1155420 ≤ q ∧ q < 1156302) m m' → m' 378 2 = m 378 2 → VC (m' 379) x e t (goV ch mu s t V) → Q 0 m') : P_X8_turn r r' x m Q := by
  obtain ⟨rr, hb, hd, hs⟩ := id hR
  obtain ⟨rr', hb', he, ht⟩ := id hR'
  refine ⟨hR.ri, hR'.ri, ?_⟩
  by_cases crr : r = r'
  · rw [if_pos crr]
    refine h m (Fc.refl m) rfl ?_
    have e1 : b = c := by omega
    have e2 : d = e := by omega
    have e3 : s = t := by omega
    subst e1 e2 e3
    rw [if_pos rfl] at hch
    subst hch
    have : goV 0 mu s s V = V := by
      funext i j k
      unfold goV gC
      rw [if_pos rfl, if_pos rfl]
    rw [this]
    exact vx
  rw [if_neg crr]
  have hc := cof_bd hd
  have vb := VS_bd hd hs
  have ve : VS d s = 2 * (cof d * enn s) := VS_eq
  have vb' := VS_bd he ht
  refine c_coef hR (c_entries hR (c_coef hR' (c_X8_copy (by omega) (by omega) (by omega) (fun m1 f1 e1 cp => ?_))))
  have f1' : Fc (fun q => x ≤ q ∧ q < x + 882 ∨ 1155420 ≤ q ∧ q < 1156302) m m1 := f1.mono (fun q z => by omega)
  have r1 : Rw (m1 379) 1155420 (fl d s V) (cof d * enn s) := (vx.row hd hs).cp cp
  have vz : ∀ i j k, ¬ ((0 ≤ i ∧ i < rws s) ∧ (0 ≤ j ∧ j < rws s) ∧ k < cof d) → gC ch mu (V i j k) = (0, 1) := by
    intro i j k hn
    by_cases cc : ch = 0
    · rw [(n0 cc).2 i j k hn, gC_z]
    · rw [(n1 cc).2 i j k hn, gC_z]
  have fin : ∀ m2 : MM, Fc (fun q => 1155420 ≤ q ∧ q < 1156302) m1 m2 → m2 378 2 = m1 378 2 → Rw (m2 379) 1155420 (fl d s (fun i j k => gC ch mu (V i j k))) (cof d * enn s) → P_X8_turn_111 Q r r' x (cof d) (enn s) (cof e) m2 := by
    intro m2 f2 e2 r2
    refine turnC_111 (m0 := m2) hR hR' hde hst hx r2 vz (fun m3 f3 e3 v3 => h m3 ((f1'.trans (f2.mono (fun q z => Or.inr z))).trans (f3.mono (fun q z => by omega))) (by rw [e3, e2, e1]) ?_)
    rw [goV_comp] at v3
    exact v3
  refine c_base hR' (c_X8_modulus (by constructor <;> omega) ?_)
  rw [f1.mu, hmu]
  refine c_base hR (c_base hR' ⟨by constructor <;> omega, by constructor <;> omega, ?_⟩)
  by_cases cbc : b = c
  · rw [if_pos cbc]
    rw [if_pos cbc] at hch
    refine fin m1 (Fc.refl m1) rfl ?_
    have : (fun i j k => gC ch mu (V i j k)) = V := by
      funext i j k
      unfold gC
      rw [if_pos hch]
    rw [this]
    exact r1
  · rw [if_neg cbc]
    rw [if_neg cbc] at hch
    refine ⟨by constructor <;> omega, ?_⟩
    by_cases cm : mu ≤ 1
    · rw [if_pos cm]
      refine fin m1 (Fc.refl m1) rfl ?_
      have : (fun i j k => gC ch mu (V i j k)) = V := by
        funext i j k
        unfold gC
        rw [if_neg (by omega), if_neg (by omega)]
      rw [this]
      exact r1
    · rw [if_neg cm]
      refine turnC_66 (V := V) (W := V) ⟨by omega, hM.2⟩ hd hs (n1 (by omega)) r1 (fun m2 f2 e2 r2 => fin m2 (f2.mono (fun q z => by omega)) e2 ?_)
      rw [hch]
      exact r2
end TURNC
