set_option maxRecDepth 100000
/-! powers, and quotients by one number -/
theorem Fm.oth {S : Int → Prop} {m m' : MM} (f : Fm S m m') {c i : Int} (h1 : c ≠ 635) (h2 : c ≠ 582) : m' c i = m c i := f.1 c i h1 (fun z => h2 z.1)
theorem Fc.oth {S : Int → Prop} {m m' : MM} (f : Fc S m m') {c i : Int} (h1 : c ≠ 379) (h2 : c ≠ 378) : m' c i = m c i := f.1 c i h1 (fun z => h2 z.1)
theorem c_number {m : MM} {Q : Int → MM → Prop} {r b d s : Int} (h : RG r b d s) (k : Q (enn s * cof d) m) : P_X6_number r m Q := c_entries h (c_coef h k)
theorem VC.cpy {m m' : MM} {x to d s : Int} {V : VV} (h : VC (m 379) x d s V) (hd : 0 ≤ d ∧ d ≤ 2) (hs : 0 ≤ s ∧ s ≤ 3) (k : ∀ i, 0 ≤ i → i < 2 * (enn s * cof d) → m' 379 (to + i) = m 379 (x + i)) : VC (m' 379) to d s V := by
  rw [Int.mul_comm (enn s)] at k
  exact ((h.row hd hs).cp k).vc hd hs (fun i j c hi hj hc => fl_at hd hs hi hj hc)
theorem VS_eq2 {d s : Int} : VS d s = 2 * (enn s * cof d) := by rw [VS_eq, Int.mul_comm (cof d)]
theorem oneV_NN {mu d s : Int} (hM : MU mu) (hd : 0 ≤ d ∧ d ≤ 2) : NN mu d s (oneV s) := by
  have hc := cof_bd hd
  refine ⟨fun i j k => ?_, fun i j k hn => ?_⟩
  · unfold oneV oneK
    split
    · exact NB_11 hM
    · exact NB_zr hM
  · unfold oneV oneK
    rw [if_neg (by omega)]
def pwG (mu d s : Int) (V : VV) : Nat → VV → EX VV
  | 0, U => .ok U
  | n + 1, U => match mulV mu d s U V with
    | .error e => .error e
    | .ok W => pwG mu d s V n W
def powS (mu d s n : Int) (V : VV) : EX VV := pwG mu d s V n.toNat (oneV s)
theorem pwG_NN {mu d s : Int} {V : VV} (hM : MU mu) (hd : 0 ≤ d ∧ d ≤ 2) (nV : NV mu d s V) : ∀ (n : Nat) (U W : VV), NN mu d s U → pwG mu d s V n U = .ok W → NN mu d s W := by
  intro n
  induction n with
  | zero => intro U W nU h; cases h; exact nU
  | succ n ih =>
    intro U W nU h
    unfold pwG at h
    split at h
    case h_1 => cases h
    case h_2 X hX => exact ih X W (mulV_NN hM hd nU.nv nV hX) h
theorem pwG_err {mu d s e : Int} {V : VV} : ∀ (n : Nat) (U : VV), pwG mu d s V n U = .error e → e = 1 ∨ e = 4 := by
  intro n
  induction n with
  | zero => intro U h; cases h
  | succ n ih =>
    intro U h
    unfold pwG at h
    split at h
    case h_1 he => cases h; exact mulV_err he
    case h_2 X hX => exact ih X h
section POW
variable {Q : Int → MM → Prop} {r b base mu d s x y n : Int} {V W : VV}
/-- what a step of the machine may change: its result's place, and what lies behind the stack -/
def SKc (x : Int) (q : Int) : Prop := x ≤ q ∧ q < x + 882 ∨ 1155420 ≤ q
theorem SM_K {to q : Int} (hd : 0 ≤ d ∧ d ≤ 2) (hs : 0 ≤ s ∧ s ≤ 3) (h : SM to d s q) (ht : 1155420 ≤ to) : 1155420 ≤ q := by
  have := VS_bd hd hs
  unfold SM SE SP at h
  omega
theorem c_X6_power {m : MM} (hR : RG r b d s) (hn : 0 ≤ n ∧ n ≤ 12) (hmu : muC m b = mu) (hM : MU mu) (he : m 378 2 = 0) (ht : 1 ≤ m 376 8 ∧ m 376 8 ≤ 1700) (hx : m 381 (m 376 8 - 1) = x) (bx : 0 ≤ x ∧ x + 882 ≤ 1155420) (vx : VC (m 379) x d s V) (nV : NN mu d s V) (h : OutV (SKc x) m (powS mu d s n V) x d s Q) : P_X6_power r n m Q := by
  obtain ⟨-, hb, hd, hs⟩ := id hR
  have vb := VS_bd hd hs
  have v2 : VS d s = 2 * (enn s * cof d) := VS_eq2
  unfold P_X6_power
  rw [hx]
  refine ⟨by omega, c_X8_unit hR (by omega) (fun m1 f1 e1 r1 => ?_)⟩
  have f1' : Fc (SKc x) m m1 := f1.mono (fun q z => by unfold SKc; omega)
  have L : ∀ (c : Nat) (k : Int) (U : VV) (m' : MM), 0 ≤ k → k + c = n → Fc (fun q => 1155420 ≤ q) m m' → m' 378 2 = 0 → VC (m' 379) 1156302 d s U → NN mu d s U → pwG mu d s V c U = powS mu d s n V → P_X6_power_25 Q (c + 1) r n x k m' := by
    intro c
    induction c with
    | zero =>
      intro k U m' k0 k1 f e v nU hs'
      refine ⟨by constructor <;> omega, by constructor <;> omega, ?_⟩
      rw [if_pos (by omega)]
      refine c_number hR (c_X8_copy (by omega) (by omega) (by omega) (fun m2 f2 e2 cp => ?_))
      exact h.1 U m2 hs'.symm ((f.mono (fun q z => Or.inr z)).trans (f2.mono (fun q z => by omega))) (by rw [e2, e]) (v.cpy hd hs cp)
    | succ c ih =>
      intro k U m' k0 k1 f e v nU hs'
      refine ⟨by constructor <;> omega, by constructor <;> omega, ?_⟩
      rw [if_neg (by omega)]
      refine ⟨by rw [e]; decide, ?_⟩
      rw [if_pos e]
      unfold pwG at hs'
      have vx' : VC (m' 379) x d s V := vx.fr hd hs f (fun q q0 q1 z => by omega)
      refine c_X8_multiply hR (by rw [f.mu, hmu]) hM e (by omega) (by omega) (by omega) (by omega) (by omega) (by omega) (by omega) (by omega) v vx' nU.nv nV.nv ⟨fun X m2 h2 f2 e2 v2' => ?_, fun z m2 h2 f2 e2 => ?_⟩
      · rw [h2] at hs'
        have f2' : Fc (fun q => 1155420 ≤ q) m m2 := f.trans (f2.mono (fun q z => SM_K hd hs z (by decide)))
        refine ⟨by rw [e2]; decide, ?_⟩
        rw [if_pos e2]
        refine c_number hR (c_X8_copy (by omega) (by omega) (by omega) (fun m3 f3 e3 cp => ?_))
        exact ih (k + 1) X m3 (by omega) (by omega) (f2'.trans (f3.mono (fun q z => by omega))) (by rw [e3, e2]) (v2'.cpy hd hs cp) (mulV_NN hM hd nU.nv nV.nv h2) hs'
      · rw [h2] at hs'
        have := mulV_err h2
        have f2' : Fc (fun q => 1155420 ≤ q) m m2 := f.trans (f2.mono (fun q z => SM_K hd hs z (by decide)))
        refine ⟨by rw [e2]; constructor <;> omega, ?_⟩
        rw [if_neg (by rw [e2]; omega)]
        have q86 : P_X6_power_86 Q r x m2 := by
          refine c_number hR (c_X8_copy (by omega) (by omega) (by omega) (fun m3 f3 e3 cp => ?_))
          exact h.2 z m3 hs'.symm ((f2'.mono (fun q z => Or.inr z)).trans (f3.mono (fun q z => by omega))) (by rw [e3, e2])
        refine ⟨by constructor <;> omega, by constructor <;> omega, ?_⟩
        by_cases cc : n ≤ k + 1
        · rw [if_pos cc]; exact q86
        · rw [if_neg cc]
          refine ⟨by rw [e2]; constructor <;> omega, ?_⟩
          rw [if_neg (by rw [e2]; omega)]
          exact q86
  exact ⟨_, L n.toNat 0 (oneV s) m1 (by decide) (by omega) (f1.mono (fun q z => by omega)) (by rw [e1, he]) r1 (oneV_NN hM hd) rfl⟩
/-- what a step of the model may change: its result's place, and what lies behind the pile -/
def SQ (x : Int) (q : Int) : Prop := x ≤ q ∧ q < x + 882 ∨ 1590000 ≤ q
theorem SW_Q {q : Int} (h : SW q ∨ SX x q) : SQ x q := by
  unfold SW SX at h
  unfold SQ
  omega
theorem c_X10_evalPower {m : MM} {nd : Int} (hnd : 0 ≤ nd ∧ nd < 12000) (hd : 0 ≤ d ∧ d ≤ 2) (hs : 0 ≤ s ∧ s ≤ 3) (hn : 0 ≤ n ∧ n ≤ 12) (n1 : m 598 nd = base) (n2 : m 599 nd = d) (n3 : m 600 nd = s) (n4 : m 605 nd = n) (hB : BM m base mu) (he : m 582 84 = 0) (bx : 0 ≤ x ∧ x + 882 ≤ 1590000) (vx : VM (m 635) x V) (nV : NN mu d s V) (h : OutW (SQ x) m (powS mu d s n V) x Q) : P_X10_evalPower nd x m Q := by
  have hM : MU mu := hB.2.2.2.1
  refine c_copy (n := 882) (by omega) (by decide) (Or.inr (by omega)) (fun m1 f1 e1 cp => ?_)
  have f1' : Fm (SQ x) m m1 := f1.mono (fun q z => by have z1 : 1593000 ≤ q ∧ q < 1593000 + 882 := z; unfold SQ; omega)
  have v1 : VM (m1 635) 1593000 V := vx.cpy cp
  refine ⟨hnd, ?_⟩
  rw [f1.oth (c := 600) (i := nd) (by decide) (by decide), n3]
  refine c_X10_setOne hs (by omega) (fun m2 f2 e2 v2 => ?_)
  have f2' : Fm (SQ x) m m2 := f1'.trans (f2.mono (fun q z => by unfold SX at z; unfold SQ; omega))
  have v3 : VM (m2 635) 1593000 V := v1.fm f2 (fun q q0 q1 z => by unfold SX at z; omega)
  have L : ∀ (c : Nat) (k : Int) (U : VV) (m' : MM), 0 ≤ k → k + c = n → Fm (SQ x) m m' → m' 582 84 = 0 → VM (m' 635) 1593000 V → VM (m' 635) x U → NN mu d s U → pwG mu d s V c U = powS mu d s n V → P_X10_evalPower_24 Q (c + 1) nd x k m' := by
    intro c
    induction c with
    | zero =>
      intro k U m' k0 k1 f e vt v nU hs'
      refine ⟨hnd, by constructor <;> omega, ?_⟩
      rw [f.oth (c := 605) (i := nd) (by decide) (by decide), n4]
      refine ⟨by constructor <;> omega, ?_⟩
      rw [if_pos (by omega)]
      exact h.1 U m' hs'.symm f e v
    | succ c ih =>
      intro k U m' k0 k1 f e vt v nU hs'
      refine ⟨hnd, by constructor <;> omega, ?_⟩
      rw [f.oth (c := 605) (i := nd) (by decide) (by decide), n4, f.oth (c := 598) (i := nd) (by decide) (by decide), n1, f.oth (c := 599) (i := nd) (by decide) (by decide), n2, f.oth (c := 600) (i := nd) (by decide) (by decide), n3]
      refine ⟨by constructor <;> omega, ?_⟩
      rw [if_neg (by omega)]
      refine ⟨by rw [e]; decide, ?_⟩
      rw [if_pos e]
      unfold pwG at hs'
      refine c_X10_multiplyValues hd hs (f.bm hB) e (by omega) (by decide) (by omega) (by omega) (by decide) (by omega) v vt nU nV ⟨fun X m3 h3 f3 e3 v3' => ?_, fun z m3 h3 f3 e3 => ?_⟩
      · rw [h3] at hs'
        exact ih (k + 1) X m3 (by omega) (by omega) (f.trans (f3.mono (fun q z => SW_Q z))) e3 (vt.fm f3 (fun q q0 q1 z => by unfold SW SX at z; omega)) v3' (mulV_NN hM hd nU.nv nV.nv h3) hs'
      · rw [h3] at hs'
        have := mulV_err h3
        have f3' := f.trans (f3.mono (fun q z => SW_Q (x := x) z))
        have q0 := h.2 z m3 hs'.symm f3' e3
        refine ⟨hnd, by constructor <;> omega, ?_⟩
        rw [f3'.oth (c := 605) (i := nd) (by decide) (by decide), n4]
        refine ⟨by constructor <;> omega, ?_⟩
        by_cases cc : n ≤ k + 1
        · rw [if_pos cc]; exact q0
        · rw [if_neg cc]
          refine ⟨by rw [e3]; constructor <;> omega, ?_⟩
          rw [if_neg (by rw [e3]; omega)]
          exact q0
  exact ⟨_, L n.toNat 0 (oneV s) m2 (by decide) (by omega) f2' (by rw [e2, e1, he]) v3 v2 (oneV_NN hM hd) rfl⟩
end POW
