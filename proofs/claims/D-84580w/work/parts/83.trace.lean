set_option maxRecDepth 100000
/-! traces, transposes, coefficients, degrees -/
def trG (mu d : Int) (V : VV) : Nat → Int → (Int → PP) → EX (Int → PP)
  | 0, _, a => .ok a
  | n + 1, i, a => match addR mu 0 (cof d).toNat a (V i i) with
    | .error e => .error e
    | .ok w => trG mu d V n (i + 1) w
def trS (mu d s : Int) (V : VV) : EX (Int → PP) := trG mu d V s.toNat 0 zr
theorem trG_NR {mu d s : Int} {V : VV} (hM : MU mu) (hd : 0 ≤ d ∧ d ≤ 2) (nV : NN mu d s V) : ∀ (n : Nat) (i : Int) (a w : Int → PP), NR mu (cof d) a → trG mu d V n i a = .ok w → NR mu (cof d) w := by
  have hc := cof_bd hd
  intro n
  induction n with
  | zero => intro i a w na h; cases h; exact na
  | succ n ih =>
    intro i a w na h
    unfold trG at h
    split at h
    case h_1 => cases h
    case h_2 b hb => exact ih (i + 1) b w ⟨addR_NB hM (fun k _ _ => na.1 k) (fun k _ _ => nV.1 i i k) hb, fun k hk => (addR_ok hb).2 k (by omega)⟩ h
theorem trG_err {mu d e : Int} {V : VV} : ∀ (n : Nat) (i : Int) (a : Int → PP), trG mu d V n i a = .error e → e = 1 := by
  intro n
  induction n with
  | zero => intro i a h; cases h
  | succ n ih =>
    intro i a h
    unfold trG at h
    split at h
    case h_1 he => cases h; exact addR_err he
    case h_2 b hb => exact ih (i + 1) b h
def tpV (V : VV) : VV := fun i j => V j i
theorem tpV_NN {mu d s : Int} {V : VV} (h : NN mu d s V) : NN mu d s (tpV V) := ⟨fun i j k => h.1 j i k, fun i j k hn => h.2 j i k (by omega)⟩
/-- a coefficient of a polynomial -/
def coS (d i : Int) (u : Int → PP) : Int → PP := fun k => if 0 ≤ i ∧ i < 7 ∧ 0 ≤ k ∧ k < cof (d - 1) then u (cof (d - 1) * i + k) else (0, 1)
theorem coS_NR {mu d i : Int} {u : Int → PP} (hM : MU mu) (nu : NR mu (cof d) u) : NR mu (cof (d - 1)) (coS d i u) := by
  refine ⟨fun k => ?_, fun k hk => ?_⟩
  · unfold coS
    split
    · exact nu.1 _
    · exact NB_zr hM
  · unfold coS
    rw [if_neg (by omega)]
/-- the degree in the outermost unknown -/
def odG (c : Int) (u : Int → PP) : Nat → Int
  | 0 => -1
  | n + 1 => if allZ (fun k => u (c * (n : Int) + k)) c.toNat 0 = true then odG c u n else (n : Int)
theorem odG_bd {c : Int} {u : Int → PP} : ∀ n : Nat, -1 ≤ odG c u n ∧ odG c u n < (n : Int) := by
  intro n
  induction n with
  | zero => exact ⟨show (-1 : Int) ≤ -1 by decide, show (-1 : Int) < 0 by decide⟩
  | succ n ih => unfold odG; split <;> constructor <;> omega
theorem odG_1 {u : Int → PP} : ∀ n : Nat, odG 1 u n = degG u n := by
  intro n
  induction n with
  | zero => rfl
  | succ n ih =>
    unfold odG degG
    rw [ih]
    have : allZ (fun k => u (1 * (n : Int) + k)) (1 : Int).toNat 0 = true ↔ (u (n : Int)).1 = 0 := by
      rw [allZ_iff]
      constructor
      · intro z
        have : (u (1 * (n : Int) + 0)).1 = 0 := z 0 (by decide) (by decide)
        rw [show 1 * (n : Int) + 0 = (n : Int) by omega] at this
        exact this
      · intro z j j0 j1
        have j1' : j < 0 + 1 := j1
        have : j = 0 := by omega
        subst this
        show (u (1 * (n : Int) + 0)).1 = 0
        rw [show 1 * (n : Int) + 0 = (n : Int) by omega]
        exact z
    by_cases c : (u (n : Int)).1 = 0
    · rw [if_pos (this.2 c), if_pos c]
    · rw [if_neg (fun z => c (this.1 z)), if_neg c]
section TRC
variable {Q : Int → MM → Prop} {r b base mu d s x y : Int} {V : VV}
theorem c_X6_trace {m : MM} (hR : RG r b d s) (hs1 : 1 ≤ s) (hmu : muC m b = mu) (hM : MU mu) (he : m 378 2 = 0) (bx : 0 ≤ x ∧ x + 882 ≤ 1155420) (vx : VC (m 379) x d s V) (nV : NN mu d s V) (h : OutC (fun q => 1155420 ≤ q) m (trS mu d s V) 1155420 (cof d) Q) : P_X6_trace r x m Q := by
  obtain ⟨-, hb, hd, hs⟩ := id hR
  have hc := cof_bd hd
  have hcN : ((cof d).toNat : Int) = cof d := by omega
  have vb := VS_bd hd hs
  have rs : rws s = s := by unfold rws; omega
  refine c_coef hR ?_
  rw [← hcN]
  refine c_X8_clear (by decide) (by omega) (fun m1 f1 e1 r1 => ?_)
  rw [hcN] at f1 r1 ⊢
  have L : ∀ (n : Nat) (i : Int) (a : Int → PP) (m' : MM), 0 ≤ i → i + n = s → Fc (fun q => 1155420 ≤ q) m m' → m' 378 2 = 0 → Rw (m' 379) 1155420 a (cof d) → NR mu (cof d) a → trG mu d V n i a = trS mu d s V → P_X6_trace_18 Q (n + 1) r x (cof d) i m' := by
    intro n
    induction n with
    | zero =>
      intro i a m' i0 i1 f e ra na hs'
      refine c_size hR ⟨by constructor <;> omega, by constructor <;> omega, ?_⟩
      rw [if_pos (by omega)]
      exact h.1 a m' hs'.symm f e ra
    | succ n ih =>
      intro i a m' i0 i1 f e ra na hs'
      refine c_size hR ⟨by constructor <;> omega, by constructor <;> omega, ?_⟩
      rw [if_neg (by omega)]
      refine ⟨by rw [e]; decide, ?_⟩
      rw [if_pos e]
      unfold trG at hs'
      have bd := EA_bd (d := d) (s := s) (i := i) (j := i) hd hs (by omega) (by omega)
      have vE : Rw (m' 379) (x + EA d s i i) (V i i) (cof d) := (vx i i (by omega) (by omega)).fr f (fun q q0 q1 z => by omega)
      refine c_base hR (c_size hR ?_)
      rw [← hcN] at ra vE
      have key := c_X8_addAll (Q := fun _ m4 => P_X6_trace_18 Q (n + 1) r x (cof d) (i + 1) m4) (m := m') (base := b) (mu := mu) (x := 1155420) (y := x + EA d s i i) (to := 1155420) (ls := 0) (n := (cof d).toNat) (u := a) (v := V i i) (by constructor <;> omega) (by rw [f.mu, hmu]) hM (by decide) e (by omega) (by omega) (by omega) (Or.inl rfl) (Or.inr (by omega)) ra vE (fun k _ _ => na.1 k) (fun k _ _ => nV.1 i i k) ⟨fun w m2 h2 f2 e2 r2 => ?_, fun z m2 h2 f2 e2 => ?_⟩
      · rw [hcN] at key
        exact key
      · rw [hcN] at f2 r2
        rw [h2] at hs'
        exact ih (i + 1) w m2 (by omega) (by omega) (f.trans (f2.mono (fun q z => by omega))) e2 r2 ⟨addR_NB hM (fun k _ _ => na.1 k) (fun k _ _ => nV.1 i i k) h2, fun k hk => (addR_ok h2).2 k (by omega)⟩ hs'
      · rw [hcN] at f2
        rw [h2] at hs'
        have := addR_err h2
        have q1 := h.2 z m2 hs'.symm (f.trans (f2.mono (fun q z => by omega))) e2
        refine c_size hR ⟨by constructor <;> omega, by constructor <;> omega, ?_⟩
        by_cases cc : s ≤ i + 1
        · rw [if_pos cc]; exact q1
        · rw [if_neg cc]
          refine ⟨by rw [e2, this]; decide, ?_⟩
          rw [if_neg (by rw [e2, this]; decide)]
          exact q1
  exact ⟨_, L s.toNat 0 zr m1 (by decide) (by omega) (f1.mono (fun q z => by omega)) (by rw [e1, he]) r1 (NR_z hM _) rfl⟩
theorem c_X6_turned {m : MM} (hR : RG r b d s) (hs1 : 1 ≤ s) (bx : 0 ≤ x ∧ x + 882 ≤ 1155420) (vx : VC (m 379) x d s V) (h : ∀ m', Fc (fun q => 1155420 ≤ q) m m' → m' 378 2 = m 378 2 → VC (m' 379) 1155420 d s (tpV V) → Q 0 m') : P_X6_turned r x m Q := by
  obtain ⟨-, hb, hd, hs⟩ := id hR
  have hc := cof_bd hd
  have vb := VS_bd hd hs
  have ve : VS d s = 2 * cof d * enn s := rfl
  have rs : rws s = s := by unfold rws; omega
  have es : enn s = s * s := by unfold enn; rw [if_neg (by omega)]
  have ec := enn_cs hs
  refine c_coef hR (c_size hR ?_)
  -- where an entry goes
  have gx : ∀ k, 0 ≤ k → k < enn s → (0 ≤ s * (k % s) + k / s ∧ s * (k % s) + k / s < enn s) ∧ (s * (k % s) + k / s) / rws s = k % s ∧ (s * (k % s) + k / s) % rws s = k / s ∧ (∀ l, 0 ≤ l → l < enn s → s * (k % s) + k / s = s * (l % s) + l / s → k = l) := by
    intro k k0 k1
    rw [rs]
    rcases ec with ⟨a1, a2, a3⟩ | ⟨a1, a2, a3⟩ | ⟨a1, a2, a3⟩ | ⟨a1, a2, a3⟩
    · omega
    · rw [a2] at k1 ⊢; subst a1; exact ⟨by omega, by omega, by omega, fun l l0 l1 z => by omega⟩
    · rw [a2] at k1 ⊢; subst a1; exact ⟨by omega, by omega, by omega, fun l l0 l1 z => by omega⟩
    · rw [a2] at k1 ⊢; subst a1; exact ⟨by omega, by omega, by omega, fun l l0 l1 z => by omega⟩
  have L : ∀ (n : Nat) (k : Int) (m' : MM), 0 ≤ k → k + n = enn s → Fc (fun q => 1155420 ≤ q) m m' → m' 378 2 = m 378 2 → (∀ l, 0 ≤ l → l < k → Rw (m' 379) (1155420 + 2 * cof d * (s * (l % s) + l / s)) (V (l / s) (l % s)) (cof d)) → P_X6_turned_14 Q (n + 1) x (cof d) s k m' := by
    intro n
    induction n with
    | zero =>
      intro k m' k0 k1 f e rows
      refine ⟨by constructor <;> omega, by constructor <;> omega, ?_⟩
      rw [if_pos (by omega)]
      have : k = enn s := by omega
      subst this
      refine h m' f e (VC.ofb hs (fun l hl => ?_))
      -- it came from its turned place
      obtain ⟨g1, g2, g3, g4⟩ := gx l hl.1 hl.2
      obtain ⟨t1, t2, t3, t4⟩ := gx (s * (l % s) + l / s) g1.1 g1.2
      have back : s * ((s * (l % s) + l / s) % s) + (s * (l % s) + l / s) / s = l := by
        rw [rs] at g2 g3
        rw [g2, g3]
        rcases ec with ⟨a1, a2, a3⟩ | ⟨a1, a2, a3⟩ | ⟨a1, a2, a3⟩ | ⟨a1, a2, a3⟩
        · omega
        · subst a1; omega
        · subst a1; omega
        · subst a1; omega
      have := rows _ g1.1 g1.2
      rw [back] at this
      rw [rs] at g2 g3 ⊢
      rw [g2, g3] at this
      exact this
    | succ n ih =>
      intro k m' k0 k1 f e rows
      refine ⟨by constructor <;> omega, by constructor <;> omega, ?_⟩
      rw [if_neg (by omega)]
      refine ⟨by constructor <;> omega, by omega, ?_⟩
      rw [tmod_pos k0, tdiv_pos k0]
      obtain ⟨g1, g2, g3, g4⟩ := gx k k0 (by omega)
      have bd := blk_bd (c := cof d) (N := enn s) (by omega) (show 0 ≤ k ∧ k < enn s by omega)
      have bd2 := blk_bd (c := cof d) (N := enn s) (by omega) g1
      refine c_X8_copy (by omega) (by omega) (by omega) (fun m2 f2 e2 cp => ?_)
      refine ih (k + 1) m2 (by omega) (by omega) (f.trans (f2.mono (fun q z => by omega))) (by rw [e2, e]) (fun l l0 l1 => ?_)
      by_cases cl : l = k
      · subst cl
        have src := (vx.blk hs l ⟨k0, by omega⟩).fr f (fun z z0 z1 zz => by omega)
        rw [rs] at src
        exact src.cp cp
      · have ne : s * (l % s) + l / s ≠ s * (k % s) + k / s := fun z => cl (g4 l l0 (by omega) z.symm).symm
        have bn := blk_ne (c := cof d) (by omega) ne
        exact (rows l l0 (by omega)).fr f2 (fun z z0 z1 zz => by omega)
  exact ⟨_, L (enn s).toNat 0 m (by decide) (by omega) (Fc.refl m) rfl (fun l l0 l1 => by omega)⟩
end TRC
