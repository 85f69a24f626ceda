set_option maxRecDepth 100000
/-! the component: functions that are told -/
def okF (f : FnR) : Prop := (1 ≤ f.2.1 ∧ f.2.1 ≤ 3) ∧ (0 ≤ f.2.2.1 ∧ f.2.2.1 ≤ 3) ∧ RL f.1 ∧ (∀ k, 0 ≤ k → k ≤ f.2.1 → ok3 (f.2.2.2.2.2.1 k) ∧ (f.2.2.2.2.1 k = 0 ∨ f.2.2.2.2.1 k = 1) ∧ (f.2.2.2.2.1 k ≠ 0 → (f.2.2.2.2.2.1 k).1 = 0) ∧ (f.2.2.1 = 0 → f.2.2.2.2.1 k = 0)) ∧ ∀ k, 1 ≤ k → k ≤ f.2.1 → RL (f.2.2.2.1 k)
def TXh (m : MM) (b : Int) (f : FnR) : Prop := m b 16 = f.1 ∧ m b 5 = f.2.1 ∧ m b 22 = f.2.2.1 ∧ (∀ k, 0 ≤ k → k ≤ f.2.1 → m (b + 13) k = f.2.2.2.2.1 k ∧ m (b + 14) k = encC (f.2.2.2.2.2.1 k) ∧ (f.2.2.2.2.1 k ≠ 0 → m (b + 15) k = (f.2.2.2.2.2.1 k).2.1 ∧ m (b + 16) k = (f.2.2.2.2.2.1 k).2.2)) ∧ ∀ k, 1 ≤ k → k ≤ f.2.1 → m (b + 10) (k - 1) = f.2.2.2.1 k
theorem instS_ok {f : FnR} {k : Int} {R : Option R3} {z : R3} (hf : okF f) (hk : 0 ≤ k ∧ k ≤ f.2.1) (hR : ∀ x, R = some x → ok3 x ∧ x.1 ≠ -2) (h : instS f k R = some z) : ok3 z := by
  have h4 := hf.2.2.2.1 k hk.1 hk.2
  unfold instS at h
  split at h
  · cases h; exact h4.1
  case isFalse c0 =>
    rcases R with - | r
    · cases h
    · simp only at h
      have hr := (hR r rfl).1
      have t0 := h4.2.2.1 c0
      have o := h4.1
      split at h
      · cases h
      · cases h
        unfold ok3 at hr o ⊢
        have hr2 := (hR r rfl).2
        simp only
        split <;> omega
section BOOK
variable {Q : Int → MM → Prop} {b : Int} {f : FnR}
theorem c_ringC {m : MM} {k : Int} {R : Option R3} (hb : isTx b) (hf : okF f) (hx : TXh m b f) (hk : 0 ≤ k ∧ k ≤ f.2.1) (hR : ∀ x, R = some x → ok3 x ∧ x.1 ≠ -2) (hn : R = none → f.2.2.1 = 0) (h : Q (encO (instS f k R)) m) : P_X1_ring b k (encO R) m Q := by
  have np := hf.1
  have h4 := hf.2.2.2.1 k hk.1 hk.2
  obtain ⟨x1, x2, x3⟩ := hx.2.2.2.1 k hk.1 hk.2
  have o := h4.1
  have t2 : (0 ≤ (f.2.2.2.2.2.1 k).2.1 ∧ (f.2.2.2.2.2.1 k).2.1 ≤ 2) ∧ (0 ≤ (f.2.2.2.2.2.1 k).2.2 ∧ (f.2.2.2.2.2.1 k).2.2 ≤ 3) := by unfold ok3 at o; omega
  unfold P_X1_ring
  rw [x1]
  refine ⟨hb, by omega, by have := h4.2.1; constructor <;> omega, ?_⟩
  unfold instS at h
  by_cases c0 : f.2.2.2.2.1 k = 0
  · rw [if_pos c0] at h ⊢
    rw [x2]
    exact h
  rw [if_neg c0] at h ⊢
  obtain ⟨x4, x5⟩ := x3 c0
  rcases R with - | r
  · exact absurd (h4.2.2.2 (hn rfl)) c0
  have hr := hR r rfl
  have gr := encC_RG hr.1 hr.2
  have rb : okb r.1 ∧ (0 ≤ r.2.1 ∧ r.2.1 ≤ 2) ∧ (0 ≤ r.2.2 ∧ r.2.2 ≤ 3) := by
    rcases hr.1 with q | q
    · exact absurd q.1 hr.2
    · exact q
  simp only at h
  rw [show encO (some r) = encC r from rfl, x4, x5]
  refine ⟨⟨by constructor <;> omega, by split; constructor <;> omega; trivial⟩, by split; split <;> decide; decide, ?_⟩
  have fin : ∀ (x3' : Int), (x3' = 0 ↔ ¬ ((f.2.2.2.2.2.1 k).2.1 = 0 ∧ (f.2.2.2.2.2.1 k).2.2 = 0)) → RI x3' → (¬ ((f.2.2.2.2.2.1 k).2.1 = 0 ∧ (f.2.2.2.2.2.1 k).2.2 = 0) → r.2.2 = 0) → P_X1_ring_51 Q b k (encC r) x3' m := by
    intro x3' e ri hs
    refine c_depth gr ⟨hb, by omega, ?_⟩
    rw [x4]
    refine ⟨by constructor <;> omega, ?_⟩
    by_cases c1 : r.2.1 + (f.2.2.2.2.2.1 k).2.1 ≤ 2
    · rw [if_pos c1]
      rw [if_neg (by omega)] at h
      refine c_base gr (c_depth gr ⟨ri, ?_⟩)
      rw [x4, x5]
      by_cases c2 : (f.2.2.2.2.2.1 k).2.1 = 0 ∧ (f.2.2.2.2.2.1 k).2.2 = 0
      · rw [if_neg (fun q => e.1 q c2)]
        rw [if_pos c2] at h
        exact c_size gr (of_enc (x := (r.1, r.2.1 + (f.2.2.2.2.2.1 k).2.1, r.2.2)) (by unfold ok3; simp only; omega) hr.2 h)
      · rw [if_pos (e.2 c2)]
        rw [if_neg c2] at h
        exact of_enc (x := (r.1, r.2.1 + (f.2.2.2.2.2.1 k).2.1, (f.2.2.2.2.2.1 k).2.2)) (by unfold ok3; simp only; omega) hr.2 h
    · rw [if_neg c1]
      rw [if_pos (by omega)] at h
      exact h
  by_cases c2 : (f.2.2.2.2.2.1 k).2.1 = 0 ∧ (f.2.2.2.2.2.1 k).2.2 = 0
  · simp only [if_pos c2.1, if_pos c2.2]
    rw [if_neg (by decide)]
    exact fin 1 ⟨fun q => absurd q (by decide), fun q => absurd c2 q⟩ (by decide) (fun q => absurd c2 q)
  · have e : (if (f.2.2.2.2.2.1 k).2.1 = 0 then (if (f.2.2.2.2.2.1 k).2.2 = 0 then (1 : Int) else 0) else 0) = 0 := by
      split
      · rw [if_neg (by omega)]
      · rfl
    rw [e, if_pos rfl]
    refine c_size gr ⟨by constructor <;> omega, ?_⟩
    by_cases c3 : r.2.2 = 0
    · rw [if_pos c3]
      exact fin 0 ⟨fun _ => c2, fun _ => rfl⟩ (by decide) (fun _ => c3)
    · rw [if_neg c3]
      rw [if_pos (by omega)] at h
      exact h
theorem encO_ri {o : Option R3} (h : ∀ x, o = some x → ok3 x) : RI (encO o) := by
  rcases o with - | x
  · decide
  · exact (encC_bd (h x rfl)).1
theorem encO_1 {o : Option R3} (h : ∀ x, o = some x → ok3 x) : encO o = -1 ↔ o = none := by
  rcases o with - | x
  · exact ⟨fun _ => rfl, fun _ => rfl⟩
  · refine ⟨fun q => ?_, fun q => by cases q⟩
    exfalso
    have e := encC_bd (h x rfl)
    have q1 : encC x = -1 := q
    by_cases c : x.1 = -2
    · have := e.2.1 c; omega
    · have := e.2.2 c; omega
noncomputable def canN (f : FnR) (r : R3) : Int := @ite _ (canS f r) (Classical.propDecidable _) 1 0
theorem canN_1 {r : R3} (h : canS f r) : canN f r = 1 := if_pos h
theorem canN_0 {r : R3} (h : ¬ canS f r) : canN f r = 0 := if_neg h
theorem c_canC {m : MM} {r : R3} (hb : isTx b) (hf : okF f) (hx : TXh m b f) (hr : ok3 r) (h : Q (canN f r) m) : P_X1_can b (encC r) m Q := by
  have np := hf.1
  have er := encC_bd hr
  have e22 := hx.2.2.1
  have ru := hf.2.1
  refine ⟨er.1, ?_⟩
  by_cases rB : r.1 = -2
  · rw [if_pos (by rw [er.2.1 rB]; decide)]
    rw [canN_0 (fun q => q.1 rB)] at h
    exact h
  rw [if_neg (by have := er.2.2 rB; omega), e22]
  have gr := encC_RG hr rB
  obtain ⟨r1, rb, rd, rs⟩ := id gr
  have okr : okb r.1 := by rcases hr with q | q; exact absurd q.1 rB; exact q.1
  have hR : ∀ x, some r = some x → ok3 x ∧ x.1 ≠ -2 := fun x q => by cases q; exact ⟨hr, rB⟩
  refine ⟨hb, by constructor <;> omega, ?_⟩
  -- the loop
  have L : ¬ (f.2.2.1 = 2 ∧ r.2.2 ≠ 0) → ¬ (f.2.2.1 = 3 ∧ (r.2.1 ≠ 0 ∨ r.2.2 ≠ 0 ∨ ¬ isFb r.1)) → ∃ nn, P_X1_can_58 Q nn b (encC r) 0 m := by
    intro g1 g2
    have L1 : ∀ (n : Nat) (k : Int), 0 ≤ k → k + n = f.2.1 + 1 → (∀ j, 0 ≤ j → j < k → instS f j (some r) ≠ none) → P_X1_can_58 Q (n + 1) b (encC r) k m := by
      intro n
      induction n with
      | zero =>
        intro k k0 k1 hj
        unfold P_X1_can_58
        rw [hx.2.1]
        refine ⟨hb, by constructor <;> omega, by constructor <;> omega, ?_⟩
        rw [if_pos (by omega)]
        rw [canN_1 ⟨rB, g1, g2, fun j j0 j1 => hj j j0 (by omega)⟩] at h
        exact h
      | succ n ih =>
        intro k k0 k1 hj
        unfold P_X1_can_58
        rw [hx.2.1]
        refine ⟨hb, by constructor <;> omega, by constructor <;> omega, ?_⟩
        rw [if_neg (by omega)]
        have ok := fun z hz => instS_ok (z := z) hf ⟨k0, by omega⟩ hR hz
        refine c_ringC (R := some r) hb hf hx ⟨k0, by omega⟩ hR (fun q => by cases q) ⟨encO_ri ok, ?_⟩
        by_cases c : instS f k (some r) = none
        · rw [if_pos ((encO_1 ok).2 c)]
          rw [canN_0 (fun q => q.2.2.2 k k0 (by omega) c)] at h
          exact h
        · rw [if_neg (fun q => c ((encO_1 ok).1 q))]
          refine ih (k + 1) (by omega) (by omega) (fun j j0 j1 => ?_)
          by_cases e : j = k
          · rw [e]; exact c
          · exact hj j j0 (by omega)
    exact ⟨_, L1 (f.2.1 + 1).toNat 0 (by decide) (by omega) (fun j j0 j1 => by omega)⟩
  have l36 : ¬ (f.2.2.1 = 2 ∧ r.2.2 ≠ 0) → ¬ (f.2.2.1 = 3 ∧ (r.2.1 ≠ 0 ∨ r.2.2 ≠ 0)) → P_X1_can_36 Q b (encC r) m := by
    intro g1 g2
    unfold P_X1_can_36
    rw [e22]
    refine ⟨hb, by constructor <;> omega, ?_⟩
    by_cases c3 : f.2.2.1 = 3
    · rw [if_pos c3]
      refine c_base gr (c_isFieldC (Or.inl okr) ?_)
      by_cases cf : isFb r.1
      · rw [fbN_1 cf]
        refine ⟨by decide, ?_⟩
        rw [if_neg (by decide)]
        exact L g1 (fun q => by rcases q.2 with w | w | w; exact g2 ⟨c3, Or.inl w⟩; exact g2 ⟨c3, Or.inr w⟩; exact w cf)
      · rw [fbN_0 cf]
        refine ⟨by decide, ?_⟩
        rw [if_pos rfl]
        rw [canN_0 (fun q => q.2.2.1 ⟨c3, Or.inr (Or.inr cf)⟩)] at h
        exact h
    · rw [if_neg c3]
      exact L g1 (fun q => c3 q.1)
  have l21 : ¬ (f.2.2.1 = 2 ∧ r.2.2 ≠ 0) → P_X1_can_21 Q b (encC r) m := by
    intro g1
    unfold P_X1_can_21
    rw [e22]
    refine ⟨hb, by constructor <;> omega, ?_⟩
    by_cases c3 : f.2.2.1 = 3
    · rw [if_pos c3, iAnd15]
      refine ⟨by constructor <;> omega, ?_⟩
      by_cases c : encC r % 16 = 0
      · rw [if_pos c]
        exact l36 g1 (fun q => by have := q.2; omega)
      · rw [if_neg c]
        rw [canN_0 (fun q => q.2.2.1 ⟨c3, by by_cases w : r.2.1 = 0; right; left; omega; exact Or.inl w⟩)] at h
        exact h
    · rw [if_neg c3]
      exact l36 g1 (fun q => c3 q.1)
  by_cases c2 : f.2.2.1 = 2
  · rw [if_pos c2]
    refine c_size gr ⟨by constructor <;> omega, ?_⟩
    by_cases s0 : r.2.2 = 0
    · rw [if_pos s0]; exact l21 (fun q => q.2 s0)
    · rw [if_neg s0]
      rw [canN_0 (fun q => q.2.1 ⟨c2, s0⟩)] at h
      exact h
  · rw [if_neg c2]
    exact l21 (fun q => c2 q.1)
end BOOK
