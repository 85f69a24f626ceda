set_option maxRecDepth 100000
/-! rows of numbers: the specification -/
def setP (w : Int → PP) (i : Int) (p : PP) : Int → PP := fun j => if j = i then p else w j
def zr : Int → PP := fun _ => (0, 1)
def seqE (f : Int → EX PP) : Nat → Int → (Int → PP) → EX (Int → PP)
  | 0, _, w => .ok w
  | n + 1, i, w => match f i with
    | .ok p => seqE f n (i + 1) (setP w i p)
    | .error e => .error e
theorem seqE_ok {f : Int → EX PP} : ∀ (n : Nat) (i : Int) (w w' : Int → PP), seqE f n i w = .ok w' → (∀ j, i ≤ j → j < i + n → f j = .ok (w' j)) ∧ (∀ j, ¬ (i ≤ j ∧ j < i + n) → w' j = w j) := by
  intro n
  induction n with
  | zero =>
    intro i w w' h
    cases h
    exact ⟨fun j h1 h2 => by omega, fun j _ => rfl⟩
  | succ n ih =>
    intro i w w' h
    unfold seqE at h
    split at h
    case h_1 p hp =>
      obtain ⟨h1, h2⟩ := ih _ _ _ h
      refine ⟨fun j j1 j2 => ?_, fun j hj => ?_⟩
      · by_cases c : j = i
        · subst c
          rw [h2 j (by omega)]
          simp only [setP, if_true]
          exact hp
        · exact h1 j (by omega) (by omega)
      · rw [h2 j (by omega)]
        unfold setP
        rw [if_neg (by omega)]
    case h_2 => cases h
theorem seqE_err {f : Int → EX PP} : ∀ (n : Nat) (i : Int) (w : Int → PP) (e : Int), seqE f n i w = .error e → ∃ j, i ≤ j ∧ j < i + n ∧ f j = .error e := by
  intro n
  induction n with
  | zero => intro i w e h; cases h
  | succ n ih =>
    intro i w e h
    unfold seqE at h
    split at h
    case h_1 p hp =>
      obtain ⟨j, h1, h2, h3⟩ := ih _ _ _ h
      exact ⟨j, by omega, by omega, h3⟩
    case h_2 e' he =>
      cases h
      exact ⟨i, by omega, by omega, he⟩
theorem nmS_err {mu a b e : Int} (h : nmS mu a b = .error e) : e = 1 := by
  unfold nmS at h
  split at h
  · cases h
  · cases h; rfl
theorem addS_err {mu ls e : Int} {p q : PP} (h : addS mu ls p q = .error e) : e = 1 := by
  unfold addS at h
  split at h <;> exact nmS_err h
theorem mulS_err {mu e : Int} {p q : PP} (h : mulS mu p q = .error e) : e = 1 := by
  unfold mulS at h
  split at h <;> exact nmS_err h
def NBs (mu : Int) (u : Int → PP) (n : Int) : Prop := ∀ k, 0 ≤ k → k < n → NB mu (u k)
theorem NBs.le {mu : Int} {u : Int → PP} {n k : Int} (h : NBs mu u n) (hk : k ≤ n) : NBs mu u k := fun j h1 h2 => h j h1 (by omega)
theorem NB_zr {mu : Int} (h : MU mu) : NB mu (0, 1) := ⟨by decide, by decide, fun _ => rfl, fun _ => by decide, fun k => ⟨by decide, by show (0 : Int) < mu; omega⟩⟩
def addR (mu ls : Int) (n : Nat) (u v : Int → PP) : EX (Int → PP) := seqE (fun k => addS mu ls (u k) (v k)) n 0 zr
theorem addR_ok {mu ls : Int} {n : Nat} {u v w : Int → PP} (h : addR mu ls n u v = .ok w) : (∀ j : Int, 0 ≤ j → j < n → addS mu ls (u j) (v j) = .ok (w j)) ∧ ∀ j : Int, ¬ (0 ≤ j ∧ j < (n : Int)) → w j = (0, 1) := by
  obtain ⟨h1, h2⟩ := seqE_ok _ _ _ _ h
  exact ⟨fun j a b => h1 j a (by omega), fun j a => h2 j (by omega)⟩
theorem addR_err {mu ls e : Int} {n : Nat} {u v : Int → PP} (h : addR mu ls n u v = .error e) : e = 1 := by
  obtain ⟨j, _, _, h3⟩ := seqE_err _ _ _ _ h
  exact addS_err h3
theorem addR_NB {mu ls : Int} {n : Nat} {u v w : Int → PP} (hM : MU mu) (hu : NBs mu u n) (hv : NBs mu v n) (h : addR mu ls n u v = .ok w) : ∀ k, NB mu (w k) := by
  obtain ⟨h1, h2⟩ := addR_ok h
  intro k
  by_cases c : 0 ≤ k ∧ k < (n : Int)
  · exact NB.add hM (hu k c.1 c.2) (hv k c.1 c.2) (h1 k c.1 c.2)
  · rw [h2 k c]; exact NB_zr hM
def dotG (mu : Int) (u v : Int → PP) (k : Int) : Nat → Int → PP → EX PP
  | 0, _, a => .ok a
  | n + 1, i, a => match mulS mu (u i) (v (k - i)) with
    | .error e => .error e
    | .ok t => match addS mu 0 a t with
      | .error e => .error e
      | .ok s => dotG mu u v k n (i + 1) s
def dotS (mu : Int) (u v : Int → PP) (k : Int) : EX PP := match mulS mu (u (max 0 (k - 6))) (v (k - max 0 (k - 6))) with
  | .error e => .error e
  | .ok t => dotG mu u v k (min k 6 - max 0 (k - 6)).toNat (max 0 (k - 6) + 1) t
def polyG (mu : Int) (u v : Int → PP) : Nat → Int → (Int → PP) → EX (Int → PP)
  | 0, _, w => .ok w
  | n + 1, k, w => match dotS mu u v k with
    | .error e => .error e
    | .ok d => if k < 7 then polyG mu u v n (k + 1) (setP w k d) else if d.1 = 0 then polyG mu u v n (k + 1) w else .error 4
def polyS (mu : Int) (u v : Int → PP) : EX (Int → PP) := polyG mu u v 13 0 zr
theorem dotG_NB {mu : Int} {u v : Int → PP} {k : Int} (hM : MU mu) (hu : NBs mu u 7) (hv : NBs mu v 7) : ∀ (n : Nat) (i : Int) (a d : PP), 0 ≤ i → i + n ≤ 7 → i + n ≤ k + 1 → k - 6 ≤ i → NB mu a → dotG mu u v k n i a = .ok d → NB mu d := by
  intro n
  induction n with
  | zero => intro i a d _ _ _ _ ha h; cases h; exact ha
  | succ n ih =>
    intro i a d h0 h1 h2 h3 ha h
    unfold dotG at h
    split at h
    case h_1 => cases h
    case h_2 t ht =>
      split at h
      case h_1 => cases h
      case h_2 s hs =>
        refine ih (i + 1) s d (by omega) (by omega) (by omega) (by omega) ?_ h
        exact NB.add hM ha (NB.mul hM (hu i h0 (by omega)) (hv (k - i) (by omega) (by omega)) ht) hs
theorem dotS_NB {mu : Int} {u v : Int → PP} {k : Int} {d : PP} (hM : MU mu) (hu : NBs mu u 7) (hv : NBs mu v 7) (h0 : 0 ≤ k) (h1 : k ≤ 12) (h : dotS mu u v k = .ok d) : NB mu d := by
  unfold dotS at h
  split at h
  case h_1 => cases h
  case h_2 t ht =>
    exact dotG_NB hM hu hv _ _ t d (by omega) (by omega) (by omega) (by omega) (NB.mul hM (hu _ (by omega) (by omega)) (hv _ (by omega) (by omega)) ht) h
theorem polyG_NB {mu : Int} {u v : Int → PP} (hM : MU mu) (hu : NBs mu u 7) (hv : NBs mu v 7) : ∀ (n : Nat) (k : Int) (w w' : Int → PP), 0 ≤ k → k + n ≤ 13 → (∀ j, NB mu (w j)) → (∀ j, 7 ≤ j → w j = (0, 1)) → polyG mu u v n k w = .ok w' → (∀ j, NB mu (w' j)) ∧ (∀ j, 7 ≤ j → w' j = (0, 1)) := by
  intro n
  induction n with
  | zero => intro k w w' _ _ h1 h2 h; cases h; exact ⟨h1, h2⟩
  | succ n ih =>
    intro k w w' h0 h1 hw hz h
    unfold polyG at h
    split at h
    case h_1 => cases h
    case h_2 d hd =>
      have nd := dotS_NB hM hu hv h0 (by omega) hd
      split at h
      case isTrue c =>
        refine ih (k + 1) _ w' (by omega) (by omega) (fun j => ?_) (fun j hj => ?_) h
        · unfold setP; split
          · exact nd
          · exact hw j
        · unfold setP; rw [if_neg (by omega)]; exact hz j hj
      case isFalse c =>
        split at h
        case isTrue c2 => exact ih (k + 1) w w' (by omega) (by omega) hw hz h
        case isFalse c2 => cases h
theorem polyS_NB {mu : Int} {u v w : Int → PP} (hM : MU mu) (hu : NBs mu u 7) (hv : NBs mu v 7) (h : polyS mu u v = .ok w) : (∀ j, NB mu (w j)) ∧ (∀ j, 7 ≤ j → w j = (0, 1)) :=
  polyG_NB hM hu hv 13 0 zr w (by omega) (by omega) (fun _ => NB_zr hM) (fun _ _ => rfl) h
theorem dotG_err {mu : Int} {u v : Int → PP} {k e : Int} : ∀ (n : Nat) (i : Int) (a : PP), dotG mu u v k n i a = .error e → e = 1 := by
  intro n
  induction n with
  | zero => intro i a h; cases h
  | succ n ih =>
    intro i a h
    unfold dotG at h
    split at h
    case h_1 he => cases h; exact mulS_err he
    case h_2 t ht =>
      split at h
      case h_1 he => cases h; exact addS_err he
      case h_2 s hs => exact ih _ _ h
theorem dotS_err {mu : Int} {u v : Int → PP} {k e : Int} (h : dotS mu u v k = .error e) : e = 1 := by
  unfold dotS at h
  split at h
  case h_1 he => cases h; exact mulS_err he
  case h_2 t ht => exact dotG_err _ _ _ h
theorem polyG_err {mu : Int} {u v : Int → PP} {e : Int} : ∀ (n : Nat) (k : Int) (w : Int → PP), polyG mu u v n k w = .error e → e = 1 ∨ e = 4 := by
  intro n
  induction n with
  | zero => intro k w h; cases h
  | succ n ih =>
    intro k w h
    unfold polyG at h
    split at h
    case h_1 he => cases h; exact Or.inl (dotS_err he)
    case h_2 d hd =>
      split at h
      · exact ih _ _ h
      · split at h
        · exact ih _ _ h
        · cases h; exact Or.inr rfl
theorem polyS_err {mu : Int} {u v : Int → PP} {e : Int} (h : polyS mu u v = .error e) : e = 1 ∨ e = 4 := polyG_err _ _ _ h
/-! two unknowns: rows of seven -/
def rowP (u : Int → PP) (k : Int) : Int → PP := fun x => u (7 * k + x)
def setR (w : Int → PP) (k : Int) (r : Int → PP) : Int → PP := fun j => if 7 * k ≤ j ∧ j < 7 * k + 7 then r (j - 7 * k) else w j
def allZ (u : Int → PP) : Nat → Int → Bool
  | 0, _ => true
  | n + 1, i => if (u i).1 = 0 then allZ u n (i + 1) else false
theorem allZ_iff {u : Int → PP} : ∀ (n : Nat) (i : Int), allZ u n i = true ↔ ∀ j, i ≤ j → j < i + n → (u j).1 = 0 := by
  intro n
  induction n with
  | zero => intro i; exact ⟨fun _ j h1 h2 => by omega, fun _ => rfl⟩
  | succ n ih =>
    intro i
    unfold allZ
    by_cases c : (u i).1 = 0
    · rw [if_pos c, ih]
      exact ⟨fun h j h1 h2 => by by_cases e : j = i; · rw [e]; exact c
                                 · exact h j (by omega) (by omega), fun h j h1 h2 => h j (by omega) (by omega)⟩
    · rw [if_neg c]
      exact ⟨(by intro h; cases h), fun h => absurd (h i (by omega) (by omega)) c⟩
def dot2G (mu : Int) (u v : Int → PP) (k : Int) : Nat → Int → (Int → PP) → EX (Int → PP)
  | 0, _, a => .ok a
  | n + 1, i, a => match polyS mu (rowP u i) (rowP v (k - i)) with
    | .error e => .error e
    | .ok t => match addR mu 0 7 a t with
      | .error e => .error e
      | .ok s => dot2G mu u v k n (i + 1) s
def dot2S (mu : Int) (u v : Int → PP) (k : Int) : EX (Int → PP) := match polyS mu (rowP u (max 0 (k - 6))) (rowP v (k - max 0 (k - 6))) with
  | .error e => .error e
  | .ok t => dot2G mu u v k (min k 6 - max 0 (k - 6)).toNat (max 0 (k - 6) + 1) t
def poly2G (mu : Int) (u v : Int → PP) : Nat → Int → (Int → PP) → EX (Int → PP)
  | 0, _, w => .ok w
  | n + 1, k, w => match dot2S mu u v k with
    | .error e => .error e
    | .ok d => if k < 7 then poly2G mu u v n (k + 1) (setR w k d) else if allZ d 7 0 = true then poly2G mu u v n (k + 1) w else .error 4
def poly2S (mu : Int) (u v : Int → PP) : EX (Int → PP) := poly2G mu u v 13 0 zr
theorem rowP_NB {mu : Int} {u : Int → PP} {k : Int} (h : NBs mu u 49) (h0 : 0 ≤ k) (h1 : k < 7) : NBs mu (rowP u k) 7 := fun j a b => h (7 * k + j) (by omega) (by omega)
theorem dot2G_NB {mu : Int} {u v : Int → PP} {k : Int} (hM : MU mu) (hu : NBs mu u 49) (hv : NBs mu v 49) : ∀ (n : Nat) (i : Int) (a d : Int → PP), 0 ≤ i → i + n ≤ 7 → i + n ≤ k + 1 → k - 6 ≤ i → (∀ j, NB mu (a j)) → (∀ j, 7 ≤ j → a j = (0, 1)) → dot2G mu u v k n i a = .ok d → (∀ j, NB mu (d j)) ∧ ∀ j, 7 ≤ j → d j = (0, 1) := by
  intro n
  induction n with
  | zero => intro i a d _ _ _ _ ha hz h; cases h; exact ⟨ha, hz⟩
  | succ n ih =>
    intro i a d h0 h1 h2 h3 ha hz h
    unfold dot2G at h
    split at h
    case h_1 => cases h
    case h_2 t ht =>
      split at h
      case h_1 => cases h
      case h_2 s hs =>
        have nt := polyS_NB hM (rowP_NB hu h0 (by omega)) (rowP_NB hv (by omega) (by omega)) ht
        exact ih (i + 1) s d (by omega) (by omega) (by omega) (by omega) (addR_NB hM (fun j _ _ => ha j) (fun j _ _ => nt.1 j) hs) (fun j hj => (addR_ok hs).2 j (by omega)) h
theorem dot2S_NB {mu : Int} {u v : Int → PP} {k : Int} {d : Int → PP} (hM : MU mu) (hu : NBs mu u 49) (hv : NBs mu v 49) (h0 : 0 ≤ k) (h1 : k ≤ 12) (h : dot2S mu u v k = .ok d) : (∀ j, NB mu (d j)) ∧ ∀ j, 7 ≤ j → d j = (0, 1) := by
  unfold dot2S at h
  split at h
  case h_1 => cases h
  case h_2 t ht =>
    have nt := polyS_NB hM (rowP_NB hu (by omega) (by omega)) (rowP_NB hv (by omega) (by omega)) ht
    exact dot2G_NB hM hu hv _ _ t d (by omega) (by omega) (by omega) (by omega) nt.1 nt.2 h
theorem poly2G_NB {mu : Int} {u v : Int → PP} (hM : MU mu) (hu : NBs mu u 49) (hv : NBs mu v 49) : ∀ (n : Nat) (k : Int) (w w' : Int → PP), 0 ≤ k → k + n ≤ 13 → (∀ j, NB mu (w j)) → (∀ j, 49 ≤ j → w j = (0, 1)) → poly2G mu u v n k w = .ok w' → (∀ j, NB mu (w' j)) ∧ (∀ j, 49 ≤ j → w' j = (0, 1)) := by
  intro n
  induction n with
  | zero => intro k w w' _ _ h1 h2 h; cases h; exact ⟨h1, h2⟩
  | succ n ih =>
    intro k w w' h0 h1 hw hz h
    unfold poly2G at h
    split at h
    case h_1 => cases h
    case h_2 d hd =>
      have nd := dot2S_NB hM hu hv h0 (by omega) hd
      split at h
      case isTrue c =>
        refine ih (k + 1) _ w' (by omega) (by omega) (fun j => ?_) (fun j hj => ?_) h
        · unfold setR; split
          · exact nd.1 _
          · exact hw j
        · unfold setR; rw [if_neg (by omega)]; exact hz j hj
      case isFalse c =>
        split at h
        case isTrue c2 => exact ih (k + 1) w w' (by omega) (by omega) hw hz h
        case isFalse c2 => cases h
theorem dot2G_err {mu : Int} {u v : Int → PP} {k e : Int} : ∀ (n : Nat) (i : Int) (a : Int → PP), dot2G mu u v k n i a = .error e → e = 1 ∨ e = 4 := by
  intro n
  induction n with
  | zero => intro i a h; cases h
  | succ n ih =>
    intro i a h
    unfold dot2G at h
    split at h
    case h_1 he => cases h; exact polyS_err he
    case h_2 t ht =>
      split at h
      case h_1 he => cases h; exact Or.inl (addR_err he)
      case h_2 s hs => exact ih _ _ h
theorem dot2S_err {mu : Int} {u v : Int → PP} {k e : Int} (h : dot2S mu u v k = .error e) : e = 1 ∨ e = 4 := by
  unfold dot2S at h
  split at h
  case h_1 he => cases h; exact polyS_err he
  case h_2 t ht => exact dot2G_err _ _ _ h
theorem poly2G_err {mu : Int} {u v : Int → PP} {e : Int} : ∀ (n : Nat) (k : Int) (w : Int → PP), poly2G mu u v n k w = .error e → e = 1 ∨ e = 4 := by
  intro n
  induction n with
  | zero => intro k w h; cases h
  | succ n ih =>
    intro k w h
    unfold poly2G at h
    split at h
    case h_1 he => cases h; exact dot2S_err he
    case h_2 d hd =>
      split at h
      · exact ih _ _ h
      · split at h
        · exact ih _ _ h
        · cases h; exact Or.inr rfl
/-- how many numbers an entry of a depth has -/
def cof (d : Int) : Int := if d = 0 then 1 else if d = 1 then 7 else 49
theorem cof_cs {d : Int} (h : 0 ≤ d ∧ d ≤ 2) : (d = 0 ∧ cof d = 1) ∨ (d = 1 ∧ cof d = 7) ∨ (d = 2 ∧ cof d = 49) := by
  unfold cof
  by_cases a : d = 0
  · left; exact ⟨a, by rw [if_pos a]⟩
  · by_cases b : d = 1
    · right; left; exact ⟨b, by rw [if_neg a, if_pos b]⟩
    · right; right; exact ⟨by omega, by rw [if_neg a, if_neg b]⟩
def prodS (mu d : Int) (u v : Int → PP) : EX (Int → PP) :=
  if d = 0 then (match mulS mu (u 0) (v 0) with
    | .ok p => .ok (setP zr 0 p)
    | .error e => .error e) else if d = 1 then polyS mu u v else poly2S mu u v
theorem prodS_err {mu d e : Int} {u v : Int → PP} (h : prodS mu d u v = .error e) : e = 1 ∨ e = 4 := by
  unfold prodS at h
  split at h
  · split at h
    · cases h
    case h_2 he => cases h; exact Or.inl (mulS_err he)
  · split at h
    · exact polyS_err h
    · exact poly2G_err _ _ _ h
theorem prodS_NB {mu d : Int} {u v w : Int → PP} (hM : MU mu) (hd : 0 ≤ d ∧ d ≤ 2) (hu : NBs mu u (cof d)) (hv : NBs mu v (cof d)) (h : prodS mu d u v = .ok w) : (∀ j, NB mu (w j)) ∧ ∀ j, cof d ≤ j → w j = (0, 1) := by
  unfold prodS at h
  rcases cof_cs hd with ⟨e1, e2⟩ | ⟨e1, e2⟩ | ⟨e1, e2⟩
  · rw [if_pos e1] at h
    rw [e2] at hu hv ⊢
    split at h
    case h_1 p hp =>
      cases h
      have np := NB.mul hM (hu 0 (by omega) (by omega)) (hv 0 (by omega) (by omega)) hp
      refine ⟨fun j => ?_, fun j hj => ?_⟩
      · unfold setP; split
        · exact np
        · exact NB_zr hM
      · unfold setP; rw [if_neg (by omega)]; rfl
    case h_2 => cases h
  · rw [if_neg (by omega), if_pos e1] at h
    rw [e2] at hu hv ⊢
    exact polyS_NB hM hu hv h
  · rw [if_neg (by omega), if_neg (by omega)] at h
    rw [e2] at hu hv ⊢
    exact poly2G_NB hM hu hv 13 0 zr w (by omega) (by omega) (fun _ => NB_zr hM) (fun _ _ => rfl) h
