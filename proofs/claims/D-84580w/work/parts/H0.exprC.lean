set_option maxRecDepth 100000
/-! the component's parser: contracts of expressions -/
/-- an expression that was read -/
def ExOk (tk : Int → TK) (N b k0 s : Int) (Q : Int → MM → Prop) (m : MM) (o : Int) (rs : List (List PT)) (q : Int) : Prop := ∀ k m', PC m' tk N b q o → Fnw b k0 m m' → TNs m' b (fstP rs) k0 (m' b 0) k → m' b 0 + s ≤ q → Q k m'
def ExC (tk : Int → TK) (N b : Int) (T : MM → Prop) (f md id : Nat) (l : Int) : Prop := ∀ (dep : Nat) (p o k0 s : Int) (m : MM) (Q : Int → MM → Prop), 20 * (151 - p) + l < f → 13 * (12 - o) + l ≤ dep + 1 → PC m tk N b p o → m b 0 = k0 → 0 ≤ k0 ∧ 0 ≤ s ∧ k0 + s ≤ p → (∀ rs q, pS tk f md acc0 p o = .ok (rs, q) → ExOk tk N b k0 s Q m o rs q) → (∀ e, pS tk f md acc0 p o = .error e → PEr T b m e) → R_X3_expression dep id [] m Q T
abbrev PLo : Type := (Nat → List Int → MM → (Int → MM → Prop) → (MM → Prop) → Prop) → (Int → MM → Prop) → (MM → Prop) → Nat → Int → MM → Prop
def LoC (tk : Int → TK) (N b : Int) (T : MM → Prop) (f lp : Nat) (l : Int) (P : PLo) : Prop := ∀ (dep n : Nat) (p o lo s x : Int) (a : PT) (m0 m : MM) (Q : Int → MM → Prop), 20 * (151 - p) + 3 < f → f ≤ n → 13 * (12 - o) + l ≤ dep + 1 → PC m tk N b p o → Fnw b lo m0 m → TNs m b a lo (m b 0) x → 0 ≤ s ∧ m b 0 + s ≤ p → (∀ rs q, pS tk f lp a p o = .ok (rs, q) → ExOk tk N b lo s Q m0 o rs q) → (∀ e, pS tk f lp a p o = .error e → PEr T b m0 e) → P (R_X3_expression dep) Q T n x m
section EXPRC
variable {T : MM → Prop} {tk : Int → TK} {N b : Int} {f dep : Nat} {m0 m : MM} {p o lo s x w kd : Int} {a : PT} {Q K : Int → MM → Prop}
/-- a second part, and the node over both -/
theorem c_pairC {md id : Nat} {l : Int} (hE : ExC tk N b T f md id l) (hf : 20 * (151 - (p + 1)) + l < f) (hd : 13 * (12 - o) + l ≤ dep + 1) (hP : PC m tk N b p o) (hk : 1 ≤ (tk p).1 ∧ (tk p).1 ≤ 5) (fr : Fnw b lo m0 m) (hA : TNs m b a lo (m b 0) x) (hs : 0 ≤ s ∧ m b 0 + s ≤ p) (hkd : ¬ (kd = 4 ∨ kd = 5 ∨ kd = 33 ∨ kd = 35))
    (h1 : ∀ rs q, goS tk p = .ok (p + 1) → pS tk f md acc0 (p + 1) o = .ok (rs, q) → ∀ r m', PC m' tk N b q o → Fnw b lo m0 m' → TNs m' b ((kd, w, 0, 0), chT [a, fstP rs]) lo (m' b 0) r → m' b 0 + s ≤ q → K r m')
    (e1 : ∀ e, goS tk p = .error e → PEr T b m0 e) (e2 : ∀ e, goS tk p = .ok (p + 1) → pS tk f md acc0 (p + 1) o = .error e → PEr T b m0 e) :
    P_X3_go m (fun _ m1 => R_X3_expression dep id [] m1 (fun r2 m2 => isTx (m1 365 1) ∧ P_X2_add_2 (m1 365 1) kd w x r2 m2 K) T) T := by
  have hb := hP.1.1
  have hb' := tx_b hb
  have ra := hA.rng
  refine c_goP hP hk (fun m1 a1 g1 P1 => ?_) (fun e z => fr.per hb (e1 e z))
  have n1 : m1 b 0 = m b 0 := g1 _ _ (by omega)
  refine hE dep (p + 1) o (m b 0) (s + 1) m1 _ hf hd P1 n1 (by omega) (fun rs q hq r m2 P2 F2 T2 n2 => ⟨by rw [P1.2.1]; exact hb, ?_⟩) (fun e z => (fr.s2 g1).per hb (e2 e a1 z))
  rw [P1.2.1]
  have A2 : TN m2 b a.1 a.2 lo (m b 0) x := (hA.fr (fun c i z z1 z2 => (F2 c i (by omega) (by omega) (by omega)).trans (g1 c i (by omega)))).1
  refine c_add2C hb A2 T2 rfl (by have := P2.2.2.1; omega) hkd (fun m3 f3 n3 T3 => ?_)
  refine h1 rs q a1 hq _ m3 (P2.ag (fun c i z => f3 c i (by omega) (by omega))) (fun c i z z' z'' => ?_) (by rw [n3]; exact T3) (by omega)
  rw [f3 c i (fun y => z ⟨by omega, y.2⟩) z', F2 c i (fun y => z ⟨y.1, by omega⟩) z' z'', g1 c i (fun y => z'' ⟨y.1, Or.inl y.2⟩)]
  exact fr c i z z' z''
/-- a level: what is below it, then its loop -/
theorem c_levC {md lo' lp id : Nat} {l l' : Int} {P : PLo} (hE : ExC tk N b T f lo' id l) (hL : LoC tk N b T f lp l' P) (hl : l' ≤ l ∧ 3 ≤ l) (hlt : lo' < 10) (heq : ∀ p o, pS tk (f + 1) md acc0 p o = bLev (pS tk f) lo' lp p o) {k0 : Int} (hf : 20 * (151 - p) + (l + 1) < (f + 1 : Nat)) (hd : 13 * (12 - o) + l ≤ dep + 1) (hP : PC m tk N b p o) (hn : m b 0 = k0) (hs : 0 ≤ k0 ∧ 0 ≤ s ∧ k0 + s ≤ p) (h1 : ∀ rs q, pS tk (f + 1) md acc0 p o = .ok (rs, q) → ExOk tk N b k0 s Q m o rs q) (h0 : ∀ e, pS tk (f + 1) md acc0 p o = .error e → PEr T b m e) : R_X3_expression dep id [] m (fun r1 m1 => ∃ nn, P (R_X3_expression dep) Q T nn r1 m1) T := by
  have E := heq p o
  unfold bLev at E
  refine hE dep p o k0 s m _ (by omega) hd hP hn hs (fun rs q hq r m1 P1 F1 T1 n1 => ⟨f, ?_⟩) (fun e z => h0 e (by rw [E, z]; rfl))
  have := (pS_lt hq).2 (.inl hlt)
  refine hL dep f q o k0 s r (fstP rs) m m1 Q (by omega) (Nat.le_refl _) (by omega) P1 F1 T1 ⟨hs.2.1, n1⟩ (fun rs' q' z => h1 rs' q' ?_) (fun e z => h0 e ?_)
  · rw [E, hq]; exact z
  · rw [E, hq]; exact z
/-! chains below a node -/
def lstF (m : MM) (b : Int) : List PT → Int → Int
  | [], k => k
  | [_], k => k
  | _ :: a :: ps, k => lstF m b (a :: ps) (m (b + 3) k)
def NdX (m : MM) (b k : Int) (d : ND) : Prop := (m (b + 1) k = d.1 ∧ m (b + 4) k = d.2.2.1 ∧ m (b + 5) k = d.2.1 ∧ (d.1 = 4 ∨ d.1 = 5 ∨ d.1 = 33 ∨ d.1 = 35 → m (b + 9) k = d.2.2.2)) ∧ m (b + 3) k = -1
def Chn (m : MM) (b : Int) (d : ND) (ps : List PT) (x hi l : Int) : Prop := NdX m b x d ∧ (0 ≤ x ∧ x < hi ∧ hi ≤ 160) ∧ TF m b (chT ps) (x + 1) hi (m (b + 2) x) ∧ ((ps = [] ∧ l = -1) ∨ (ps ≠ [] ∧ l = lstF m b ps (m (b + 2) x)))
theorem lst_rng : ∀ {ps : List PT} {lo hi k : Int}, ps ≠ [] → TF m b (chT ps) lo hi k → lo ≤ lstF m b ps k ∧ lstF m b ps k < hi := by
  intro ps
  induction ps with
  | nil => intro lo hi k h; exact absurd rfl h
  | cons a ps ih =>
    intro lo hi k _ h
    obtain ⟨mid, h1, h2, h3⟩ := h
    have r := TN.rng h2
    cases ps with
    | nil => exact ⟨r.2.1, by show k < hi; omega⟩
    | cons a' ps =>
      have := ih (by simp) h3
      show lo ≤ lstF m b (a' :: ps) (m (b + 3) k) ∧ lstF m b (a' :: ps) (m (b + 3) k) < hi
      omega
theorem TF.app {m m' : MM} {r hi hi' : Int} {a : PT} (t : TNs m' b a hi hi' r) : ∀ {ps : List PT} {lo k : Int}, ps ≠ [] → TF m b (chT ps) lo hi k → (∀ c i, (b + 1 ≤ c ∧ c ≤ b + 5 ∨ c = b + 9) → lo ≤ i → i < hi → ¬ (c = b + 3 ∧ i = lstF m b ps k) → m' c i = m c i) → m' (b + 3) (lstF m b ps k) = r → TF m' b (chT (ps ++ [a])) lo hi' k ∧ lstF m' b (ps ++ [a]) k = r := by
  intro ps
  have tr := t.rng
  induction ps with
  | nil => intro lo k h; exact absurd rfl h
  | cons a0 ps ih =>
    intro lo k _ h f e
    obtain ⟨mid, h1, h2, h3⟩ := h
    have h2 : TN m b a0.1 a0.2 lo mid k := h2
    have rr := h2.rng
    cases ps with
    | nil =>
      have f' : ∀ c i, (b + 1 ≤ c ∧ c ≤ b + 5 ∨ c = b + 9) → lo ≤ i → i < hi → ¬ (c = b + 3 ∧ i = k) → m' c i = m c i := f
      have e' : m' (b + 3) k = r := e
      refine ⟨⟨mid, by omega, h2.frr (fun c i z z1 z2 z3 => f' c i z z1 (by omega) z3), ?_⟩, e'⟩
      rw [e']
      exact ⟨hi', Int.le_refl _, t.1.low (by omega) (by omega) (Int.le_refl _) tr.2.2.2, t.2, Int.le_refl _⟩
    | cons a1 ps =>
      have lr := lst_rng (by simp) h3
      have f' : ∀ c i, (b + 1 ≤ c ∧ c ≤ b + 5 ∨ c = b + 9) → lo ≤ i → i < hi → ¬ (c = b + 3 ∧ i = lstF m b (a1 :: ps) (m (b + 3) k)) → m' c i = m c i := f
      have ek : m' (b + 3) k = m (b + 3) k := f' _ _ (by omega) (by omega) (by omega) (by omega)
      have w := ih (lo := mid) (k := m (b + 3) k) (by simp) h3 (fun c i z z1 z2 z3 => f' c i z (by omega) z2 z3) e
      refine ⟨⟨mid, by omega, h2.frr (fun c i z z1 z2 z3 => f' c i z z1 (by omega) (by omega)), ?_⟩, ?_⟩
      · rw [ek]; exact w.1
      · show lstF m' b (a1 :: ps ++ [a]) (m' (b + 3) k) = r
        rw [ek]; exact w.2
theorem lst_ag {m' : MM} : ∀ {ps : List PT} {lo hi k : Int}, TF m b (chT ps) lo hi k → Agr b lo hi m m' → lstF m' b ps k = lstF m b ps k := by
  intro ps
  induction ps with
  | nil => intro lo hi k _ _; rfl
  | cons a ps ih =>
    intro lo hi k h f
    obtain ⟨mid, h1, h2, h3⟩ := h
    have rr := TN.rng h2
    cases ps with
    | nil => rfl
    | cons a1 ps =>
      show lstF m' b (a1 :: ps) (m' (b + 3) k) = lstF m b (a1 :: ps) (m (b + 3) k)
      rw [f _ _ (by omega) (by omega) (by omega)]
      exact ih h3 (fun c i z z1 z2 => f c i z (by omega) z2)
theorem Chn.fr {m' : MM} {d : ND} {ps : List PT} {hi l : Int} (h : Chn m b d ps x hi l) (f : Agr b x hi m m') : Chn m' b d ps x hi l := by
  obtain ⟨⟨⟨h1, h2, h3, h4⟩, h5⟩, h6, h7, h8⟩ := h
  have e : ∀ c, (b + 1 ≤ c ∧ c ≤ b + 5 ∨ c = b + 9) → m' c x = m c x := fun c z => f c x z (by omega) (by omega)
  have f' : Agr b (x + 1) hi m m' := fun c i z z1 z2 => f c i z (by omega) z2
  refine ⟨⟨⟨by rw [e _ (by omega)]; exact h1, by rw [e _ (by omega)]; exact h2, by rw [e _ (by omega)]; exact h3, fun z => by rw [e _ (by omega)]; exact h4 z⟩, by rw [e _ (by omega)]; exact h5⟩, h6, ?_, ?_⟩
  · rw [e _ (by omega)]; exact h7.frr f'
  · rw [e _ (by omega), lst_ag h7 f']; exact h8
/-- one more part: in memory it is hung on last -/
theorem Chn.add {m1 : MM} {d : ND} {ps : List PT} {hi hi' l r : Int} (h : Chn m b d ps x hi l) (f : Agr b x hi m m1) (t : TNs m1 b a hi hi' r) : (l = -1 → Chn (up m1 (b + 2) x r) b d (ps ++ [a]) x hi' r) ∧ (l ≠ -1 → (x ≤ l ∧ l < 160) ∧ Chn (up m1 (b + 3) l r) b d (ps ++ [a]) x hi' r) := by
  have h := h.fr f
  obtain ⟨⟨⟨h1, h2, h3, h4⟩, h5⟩, h6, h7, h8⟩ := h
  have tr := t.rng
  rcases h8 with ⟨rfl, rfl⟩ | ⟨hn, hl⟩
  · refine ⟨fun _ => ?_, fun z => absurd rfl z⟩
    refine ⟨⟨⟨by rw [up_ne (by omega)]; exact h1, by rw [up_ne (by omega)]; exact h2, by rw [up_ne (by omega)]; exact h3, fun z => by rw [up_ne (by omega)]; exact h4 z⟩, by rw [up_ne (by omega)]; exact h5⟩, by omega, ?_, .inr ⟨by simp, ?_⟩⟩
    · rw [up_at]
      have t' : TNs (up m1 (b + 2) x r) b a hi hi' r := t.fr (fun c i z z1 z2 => up_ne (by omega))
      exact ⟨hi', Int.le_refl _, t'.1.low (by omega) (by omega) (Int.le_refl _) tr.2.2.2, t'.2, Int.le_refl _⟩
    · rw [up_at]; rfl
  · have lr := lst_rng hn h7
    rw [← hl] at lr
    refine ⟨fun z => by omega, fun _ => ⟨by omega, ?_⟩⟩
    have e2 : up m1 (b + 3) l r (b + 2) x = m1 (b + 2) x := up_ne (by omega)
    have t' : TNs (up m1 (b + 3) l r) b a hi hi' r := t.fr (fun c i z z1 z2 => up_ne (by omega))
    have w := TF.app t' hn h7 (fun c i z z1 z2 z3 => up_ne (by rw [← hl] at z3; exact z3)) (by rw [← hl]; exact up_at ..)
    refine ⟨⟨⟨by rw [up_ne (by omega)]; exact h1, by rw [up_ne (by omega)]; exact h2, by rw [up_ne (by omega)]; exact h3, fun z => by rw [up_ne (by omega)]; exact h4 z⟩, by rw [up_ne (by omega)]; exact h5⟩, by omega, ?_, .inr ⟨by simp, ?_⟩⟩
    · rw [e2]; exact w.1
    · rw [e2]; exact w.2.symm
theorem NdH.chn {d : ND} {k : Int} (h : NdH m b k d) (g : 0 ≤ k ∧ k < 160) : Chn m b d [] k (k + 1) (-1) := by
  refine ⟨⟨h.1, h.2.2⟩, by omega, ?_, .inl ⟨rfl, rfl⟩⟩
  rw [h.2.1]; exact ⟨rfl, Int.le_refl _⟩
theorem Chn.fin {d : ND} {ps : List PT} {hi l : Int} (h : Chn m b d ps x hi l) : TNs m b (d, chT ps) x hi x := ⟨⟨x + 1, hi, by obtain ⟨-, h6, -⟩ := h; omega, h.1.1, h.2.2.1⟩, h.1.2⟩
end EXPRC
