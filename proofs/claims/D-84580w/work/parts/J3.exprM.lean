set_option maxRecDepth 100000
/-! the model's parser: with a fault nothing is read; contracts of expressions -/
def FE (T : MM → Prop) (id l : Nat) : Prop := ∀ (dep : Nat) (e : Int × Int) (q o k : Int) (m : MM) (Q : Int → MM → Prop), l ≤ dep → PF m e q o k → Q 0 m → R_X10_readE dep id [] m Q T
section FAULTM
variable {T : MM → Prop} {rec : Nat → List Int → MM → (Int → MM → Prop) → (MM → Prop) → Prop} {m : MM} {e : Int × Int} {q o k x : Int} {n : Nat} {Q : Int → MM → Prop}
theorem PF.ri (h : PF m e q o k) : RI (m 582 10) ∧ m 582 10 ≠ 0 ∧ ¬ (m 582 10 ≤ 0) := by
  have a := h.2.1
  rw [a.1]
  exact ⟨by constructor <;> omega, by omega, by omega⟩
theorem fl_or (h : PF m e q o k) (hn : 2 ≤ n) (h0 : Q x m) : P_X10_readOr_5 rec Q T n x m := by
  obtain ⟨n', rfl⟩ : ∃ n', n = n' + 1 := ⟨n - 1, by omega⟩
  exact f_isKey h ⟨by decide, by rw [if_pos rfl]; exact h0⟩
theorem fl_and (h : PF m e q o k) (hn : 2 ≤ n) (h0 : Q x m) : P_X10_readAnd_5 rec Q T n x m := by
  obtain ⟨n', rfl⟩ : ∃ n', n = n' + 1 := ⟨n - 1, by omega⟩
  exact f_isKey h ⟨by decide, by rw [if_pos rfl]; exact h0⟩
theorem fl_sum (h : PF m e q o k) (hn : 2 ≤ n) (h0 : Q x m) : P_X10_readSum_5 rec Q T n x m := by
  obtain ⟨n', rfl⟩ : ∃ n', n = n' + 1 := ⟨n - 1, by omega⟩
  exact f_isSign h ⟨by decide, by rw [if_pos rfl]; exact f_isSign h ⟨by decide, by rw [if_pos rfl]; exact h0⟩⟩
theorem fl_prod0 (h0 : Q x m) : P_X10_readProduct_18 rec Q T (n + 1) x 0 m := ⟨by decide, by rw [if_pos rfl]; exact h0⟩
theorem fl_prod (h : PF m e q o k) (hn : 2 ≤ n) (h0 : Q x m) : P_X10_readProduct_18 rec Q T n x 1 m := by
  obtain ⟨n', rfl⟩ : ∃ n', n = n' + 1 + 1 := ⟨n - 2, by omega⟩
  refine ⟨by decide, ?_⟩
  rw [if_neg (by decide)]
  refine f_isSign h ⟨by decide, ?_⟩
  rw [if_pos rfl]
  refine f_isSign h ⟨by decide, ?_⟩
  rw [if_pos rfl]
  refine f_isKey h ⟨by decide, ?_⟩
  rw [if_pos rfl]
  refine f_isKey h ⟨by decide, ?_⟩
  rw [if_pos rfl]
  refine ⟨by decide, by decide, ?_⟩
  rw [if_pos (by decide)]
  exact fl_prod0 h0
theorem fl_beh0 (h0 : Q x m) : P_X10_readBehind_18 rec Q T (n + 1) x 0 m := ⟨by decide, by rw [if_pos rfl]; exact h0⟩
theorem fe_atom : FE T 1 1 := by
  intro dep e q o k m Q hd h h0
  obtain ⟨d, rfl⟩ : ∃ d, dep = d + 1 := ⟨dep - 1, by omega⟩
  have r := h.ri
  refine ⟨r.1, ?_⟩
  rw [if_neg r.2.2]; exact h0
theorem fe_behind : FE T 2 2 := by
  intro dep e q o k m Q hd h h0
  obtain ⟨d, rfl⟩ : ∃ d, dep = d + 1 := ⟨dep - 1, by omega⟩
  have r := h.ri
  refine fe_atom d e q o k m _ (by omega) h ⟨r.1, ?_⟩
  rw [if_neg r.2.1]; exact ⟨1, fl_beh0 h0⟩
theorem fe_unary : FE T 10 3 := by
  intro dep e q o k m Q hd h h0
  obtain ⟨d, rfl⟩ : ∃ d, dep = d + 1 := ⟨dep - 1, by omega⟩
  show W_X10_readUnary (R_X10_readE d) m Q T
  refine f_takesSign h ⟨by decide, ?_⟩
  rw [if_pos rfl]; exact fe_behind d e q o k m _ (by omega) h h0
theorem fe_product : FE T 8 4 := by
  intro dep e q o k m Q hd h h0
  obtain ⟨d, rfl⟩ : ∃ d, dep = d + 1 := ⟨dep - 1, by omega⟩
  have r := h.ri
  refine fe_unary d e q o k m _ (by omega) h ⟨r.1, ?_⟩
  rw [if_neg r.2.1]; exact ⟨1, fl_prod0 h0⟩
theorem fe_sum : FE T 9 5 := by
  intro dep e q o k m Q hd h h0
  obtain ⟨d, rfl⟩ : ∃ d, dep = d + 1 := ⟨dep - 1, by omega⟩
  exact fe_product d e q o k m _ (by omega) h ⟨2, fl_sum h (by decide) h0⟩
theorem fe_compare : FE T 3 6 := by
  intro dep e q o k m Q hd h h0
  obtain ⟨d, rfl⟩ : ∃ d, dep = d + 1 := ⟨dep - 1, by omega⟩
  refine fe_sum d e q o k m _ (by omega) h (f_isSign h ⟨by decide, ?_⟩)
  rw [if_pos rfl]
  refine f_isSign h ⟨by decide, ?_⟩
  rw [if_pos rfl]
  refine f_isSign h ⟨by decide, ?_⟩
  rw [if_pos rfl]
  refine f_isSign h ⟨by decide, ?_⟩
  rw [if_pos rfl]
  refine ⟨by decide, ?_⟩
  rw [if_neg (by decide)]; exact h0
theorem fe_not : FE T 6 7 := by
  intro dep e q o k m Q hd h h0
  obtain ⟨d, rfl⟩ : ∃ d, dep = d + 1 := ⟨dep - 1, by omega⟩
  show W_X10_readNot (R_X10_readE d) m Q T
  refine f_takesKey h ⟨by decide, ?_⟩
  rw [if_pos rfl]; exact fe_compare d e q o k m _ (by omega) h h0
theorem fe_and : FE T 0 8 := by
  intro dep e q o k m Q hd h h0
  obtain ⟨d, rfl⟩ : ∃ d, dep = d + 1 := ⟨dep - 1, by omega⟩
  exact fe_not d e q o k m _ (by omega) h ⟨2, fl_and h (by decide) h0⟩
theorem fe_or : FE T 7 9 := by
  intro dep e q o k m Q hd h h0
  obtain ⟨d, rfl⟩ : ∃ d, dep = d + 1 := ⟨dep - 1, by omega⟩
  exact fe_and d e q o k m _ (by omega) h ⟨2, fl_or h (by decide) h0⟩
theorem fe_E : FE T 4 10 := by
  intro dep e q o k m Q hd h h0
  obtain ⟨d, rfl⟩ : ∃ d, dep = d + 1 := ⟨dep - 1, by omega⟩
  show W_X10_readE (R_X10_readE d) m Q T
  refine f_takesKey h ⟨by decide, ?_⟩
  rw [if_pos rfl]; exact fe_or d e q o k m _ (by omega) h h0
theorem fe_items {dep : Nat} (h : PF m e q o k) (h0 : Q (-1) m) : R_X10_readE (dep + 1) 5 [x] m Q T := by
  have r := h.ri
  refine ⟨r.1, ?_⟩
  rw [if_neg r.2.1]
  exact ⟨1, by decide, by rw [if_pos rfl]; exact h0⟩
end FAULTM
def EmOk (tk : Int → TK) (N k0 p0 : Int) (Q : Int → MM → Prop) (m0 : MM) (o : Int) (rs : List (List PT)) (q : Int) : Prop := ∀ r m' k', PM m' tk N q o k' → FwM k0 m0 m' → TNB m' (fstP rs) k0 k' r → k' ≤ k0 + 2 * (q - p0) → Q r m'
def EmEr (k0 p0 : Int) (Q : Int → MM → Prop) (m0 : MM) (o : Int) (e : Int × Int) : Prop := ∀ r m' q k', PF m' e q o k' → FwM k0 m0 m' → p0 ≤ q → k0 ≤ k' → k' ≤ k0 + 2 * (q - p0) + 2 → Q r m'
def ExM (tk : Int → TK) (N : Int) (T : MM → Prop) (f md id : Nat) (l : Int) : Prop := ∀ (dep : Nat) (p o k0 : Int) (m : MM) (Q : Int → MM → Prop), 20 * (151 - p) + l < f → 13 * (13 - o) + l ≤ dep + 1 → PM m tk N p o k0 → k0 + 2 * (150 - p) ≤ 11900 → (∀ rs q, pS tk f md acc0 p o = .ok (rs, q) → EmOk tk N k0 p Q m o rs q) → (∀ e, pS tk f md acc0 p o = .error e → EmEr k0 p Q m o e) → R_X10_readE dep id [] m Q T
def LoM (tk : Int → TK) (N : Int) (T : MM → Prop) (f lp : Nat) (l : Int) (P : PLo) : Prop := ∀ (dep n : Nat) (p o lo p0 x k : Int) (a : PT) (m0 m : MM) (Q : Int → MM → Prop), 20 * (151 - p) + 3 < f → f ≤ n → 13 * (13 - o) + l ≤ dep + 1 → PM m tk N p o k → FwM lo m0 m → TNB m a lo k x → p0 ≤ p ∧ k ≤ lo + 2 * (p - p0) ∧ lo + 2 * (150 - p0) ≤ 11900 → (∀ rs q, pS tk f lp a p o = .ok (rs, q) → EmOk tk N lo p0 Q m0 o rs q) → (∀ e, pS tk f lp a p o = .error e → EmEr lo p0 Q m0 o e) → P (R_X10_readE dep) Q T n x m
section EXPRM
variable {T : MM → Prop} {tk : Int → TK} {N : Int} {f dep n : Nat} {m0 m : MM} {p o lo p0 x k w : Int} {a : PT} {Q K : Int → MM → Prop}
/-- a node over two trees -/
theorem TNB.two {m' : MM} {a2 : PT} {ks kd mid r k1 : Int} (h1 : TNB m a lo mid x) (h2 : TNB m a2 mid k1 r) (kb : k1 < 12000) (hks : ks = 9 ∨ ks = 10 ∨ 12 ≤ ks ∧ ks ≤ 21) (hkd : kd = kM ks) (f : ∀ c i, ¬ (c = 582 ∧ i = 15) → ¬ (590 ≤ c ∧ c ≤ 605 ∧ i = k1) → m' c i = m c i) (e0 : m' 590 k1 = kd) (e1 : m' 591 k1 = x) (e2 : m' 592 k1 = r) (e3 : m' 593 k1 = -1) (e5 : m' 595 k1 = w) : TNB m' ((ks, w, 0, 0), chT [a, a2]) lo (k1 + 1) k1 := by
  have r1 := h1.rng
  have r2 := h2.rng
  refine ⟨lo, k1, [x, r], by omega, ⟨fun _ => by rw [e0]; exact hkd, e5, fun z => ?_, fun z => ?_, fun z => ?_, fun z => ?_, fun z => ?_⟩, ⟨fun z => ?_, fun z => ?_, fun z => ?_, fun _ => ⟨by rw [e1, e2], e3⟩, fun z => ?_, fun z => ?_, fun z => ?_, fun z => ?_, fun z => ?_⟩, ?_⟩
  · exfalso; have z' : ks = 0 ∨ ks = 3 ∨ ks = 23 ∨ ks = 33 ∨ ks = 35 := z; omega
  · exfalso; have z' : ks = 4 ∨ ks = 5 := z; omega
  · exfalso; have z' : ks = 6 := z; omega
  · exfalso; have z' : 30 ≤ ks := z; omega
  · exfalso; have z' : ks = 33 ∨ ks = 35 := z; omega
  · exfalso; have z' : ks = 5 ∨ ks = 6 := z; omega
  · exfalso; have z' : ks = 7 := z; omega
  · exfalso; have z' : ks = 8 := z; omega
  · exfalso; have z' : ks = 11 ∨ ks = 22 := z; omega
  · exfalso; have z' : ks = 23 := z; omega
  · exfalso; have z' : ks = 24 ∨ ks = 25 := z; omega
  · exfalso; have z' : 30 ≤ ks ∧ ks ≤ 33 := z; omega
  · exfalso; have z' : 34 ≤ ks := z; omega
  · exact ⟨x, [r], mid, rfl, by omega, h1.fr (fun c i z z1 z2 => f c i (by omega) (by omega)) r1.1 (Int.le_refl _) (Int.le_refl _) r1.2.2.2, TNB.one (h2.fr (fun c i z z1 z2 => f c i (by omega) (by omega)) r2.1 (Int.le_refl _) (Int.le_refl _) r2.2.2.2)⟩
theorem c_pairM {md id fl : Nat} {l ks kd : Int} (hE : ExM tk N T f md id l) (hF : FE T id fl) (hfl : (fl : Int) ≤ 10) (hf : 20 * (151 - (p + 1)) + l < f) (hd : 13 * (13 - o) + l ≤ dep + 1) (hl : 0 ≤ l) (hP : PM m tk N p o k) (hk : 1 ≤ (tk p).1 ∧ (tk p).1 ≤ 5) (fr : FwM lo m0 m) (hA : TNB m a lo k x) (hs : p0 ≤ p ∧ k ≤ lo + 2 * (p - p0) ∧ lo + 2 * (150 - p0) ≤ 11900) (hks : ks = 9 ∨ ks = 10 ∨ 12 ≤ ks ∧ ks ≤ 21) (hkd : kd = kM ks)
    (h1 : ∀ rs q, goS tk p = .ok (p + 1) → pS tk f md acc0 (p + 1) o = .ok (rs, q) → ∀ r m' k', PM m' tk N q o k' → FwM lo m0 m' → TNB m' ((ks, plS tk p, 0, 0), chT [a, fstP rs]) lo k' r → k' ≤ lo + 2 * (q - p0) → K r m')
    (e1 : ∀ e, goS tk p = .error e → EmEr lo p0 K m0 o e) (e2 : ∀ e, goS tk p = .ok (p + 1) → pS tk f md acc0 (p + 1) o = .error e → EmEr lo p0 K m0 o e) :
    P_X10_accept m (fun _ m1 => R_X10_readE dep id [] m1 (fun r2 m2 => P_X10_node kd x r2 (-1) (m 582 9) m2 K) T) := by
  have ra := hA.rng
  have pb := hP.2.1
  have ob := hP.2.2.2.1.2
  have t5 := hP.tok.2.1
  rw [pb.1]
  refine c_acceptM hP hk (fun m1 g1 P1 f1 => ?_) (fun e m1 g1 P1 f1 => ?_)
  · refine hE dep (p + 1) o k m1 _ hf hd P1 (by omega) (fun rs q hq r m2 k2 P2 F2 T2 n2 => ?_) (fun e z r m2 q k2 P2 F2 hq k2a k2b => ?_)
    · have r2 := T2.rng
      have lt := (pS_lt hq).1
      have F2' : FwM lo m0 m2 := (fr.f582 (fun c i z => f1 c i (by omega))).trans F2 (by omega)
      have A2 : TNB m2 a lo k x := (hA.fr (fun c i z z1 z2 => f1 c i (by omega)) ra.1 (Int.le_refl _) (Int.le_refl _) ra.2.2.2).fr (F2.ag (Int.le_refl _)) ra.1 (Int.le_refl _) (Int.le_refl _) ra.2.2.2
      refine c_nodeM P2.2.2.2.2.1 ⟨by omega, by have := P2.2.1; omega⟩ (by omega) (fun m3 f3 e15 e590 e591 e592 e593 e594 e595 e597 e605 => ?_)
      have t5' : m2 588 p = plS tk p := by rw [F2 _ _ (by omega) (by omega), f1 _ _ (by omega)]; exact t5
      rw [t5'] at e595
      exact h1 rs q g1 hq k2 m3 (k2 + 1) (P2.nd f3 e15) (F2'.ad (by omega) f3) (TNB.two A2 T2 (by have := P2.2.1; omega) hks hkd f3 e590 e591 e592 e593 e595) (by omega)
    · have F2' : FwM lo m0 m2 := (fr.f582 (fun c i z => f1 c i (by omega))).trans F2 (by omega)
      refine f_nodeM P2 (by have := P2.1; omega) (by omega) F2' (by omega) (fun m3 P3 F3 => e2 e g1 z k2 m3 q (k2 + 1) P3 F3 (by omega) (by omega) (by omega))
  · have F1 : FwM lo m0 m1 := fr.f582 (fun c i z => f1 c i (by omega))
    refine hF dep e p o k m1 _ (by omega) P1 ?_
    exact f_nodeM P1 (by omega) (by omega) F1 (by omega) (fun m3 P3 F3 => e1 e g1 k m3 p (k + 1) P3 F3 hs.1 (by omega) (by omega))
/-- a level: what is below it, then its loop -/
theorem c_levM {md lo' lp id : Nat} {l l' : Int} {P : PLo} {W : Int → MM → Prop} (hE : ExM tk N T f lo' id l) (hL : LoM tk N T f lp l' P) (hl : l' ≤ l ∧ 3 ≤ l) (hlt : lo' < 10) (heq : ∀ p o, pS tk (f + 1) md acc0 p o = bLev (pS tk f) lo' lp p o) {k0 : Int} (hf : 20 * (151 - p) + (l + 1) < (f + 1 : Nat)) (hd : 13 * (13 - o) + l ≤ dep + 1) (hP : PM m tk N p o k0) (hs : k0 + 2 * (150 - p) ≤ 11900) (hW1 : ∀ r m1, m1 582 10 = 0 → (∃ nn, P (R_X10_readE dep) Q T nn r m1) → W r m1) (hW0 : ∀ r m1 e q o k, PF m1 e q o k → Q r m1 → W r m1) (h1 : ∀ rs q, pS tk (f + 1) md acc0 p o = .ok (rs, q) → EmOk tk N k0 p Q m o rs q) (h0 : ∀ e, pS tk (f + 1) md acc0 p o = .error e → EmEr k0 p Q m o e) : R_X10_readE dep id [] m W T := by
  have E := heq p o
  unfold bLev at E
  refine hE dep p o k0 m _ (by omega) hd hP hs (fun rs q hq r m1 k1 P1 F1 T1 n1 => ?_) (fun e z r m1 q k1 P1 F1 hq k1a k1b => ?_)
  · have := (pS_lt hq).2 (.inl hlt)
    refine hW1 r m1 P1.2.2.1 ⟨f, ?_⟩
    refine hL dep f q o k0 p r k1 (fstP rs) m m1 Q (by omega) (Nat.le_refl _) (by omega) P1 F1 T1 (by omega) (fun rs' q' z => h1 rs' q' ?_) (fun e z => h0 e ?_)
    · rw [E, hq]; exact z
    · rw [E, hq]; exact z
  · exact hW0 r m1 e q o k1 P1 (h0 e (by rw [E, z]; rfl) r m1 q k1 P1 F1 hq k1a k1b)
theorem c_loopM {lp md id fl : Nat} {l ks kd : Int} {P : PLo} (hE : ExM tk N T f md id l) (hF : FE T id fl) (hfl : (fl : Int) ≤ 10) (hL : LoM tk N T f lp l P) (hFl : ∀ {rec : Nat → List Int → MM → (Int → MM → Prop) → (MM → Prop) → Prop} {m : MM} {e : Int × Int} {q o k x : Int} {n : Nat} {Q : Int → MM → Prop}, PF m e q o k → 2 ≤ n → Q x m → P rec Q T n x m) (hmd : md < 10) (hl : 0 ≤ l ∧ l ≤ 20) (E : pS tk (f + 1) lp a p o = bLoop tk (pS tk f) ks md lp a p o) (hks : ks = 9 ∨ ks = 10 ∨ 12 ≤ ks ∧ ks ≤ 21) (hkd : kd = kM ks) (hkk : 1 ≤ (tk p).1 ∧ (tk p).1 ≤ 5) (hf : 20 * (151 - p) + 3 < (f + 1 : Nat)) (hn : f ≤ n) (hd : 13 * (13 - o) + l ≤ dep + 1) (hP : PM m tk N p o k) (fr : FwM lo m0 m) (hA : TNB m a lo k x) (hs : p0 ≤ p ∧ k ≤ lo + 2 * (p - p0) ∧ lo + 2 * (150 - p0) ≤ 11900) (h1 : ∀ rs q, pS tk (f + 1) lp a p o = .ok (rs, q) → EmOk tk N lo p0 Q m0 o rs q) (h0 : ∀ e, pS tk (f + 1) lp a p o = .error e → EmEr lo p0 Q m0 o e) : P_X10_accept m (fun _ m1 => R_X10_readE dep id [] m1 (fun r2 m2 => P_X10_node kd x r2 (-1) (m 582 9) m2 (fun r3 m3 => P (R_X10_readE dep) Q T n r3 m3)) T) := by
  unfold bLoop at E
  rw [if_neg (by omega)] at E
  have pb := hP.2.1
  refine c_pairM hE hF hfl (by omega) hd hl.1 hP hkk fr hA hs hks hkd (fun rs q ag hq r m' k' P' F' T' n' => ?_) (fun e z r m' q k' P' F' q' ka kb => hFl P' (by omega) (h0 e (by rw [E, z]; rfl) r m' q k' P' F' q' ka kb)) (fun e ag z r m' q k' P' F' q' ka kb => hFl P' (by omega) (h0 e (by rw [E, ag]; show (pS tk f md acc0 (p + 1) o >>= _) = _; rw [z]; rfl) r m' q k' P' F' q' ka kb))
  have := (pS_lt hq).2 (.inl hmd)
  refine hL dep n q o lo p0 r k' _ m0 m' Q (by omega) hn hd P' F' T' (by omega) (fun rs' q' z => h1 rs' q' ?_) (fun e z => h0 e ?_)
  · rw [E, ag]; show (pS tk f md acc0 (p + 1) o >>= _) = _; rw [hq]; exact z
  · rw [E, ag]; show (pS tk f md acc0 (p + 1) o >>= _) = _; rw [hq]; exact z
end EXPRM
