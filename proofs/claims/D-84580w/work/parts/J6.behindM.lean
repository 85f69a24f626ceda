set_option maxRecDepth 100000
/-! the model's parser: what stands behind -/
section BEHINDM
variable {T : MM → Prop} {tk : Int → TK} {N : Int} {f dep n : Nat} {m0 m m' : MM} {p o lo p0 x k k0 w r : Int} {a : PT} {Q K : Int → MM → Prop} {e : Int × Int} {q : Int}
theorem TNB.pw {k1 v : Int} (h1 : TNB m a lo k1 x) (kb : k1 < 12000) (f : ∀ c i, ¬ (c = 582 ∧ i = 15) → ¬ (590 ≤ c ∧ c ≤ 605 ∧ i = k1) → m' c i = m c i) (e0 : m' 590 k1 = 23) (e1 : m' 591 k1 = x) (e2 : m' 592 k1 = -1) (e3 : m' 593 k1 = -1) (e5 : m' 595 k1 = w) : TNB (up m' 605 k1 v) ((23, w, v, 0), chT [a]) lo (k1 + 1) k1 := by
  have r1 := h1.rng
  refine ⟨lo, k1, [x], by omega, ⟨fun _ => by rw [up_ne (by omega), e0]; rfl, by rw [up_ne (by omega)]; exact e5, fun _ => up_at .., fun z => ?_, fun z => ?_, fun z => ?_, fun z => ?_⟩, ⟨fun z => ?_, fun z => ?_, fun z => ?_, fun z => ?_, fun z => ?_, fun _ => ⟨by rw [up_ne (by omega), e1], by rw [up_ne (by omega)]; exact e2, by rw [up_ne (by omega)]; exact e3⟩, fun z => ?_, fun z => ?_, fun z => ?_⟩, ?_⟩
  all_goals first
    | (exact TNB.one (h1.fr (fun c i z z1 z2 => by rw [up_ne (by omega)]; exact f c i (by omega) (by omega)) r1.1 (Int.le_refl _) (Int.le_refl _) r1.2.2.2))
    | (exfalso; simp [fstP] at z)
theorem TNB.cv {k1 mid ks : Int} {a2 : PT} (h1 : TNB m a lo mid x) (h2 : TNB m a2 mid k1 r) (kb : k1 < 12000) (hks : ks = 24 ∨ ks = 25) (f : ∀ c i, ¬ (c = 582 ∧ i = 15) → ¬ (590 ≤ c ∧ c ≤ 605 ∧ i = k1) → m' c i = m c i) (e0 : m' 590 k1 = ks) (e1 : m' 591 k1 = x) (e2 : m' 592 k1 = -1) (e3 : m' 593 k1 = r) (e5 : m' 595 k1 = w) : TNB m' ((ks, w, 0, 0), chT [a, a2]) lo (k1 + 1) k1 := by
  have r1 := h1.rng
  have r2 := h2.rng
  refine ⟨lo, k1, [x, r], by omega, ⟨fun _ => ?_, e5, fun z => ?_, fun z => ?_, fun z => ?_, fun z => ?_, fun z => ?_⟩, ⟨fun z => ?_, fun z => ?_, fun z => ?_, fun z => ?_, fun z => ?_, fun z => ?_, fun _ => ⟨by rw [e1, e3], e2⟩, fun z => ?_, fun z => ?_⟩, ?_⟩
  · rw [e0]; rcases hks with rfl | rfl <;> rfl
  · exfalso; have z' : ks = 0 ∨ ks = 3 ∨ ks = 23 ∨ ks = 33 ∨ ks = 35 := z; omega
  · exfalso; have z' : ks = 4 ∨ ks = 5 := z; omega
  · exfalso; have z' : ks = 6 := z; omega
  · exfalso; have z' : 30 ≤ ks := z; omega
  · exfalso; have z' : ks = 33 ∨ ks = 35 := z; omega
  · exfalso; have z' : ks = 5 ∨ ks = 6 := z; omega
  · exfalso; have z' : ks = 7 := z; omega
  · exfalso; have z' : ks = 8 := z; omega
  · exfalso; have z' : ks = 9 ∨ ks = 10 ∨ 12 ≤ ks ∧ ks ≤ 21 := z; omega
  · exfalso; have z' : ks = 11 ∨ ks = 22 := z; omega
  · exfalso; have z' : ks = 23 := z; omega
  · exfalso; have z' : 30 ≤ ks ∧ ks ≤ 33 := z; omega
  · exfalso; have z' : 34 ≤ ks := z; omega
  · exact ⟨x, [r], mid, rfl, by omega, h1.fr (fun c i z z1 z2 => f c i (by omega) (by omega)) r1.1 (Int.le_refl _) (Int.le_refl _) r1.2.2.2, TNB.one (h2.fr (fun c i z z1 z2 => f c i (by omega) (by omega)) r2.1 (Int.le_refl _) (Int.le_refl _) r2.2.2.2)⟩
theorem b133_1 {rec : Nat → List Int → MM → (Int → MM → Prop) → (MM → Prop) → Prop} {K18 : Int → Int → MM → Prop} (h : m 582 10 = 0) (h1 : K18 x 1 m) : P_X10_readBehind_133 rec Q T K18 x 1 m := by
  refine ⟨by decide, ?_⟩
  rw [if_neg (by decide), h]
  refine ⟨by decide, ?_⟩
  rw [if_pos rfl]; exact h1
theorem b133_0 {rec : Nat → List Int → MM → (Int → MM → Prop) → (MM → Prop) → Prop} {K18 : Int → Int → MM → Prop} (h : PF m e q o k) (h1 : K18 x 0 m) : P_X10_readBehind_133 rec Q T K18 x 1 m := by
  have r := h.ri
  refine ⟨by decide, ?_⟩
  rw [if_neg (by decide)]
  refine ⟨r.1, ?_⟩
  rw [if_neg r.2.1]; exact h1
/-- a conversion: its sign was there -/
theorem c_cnvM {ks : Int} (hks : ks = 24 ∨ ks = 25) (p0' : 0 ≤ p) (hP : PM m tk N (p + 1) o k) (t5 : m 588 p = plS tk p) (fr : FwM lo m0 m) (hA : TNB m a lo k x) (hs : p0 ≤ p ∧ k ≤ lo + 2 * (p - p0) ∧ lo + 2 * (150 - p0) ≤ 11900)
    (h1 : ∀ c q, pT tk 16 (p + 1) o = .ok (c, q) → ∀ r m' k', PM m' tk N q o k' → FwM lo m0 m' → TNB m' ((ks, plS tk p, 0, 0), chT [a, c]) lo k' r → k' ≤ lo + 2 * (q - p0) → K r m')
    (e1 : ∀ e, pT tk 16 (p + 1) o = .error e → EmEr lo p0 K m0 o e) :
    R_X10_readRing 20 0 [] m (fun r4 m4 => P_X10_node ks x (-1) r4 p m4 K) T := by
  have ra := hA.rng
  have pb := hP.2.1
  have ob := hP.2.2.2.1.2
  refine c_ringP 16 20 (by decide) (p + 1) o k m _ (by omega) hP (by omega) (fun c q hq m2 k2 P2 F2 T2 n2 => ?_) (fun e z m2 q k2 P2 F2 hq k2a k2b => ?_)
  · have r2 := T2.rng
    have lt := pT_lt hq
    have pq := P2.2.1
    have A2 : TNB m2 a lo k x := hA.fr (F2.ag (Int.le_refl _)) ra.1 (Int.le_refl _) (Int.le_refl _) ra.2.2.2
    refine c_nodeM P2.2.2.2.2.1 ⟨by omega, by omega⟩ (by omega) (fun m3 f3 e15 e590 e591 e592 e593 e594 e595 e597 e605 => ?_)
    have t5' : m2 588 p = plS tk p := by rw [F2 _ _ (by omega) (by omega)]; exact t5
    rw [t5'] at e595
    exact h1 c q hq k2 m3 (k2 + 1) (P2.nd f3 e15) ((fr.trans F2 (by omega)).ad (by omega) f3) (TNB.cv A2 T2 (by omega) hks f3 e590 e591 e592 e593 e595) (by omega)
  · have pq := P2.1
    exact f_nodeM P2 (by omega) (by omega) (fr.trans F2 (by omega)) (by omega) (fun m3 P3 F3 => e1 e z k2 m3 q (k2 + 1) P3 F3 (by omega) (by omega) (by omega))
theorem f_cnvM {ks : Int} (p0' : 0 ≤ p ∧ p < 420) (hP : PF m e p o k) (fr : FwM lo m0 m) (hs : 0 ≤ lo ∧ lo ≤ k ∧ p0 ≤ p ∧ k ≤ lo + 2 * (p - p0) ∧ lo + 2 * (150 - p0) ≤ 11900) (e1 : EmEr lo p0 K m0 o e) : R_X10_readRing 20 0 [] m (fun r4 m4 => P_X10_node ks x (-1) r4 p m4 K) T := by
  have pb := hP.1
  refine f_ring e p o k m _ hP (by omega) (fun m2 P2 F2 => ?_)
  exact f_nodeM P2 (by omega) p0' (fr.trans F2 (by omega)) (by omega) (fun m3 P3 F3 => e1 (k + 1) m3 p (k + 1 + 1) P3 F3 (by omega) (by omega) (by omega))
theorem c_behM (hL : LoM tk N T f 18 0 PLbeh) : LoM tk N T (f + 1) 18 0 PLbeh := by
  intro dep n p o lo p0 x k a m0 m Q hf hn hd hP fr hA hs h1 h0
  obtain ⟨n', rfl⟩ : ∃ n', n = n' + 1 := ⟨n - 1, by omega⟩
  have ra := hA.rng
  have pb := hP.2.1
  have ob := hP.2.2.2.1.2
  have t5 := hP.tok.2.1
  obtain ⟨n2, hn2⟩ : ∃ n2, n' = n2 + 1 := ⟨n' - 1, by omega⟩
  have E : pS tk (f + 1) 18 a p o = bBehind tk (pS tk f) a p o := rfl
  unfold bBehind at E
  -- what a fault leaves
  have kF : ∀ e, pS tk (f + 1) 18 a p o = .error e → EmEr lo p0 (fun r m' => P_X10_readBehind_133 (R_X10_readE dep) Q T (fun z0 z1 z2 => P_X10_readBehind_18 (R_X10_readE dep) Q T n' z0 z1 z2) r 1 m') m0 o e := by
    intro e z r m' q k' P' F' q' ka kb
    refine b133_0 P' ?_
    show P_X10_readBehind_18 (R_X10_readE dep) Q T n' r 0 m'
    rw [hn2]
    exact fl_beh0 (h0 e z r m' q k' P' F' q' ka kb)
  have nx : ∀ {b' q}, p < q → (∀ rs' q', pS tk f 18 b' q o = .ok (rs', q') → pS tk (f + 1) 18 a p o = .ok (rs', q')) → (∀ e, pS tk f 18 b' q o = .error e → pS tk (f + 1) 18 a p o = .error e) → ∀ r m' k', PM m' tk N q o k' → FwM lo m0 m' → TNB m' b' lo k' r → k' ≤ lo + 2 * (q - p0) → P_X10_readBehind_133 (R_X10_readE dep) Q T (fun z0 z1 z2 => P_X10_readBehind_18 (R_X10_readE dep) Q T n' z0 z1 z2) r 1 m' := by
    intro b' q lt z1 z2 r m' k' P' F' T' hk'
    refine b133_1 P'.2.2.1 ?_
    exact hL dep n' q o lo p0 r k' b' m0 m' Q (by omega) (by omega) hd P' F' T' (by omega) (fun rs' q' z => h1 rs' q' (z1 rs' q' z)) (fun e z => h0 e (z2 e z))
  show P_X10_readBehind_18 (R_X10_readE dep) Q T (n' + 1) x 1 m
  refine ⟨by decide, ?_⟩
  rw [if_neg (by decide), pb.1]
  refine c_takesSignM (c := 94) rfl (by decide) (by decide) hP (fun m1 y g P1 f1 => ⟨by decide, ?_⟩) (fun y => ⟨by decide, ?_⟩) (fun e m1 y g P1 f1 => ⟨by decide, ?_⟩)
  · rw [if_neg (by decide)]
    rw [if_pos y, g] at E
    have E1 : pS tk (f + 1) 18 a p o = (kgS tk 1 (p + 1) >>= fun q1 => pS tk f 18 ((23, plS tk p, vlS tk (p + 1), 0), chT [a]) q1 o) := by
      rw [E]
      unfold kgS
      show (kdE tk 1 (p + 1) >>= _) = _
      cases kdE tk 1 (p + 1) with
      | error e => rfl
      | ok u => rfl
    clear E
    have F1 := fr.f11 f1
    have pb1 := P1.2.1
    have A1 : TNB m1 a lo k x := hA.fr f1.agm ra.1 (Int.le_refl _) (Int.le_refl _) ra.2.2.2
    refine c_needM (kd := 1) rfl (.inl rfl) P1 (fun m2 g2 P2 f2 => ?_) (fun e m2 g2 P2 f2 => ?_)
    · rw [g2] at E1
      have F2 := F1.f11 f2
      have A2 : TNB m2 a lo k x := A1.fr f2.agm ra.1 (Int.le_refl _) (Int.le_refl _) ra.2.2.2
      have pb2 := P2.2.1
      refine c_nodeM P2.2.2.2.2.1 ⟨by omega, by omega⟩ (by omega) (fun m3 f3 e15 e590 e591 e592 e593 e594 e595 e597 e605 => ⟨by omega, by omega, ?_⟩)
      have t5' : m2 588 p = plS tk p := by rw [f2 _ _ (by omega), f1 _ _ (by omega)]; exact t5
      rw [t5'] at e595
      have t9 : m3 589 (p + 1) = vlS tk (p + 1) := by
        rw [f3 _ _ (by omega) (by omega), f2 _ _ (by omega)]
        obtain ⟨⟨u1, u2, u3, u4⟩, u5, w⟩ := P1.tok
        refine u2 ?_
        unfold kgS at g2
        obtain ⟨u, hu, -⟩ := exb g2
        exact kd_ok hu
      rw [t9]
      rintro m4 rfl
      exact nx (b' := ((23, plS tk p, vlS tk (p + 1), 0), chT [a])) (q := p + 1 + 1) (by omega) (fun rs' q' z => by rw [E1]; exact z) (fun e z => by rw [E1]; exact z) k _ (k + 1) ((P2.nd f3 e15).up (by decide)) ((F2.ad (by omega) f3).nd (by decide) (by omega)) (TNB.pw A2 (by omega) f3 e590 e591 e592 e593 e595) (by omega)
    · have F2 := F1.f11 f2
      have kk := kF e (by rw [E1, g2]; rfl)
      refine f_nodeM P2 (by omega) (by omega) F2 (by omega) (fun m3 P3 F3 => ⟨by omega, by omega, ?_⟩)
      rintro m4 rfl
      exact kk k _ (p + 1) (k + 1) (P3.up (by decide)) (F3.nd (by decide) (by omega)) (by omega) (by omega) (by omega)
  · rw [if_pos rfl]
    rw [if_neg y] at E
    have cv : ∀ ks, (ks = 24 ∨ ks = 25) → (isSg tk 130 p ∨ isSg tk 33 p) → ks = (if isSg tk 33 p then 25 else 24) → ∀ m1, goS tk p = .ok (p + 1) → PM m1 tk N (p + 1) o k → F911 m m1 → R_X10_readRing 20 0 [] m1 (fun r4 m4 => P_X10_node ks x (-1) r4 p m4 (fun r5 m5 => P_X10_readBehind_133 (R_X10_readE dep) Q T (fun z0 z1 z2 => P_X10_readBehind_18 (R_X10_readE dep) Q T n' z0 z1 z2) r5 1 m5)) T := by
      intro ks hks z2 ek m1 g P1 f1
      rw [if_pos z2, ← ek, g] at E
      have E1 : pS tk (f + 1) 18 a p o = (pT tk 16 (p + 1) o >>= fun x => pS tk f 18 ((ks, plS tk p, 0, 0), chT [a, x.1]) x.2 o) := E
      exact c_cnvM hks pb.2.1 P1 (by rw [f1 _ _ (by omega)]; exact t5) (fr.f11 f1) (hA.fr f1.agm ra.1 (Int.le_refl _) (Int.le_refl _) ra.2.2.2) hs (fun c q hq r m' k' P' F' T' n' => nx (by have := pT_lt hq; omega) (fun rs' q' z => by rw [E1, hq]; exact z) (fun e z => by rw [E1, hq]; exact z) r m' k' P' F' T' n') (fun e z => kF e (by rw [E1, z]; rfl))
    have cf : ∀ ks, (isSg tk 130 p ∨ isSg tk 33 p) → ∀ e m1, goS tk p = .error e → PF m1 e p o k → F911 m m1 → R_X10_readRing 20 0 [] m1 (fun r4 m4 => P_X10_node ks x (-1) r4 p m4 (fun r5 m5 => P_X10_readBehind_133 (R_X10_readE dep) Q T (fun z0 z1 z2 => P_X10_readBehind_18 (R_X10_readE dep) Q T n' z0 z1 z2) r5 1 m5)) T := by
      intro ks z2 e m1 g P1 f1
      rw [if_pos z2, g] at E
      exact f_cnvM (by omega) P1 (fr.f11 f1) (by omega) (kF e (by rw [E]; rfl))
    refine c_takesSignM (c := 130) rfl (by decide) (by decide) hP (fun m1 y1 g P1 f1 => ⟨by decide, ?_⟩) (fun y1 => ⟨by decide, ?_⟩) (fun e m1 y1 g P1 f1 => ⟨by decide, ?_⟩)
    · rw [if_neg (by decide)]
      have n33 : ¬ isSg tk 33 p := fun z => by have a1 : vlS tk p = 130 := y1.2; have a2 : vlS tk p = 33 := z.2; omega
      exact cv 24 (by decide) (.inl y1) (by rw [if_neg n33]) m1 g P1 f1
    · rw [if_pos rfl]
      refine c_takesSignM (c := 33) rfl (by decide) (by decide) hP (fun m1 y2 g P1 f1 => ⟨by decide, ?_⟩) (fun y2 => ⟨by decide, ?_⟩) (fun e m1 y2 g P1 f1 => ⟨by decide, ?_⟩)
      · rw [if_neg (by decide)]
        exact cv 25 (by decide) (.inr y2) (by rw [if_pos y2]) m1 g P1 f1
      · rw [if_pos rfl]
        rw [if_neg (by rintro (z | z); exact y1 z; exact y2 z)] at E
        refine ⟨by decide, ?_⟩
        rw [if_pos rfl]
        show P_X10_readBehind_18 (R_X10_readE dep) Q T n' x 0 m
        rw [hn2]
        exact fl_beh0 (h1 [[a]] p (by rw [E]; rfl) x m k hP fr hA hs.2.1)
      · rw [if_neg (by decide)]
        exact cf 25 (.inr y2) e m1 g P1 f1
    · rw [if_neg (by decide)]
      exact cf 24 (.inl y1) e m1 g P1 f1
  · rw [if_neg (by decide)]
    rw [if_pos y, g] at E
    have kk := kF e (by rw [E]; rfl)
    have F1 := fr.f11 f1
    refine f_need P1 ?_
    refine f_nodeM P1 (by omega) (by omega) F1 (by omega) (fun m3 P3 F3 => ⟨by omega, by omega, ?_⟩)
    rintro m4 rfl
    exact kk k _ p (k + 1) (P3.up (by decide)) (F3.nd (by decide) (by omega)) (by omega) (by omega) (by omega)
end BEHINDM
