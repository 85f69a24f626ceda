set_option maxRecDepth 100000
/-! the model's parser: rings that are written -/
def RgOk (tk : Int → TK) (N k0 p0 : Int) (Q : Int → MM → Prop) (m0 : MM) (o : Int) (a : PT) (q : Int) : Prop := ∀ m' k', PM m' tk N q o k' → FwM k0 m0 m' → TNB m' a k0 k' k0 → k' ≤ k0 + 2 * (q - p0) → Q k0 m'
def RgEr (k0 p0 : Int) (Q : Int → MM → Prop) (m0 : MM) (o : Int) (e : Int × Int) : Prop := ∀ m' q k', PF m' e q o k' → FwM k0 m0 m' → p0 ≤ q → k0 < k' → k' ≤ k0 + 2 * (q - p0) + 2 → Q k0 m'
def RgC (tk : Int → TK) (N : Int) (T : MM → Prop) (f : Nat) (rec : Nat → List Int → MM → (Int → MM → Prop) → (MM → Prop) → Prop) : Prop := ∀ (p o k0 : Int) (m : MM) (Q : Int → MM → Prop), 13 - o < f → PM m tk N p o k0 → k0 + 2 * (150 - p) ≤ 11900 → (∀ a q, pT tk f p o = .ok (a, q) → RgOk tk N k0 p Q m o a q) → (∀ e, pT tk f p o = .error e → RgEr k0 p Q m o e) → rec 0 [] m Q T
/-- with a fault a ring is one node -/
def RgF (T : MM → Prop) (rec : Nat → List Int → MM → (Int → MM → Prop) → (MM → Prop) → Prop) : Prop := ∀ (e : Int × Int) (q o k : Int) (m : MM) (Q : Int → MM → Prop), PF m e q o k → k < 12000 → (∀ m', PF m' e q o (k + 1) → FwM k m m' → Q k m') → rec 0 [] m Q T
section RINGM
variable {T : MM → Prop} {tk : Int → TK} {N : Int} {f : Nat} {rec : Nat → List Int → MM → (Int → MM → Prop) → (MM → Prop) → Prop} {m0 m m' : MM} {p o k0 k p0 v w s0 q : Int} {d : ND} {a : PT} {Q : Int → MM → Prop} {e : Int × Int}
theorem f_ring : RgF T (R_X10_readRing (f + 1)) := by
  intro e q o k m Q hP kb h
  show W_X10_readRing (R_X10_readRing f) m Q T
  unfold W_X10_readRing
  rw [hP.1.1]
  have b := hP.1
  refine f_nodeM hP kb (by omega) FwM.refl (Int.le_refl _) (fun m1 P1 F1 => ?_)
  rw [P1.2.1.1]
  have c := P1.2.1.2
  refine ⟨by constructor <;> omega, ?_⟩
  rw [if_neg (by omega)]
  exact h m1 P1 F1
theorem F912.agm {lo hi : Int} (f : F912 m m') : AgM lo hi m m' := fun c i z _ _ => f c i (by omega)
theorem F911.agm {lo hi : Int} (f : F911 m m') : AgM lo hi m m' := fun c i z _ _ => f c i (by omega)
theorem f_235 (hP : PF m e q (o + 1) k) (o0 : 0 ≤ o) (fr : FwM k0 m0 m) (hq : p0 ≤ q) (hk : k0 < k ∧ k ≤ k0 + 2 * (q - p0) + 2) (h0 : RgEr k0 p0 Q m0 o e) : P_X10_readRing_235 rec Q T k0 m := f_closeWith hP o0 (fun m' P f => h0 m' q k P (fr.f12 f) hq hk.1 hk.2)
theorem c_235 (hP : PM m tk N p (o + 1) k) (o0 : 0 ≤ o) (fr : FwM k0 m0 m) (hp : p0 ≤ p) (hT : TNB m a k0 k k0) (hk : k ≤ k0 + 2 * (p - p0)) (h1 : ndS tk 41 p = .ok (p + 1) → RgOk tk N k0 p0 Q m0 o a (p + 1)) (h0 : ∀ e, ndS tk 41 p = .error e → RgEr k0 p0 Q m0 o e) : P_X10_readRing_235 rec Q T k0 m := by
  have r := hT.rng
  exact c_closeWithM (c := 41) rfl (by decide) (by decide) hP o0 (fun m' g P f => h1 g m' k P (fr.f12 f) (hT.fr f.agm r.1 (Int.le_refl _) (Int.le_refl _) r.2.2.2) (by omega)) (fun e m' g P f => h0 e g m' p k P (fr.f12 f) hp (by omega) (by omega))
theorem f_216 (hF : RgF T rec) (hP : PF m e q (o + 1) k) (o0 : 0 ≤ o) (fr : FwM k0 m0 m) (hq : p0 ≤ q) (hk : 0 ≤ k0 ∧ k0 < k ∧ k ≤ k0 + 2 * (q - p0) + 1) (kb : k < 12000) (hs : RI s0) (h0 : RgEr k0 p0 Q m0 o e) : P_X10_readRing_216 rec Q T k0 s0 m := by
  refine ⟨hs, ?_⟩
  by_cases y : s0 = 3
  · rw [if_pos y]; exact f_235 hP o0 fr hq (by omega) h0
  · rw [if_neg y]
    refine hF e q (o + 1) k m _ hP kb (fun m1 P1 F1 => ⟨by omega, ?_⟩)
    rintro m2 rfl
    exact f_235 (P1.up (by decide)) o0 ((fr.trans F1 (by omega)).nd (by decide) (Int.le_refl _)) hq (by omega) h0
theorem f_204 (hF : RgF T rec) (hP : PF m e q (o + 1) k) (o0 : 0 ≤ o) (fr : FwM k0 m0 m) (hq : p0 ≤ q) (hk : 0 ≤ k0 ∧ k0 < k ∧ k ≤ k0 + 2 * (q - p0) + 1) (kb : k < 12000) (hs : RI s0) (h0 : RgEr k0 p0 Q m0 o e) : P_X10_readRing_204 rec Q T k0 s0 m := by
  refine ⟨hs, ?_⟩
  by_cases y : s0 = 6
  · rw [if_pos y]; exact f_sign hP (f_216 hF hP o0 fr hq hk kb hs h0)
  · rw [if_neg y]; exact f_216 hF hP o0 fr hq hk kb hs h0
theorem c_216 (hrec : RgC tk N T f rec) (hF : RgF T rec) (hf : 12 - o < f) (hP : PM m tk N p (o + 1) (k0 + 1)) (o0 : 0 ≤ o) (fr : FwM k0 m0 m) (hp : p0 + 2 ≤ p) (hk : 0 ≤ k0) (hb : k0 + 2 * (150 - p0) ≤ 11900) (hd : NM m d k0 ∧ m 591 k0 = -1) (hv : v = 17 ∧ s0 = 3 ∧ d.1 = 33 ∨ v = 18 ∧ s0 = 5 ∧ d.1 = 34 ∨ v = 19 ∧ s0 = 6 ∧ d.1 = 35) (h1 : ∀ a q, t272 tk f v d p o = .ok (a, q) → RgOk tk N k0 p0 Q m0 o a q) (h0 : ∀ e, t272 tk f v d p o = .error e → RgEr k0 p0 Q m0 o e) : P_X10_readRing_216 rec Q T k0 s0 m := by
  have pb := hP.2.1
  unfold t272 at h1 h0
  refine ⟨by constructor <;> omega, ?_⟩
  by_cases y : v = 17
  · rw [if_pos y] at h1 h0
    rw [if_pos (by omega)]
    refine c_235 (a := (d, lf)) hP o0 fr (by omega) ⟨k0 + 1, k0 + 1, [], by omega, hd.1, ?_, rfl, Int.le_refl _⟩ (by omega) (fun e => h1 _ _ (by rw [e]; rfl)) (fun e z => h0 e (by rw [z]; rfl))
    have e : d.1 = 33 := by omega
    refine ⟨fun z => by exfalso; have z' : d.1 = 5 ∨ d.1 = 6 := z; omega, fun z => by exfalso; have z' : d.1 = 7 := z; omega, fun z => by exfalso; have z' : d.1 = 8 := z; omega, fun z => by exfalso; have z' : d.1 = 9 ∨ d.1 = 10 ∨ 12 ≤ d.1 ∧ d.1 ≤ 21 := z; omega, fun z => by exfalso; have z' : d.1 = 11 ∨ d.1 = 22 := z; omega, fun z => by exfalso; have z' : d.1 = 23 := z; omega, fun z => by exfalso; have z' : d.1 = 24 ∨ d.1 = 25 := z; omega, fun _ => hd.2, fun z => by exfalso; have z' : 34 ≤ d.1 := z; omega⟩
  · rw [if_neg y] at h1 h0
    rw [if_neg (by omega)]
    refine hrec p (o + 1) (k0 + 1) m _ (by omega) hP (by omega) (fun a q ha m1 k1 P1 F1 T1 n1 => ⟨by omega, ?_⟩) (fun e z m1 q k1 P1 F1 hq k1a k1b => ⟨by omega, ?_⟩)
    · rintro m2 rfl
      have r1 := T1.rng
      have e591 : Tt d lf 0 := trivial
      have hN : NM (up m1 591 k0 (k0 + 1)) d k0 := by
        have h := NM.frr (m' := m1) (fun c z => F1 c k0 (by omega) (by omega)) hd.1
        obtain ⟨g1, g2, g3, g4, g5, g6, g7⟩ := h
        exact ⟨fun q => by rw [up_ne (by omega)]; exact g1 q, by rw [up_ne (by omega)]; exact g2, fun q => by rw [up_ne (by omega)]; exact g3 q, fun q => by rw [up_ne (by omega)]; exact g4 q, fun q => by rw [up_ne (by omega)]; exact g5 q, fun q => by rw [up_ne (by omega)]; exact g6 q, fun q => by rw [up_ne (by omega)]; exact g7 q⟩
      have hd34 : 34 ≤ d.1 ∧ d.1 ≤ 35 := by omega
      have pq := pT_lt ha
      refine c_235 (a := (d, chT [a])) (P1.up (by decide)) o0 ((fr.trans F1 (by omega)).nd (by decide) (Int.le_refl _)) (by omega) ⟨k0 + 1, k1, [k0 + 1], by omega, hN, ?_, ?_⟩ (by omega) (fun e => h1 _ _ (by rw [ha]; show (ndS tk 41 q >>= _) = _; rw [e]; rfl)) (fun e z => h0 e (by rw [ha]; show (ndS tk 41 q >>= _) = _; rw [z]; rfl))
      · refine ⟨fun z => by exfalso; have z' : d.1 = 5 ∨ d.1 = 6 := z; omega, fun z => by exfalso; have z' : d.1 = 7 := z; omega, fun z => by exfalso; have z' : d.1 = 8 := z; omega, fun z => by exfalso; have z' : d.1 = 9 ∨ d.1 = 10 ∨ 12 ≤ d.1 ∧ d.1 ≤ 21 := z; omega, fun z => by exfalso; have z' : d.1 = 11 ∨ d.1 = 22 := z; omega, fun z => by exfalso; have z' : d.1 = 23 := z; omega, fun z => by exfalso; have z' : d.1 = 24 ∨ d.1 = 25 := z; omega, fun z => by exfalso; have z' : 30 ≤ d.1 ∧ d.1 ≤ 33 := z; omega, fun _ => by rw [up_at]⟩
      · exact (T1.fr (fun c i z z1 z2 => up_ne (by omega)) r1.1 (Int.le_refl _) (Int.le_refl _) r1.2.2.2).one
    · rintro m2 rfl
      exact f_235 (P1.up (by decide)) o0 ((fr.trans F1 (by omega)).nd (by decide) (Int.le_refl _)) (by omega) (by omega) (h0 e (by rw [z]; rfl))
theorem NM.f12 (f : F912 m m') (h : NM m d k0) : NM m' d k0 := h.frr (fun c z => f c k0 (by omega))
theorem c_204 (hrec : RgC tk N T f rec) (hF : RgF T rec) (hf : 12 - o < f) (hP : PM m tk N p (o + 1) (k0 + 1)) (o0 : 0 ≤ o) (fr : FwM k0 m0 m) (hp : p0 + 2 ≤ p) (hk : 0 ≤ k0) (hb : k0 + 2 * (150 - p0) ≤ 11900) (hd : NM m d k0 ∧ m 591 k0 = -1) (hv : v = 17 ∧ s0 = 3 ∧ d.1 = 33 ∨ v = 18 ∧ s0 = 5 ∧ d.1 = 34 ∨ v = 19 ∧ s0 = 6 ∧ d.1 = 35) (h1 : ∀ a q, t260 tk f v d p o = .ok (a, q) → RgOk tk N k0 p0 Q m0 o a q) (h0 : ∀ e, t260 tk f v d p o = .error e → RgEr k0 p0 Q m0 o e) : P_X10_readRing_204 rec Q T k0 s0 m := by
  have pb := hP.2.1
  unfold t260 at h1 h0
  have rs : RI s0 := by constructor <;> omega
  refine ⟨rs, ?_⟩
  by_cases y : v = 19
  · rw [if_pos y] at h1 h0
    rw [if_pos (by omega)]
    refine c_signM (c := 44) rfl (by decide) (by decide) hP (fun m1 g P1 f1 => ?_) (fun e m1 g P1 f1 => ?_)
    · exact c_216 hrec hF hf P1 o0 (fr.f11 f1) (by omega) hk hb ⟨hd.1.frr (fun c z => f1 c k0 (by omega)), by rw [f1 _ _ (by omega)]; exact hd.2⟩ hv (fun a q z => h1 a q (by rw [g]; exact z)) (fun e z => h0 e (by rw [g]; exact z))
    · exact f_216 hF P1 o0 (fr.f11 f1) (by omega) (by omega) (by omega) rs (h0 e (by rw [g]; rfl))
  · rw [if_neg y] at h1 h0
    rw [if_neg (by omega)]
    exact c_216 hrec hF hf hP o0 fr hp hk hb hd hv h1 h0
theorem c_125 (hrec : RgC tk N T f rec) (hF : RgF T rec) (hf : 12 - o < f) (hP : PM m tk N p o (k0 + 1)) (fr : FwM k0 m0 m) (hk : 0 ≤ k0) (hb : k0 + 2 * (150 - p) ≤ 11900) (hk3 : kdS tk p = 3) (hd : m 591 k0 = -1 ∧ m 595 k0 = plS tk p) (hv : vlS tk p = 17 ∧ s0 = 3 ∨ vlS tk p = 18 ∧ s0 = 5 ∨ vlS tk p = 19 ∧ s0 = 6) (h1 : ∀ a q, pT tk (f + 1) p o = .ok (a, q) → RgOk tk N k0 p Q m0 o a q) (h0 : ∀ e, pT tk (f + 1) p o = .error e → RgEr k0 p Q m0 o e) : P_X10_readRing_125 rec Q T k0 s0 m := by
  have pb := hP.2.1
  have ob := hP.2.2.2.1.2
  have E := pT_147 tk (f := f) (o := o) hk3 (by omega)
  unfold t147 at E
  have rs : RI s0 := by constructor <;> omega
  refine ⟨rs, ?_⟩
  rw [if_pos (by omega)]
  refine c_acceptM hP (by have z : (tk p).1 = 3 := hk3; omega) (fun m1 g1 P1 f1 => ⟨by omega, ?_⟩) (fun e m1 g1 P1 f1 => ⟨by omega, ?_⟩)
  · rw [g1] at E
    have E1 : pT tk (f + 1) p o = (noS tk 40 (p + 1) o >>= fun q1 => if vlS tk p = 18 then t260 tk f (vlS tk p) ((if vlS tk p = 17 then 33 else if vlS tk p = 18 then 34 else 35), plS tk p, 0, 0) q1 o else (kdE tk 1 q1 >>= fun _ => t221 tk f (vlS tk p) (if vlS tk p = 17 then 33 else if vlS tk p = 18 then 34 else 35) (plS tk p) q1 o)) := E
    clear E
    rintro m2 rfl
    rw [if_neg (by omega), if_neg (by omega)]
    have P2 : PM (up m1 597 k0 s0) tk N (p + 1) o (k0 + 1) := P1.up (by decide)
    have F2 : FwM k0 m0 (up m1 597 k0 s0) := (fr.f582 (fun c i z => f1 c i (by omega))).nd (by decide) (Int.le_refl _)
    refine c_openWithM (c := 40) rfl (by decide) (by decide) P2 (fun m3 g3 P3 f3 => ?_) (fun e m3 q g3 P3 hq f3 => ?_)
    · rw [g3] at E1
      have E2 : pT tk (f + 1) p o = (if vlS tk p = 18 then t260 tk f (vlS tk p) ((if vlS tk p = 17 then 33 else if vlS tk p = 18 then 34 else 35), plS tk p, 0, 0) (p + 1 + 1) o else (kdE tk 1 (p + 1 + 1) >>= fun _ => t221 tk f (vlS tk p) (if vlS tk p = 17 then 33 else if vlS tk p = 18 then 34 else 35) (plS tk p) (p + 1 + 1) o)) := E1
      clear E1
      have F3 := F2.f12 f3
      have e591 : m3 591 k0 = -1 := by rw [f3 _ _ (by omega), up_ne (by omega), f1 _ _ (by omega)]; exact hd.1
      have e595 : m3 595 k0 = plS tk p := by rw [f3 _ _ (by omega), up_ne (by omega), f1 _ _ (by omega)]; exact hd.2
      have e597 : m3 597 k0 = s0 := by rw [f3 _ _ (by omega), up_at]
      by_cases y : vlS tk p = 18
      · rw [if_pos (by omega)]
        rw [if_pos y, if_neg (by omega), if_pos y] at E2
        refine c_204 (d := (34, plS tk p, 0, 0)) hrec hF hf P3 ob.1 F3 (by omega) hk hb ⟨⟨fun z => ?_, e595, fun z => ?_, fun z => ?_, fun z => ?_, fun _ => ?_, fun z => ?_⟩, e591⟩ (.inr (.inl ⟨y, by omega, rfl⟩)) (fun a q z => h1 a q (by rw [E2]; exact z)) (fun e z => h0 e (by rw [E2]; exact z))
        · exfalso; have z' : (34 : Int) < 30 := z; omega
        · exfalso; have z' : (34 : Int) = 0 ∨ (34 : Int) = 3 ∨ (34 : Int) = 23 ∨ (34 : Int) = 33 ∨ (34 : Int) = 35 := z; omega
        · exfalso; have z' : (34 : Int) = 4 ∨ (34 : Int) = 5 := z; omega
        · exfalso; have z' : (34 : Int) = 6 := z; omega
        · rw [e597]; show s0 = 5; omega
        · exfalso; have z' : (34 : Int) = 33 ∨ (34 : Int) = 35 := z; omega
      · rw [if_neg (by omega)]
        rw [if_neg y] at E2
        have E3 : pT tk (f + 1) p o = (kgS tk 1 (p + 1 + 1) >>= fun q => t260 tk f (vlS tk p) ((if vlS tk p = 17 then 33 else if vlS tk p = 18 then 34 else 35), plS tk p, vlS tk (p + 1 + 1), plS tk (p + 1 + 1)) q o) := by
          rw [E2]
          unfold kgS t221
          cases kdE tk 1 (p + 1 + 1) with
          | error e => rfl
          | ok u => rfl
        clear E2
        refine c_needM (kd := 1) rfl (.inl rfl) P3 (fun m4 g4 P4 f4 => ⟨by have := P3.2.1; omega, ?_⟩) (fun e m4 g4 P4 f4 => ⟨by have := P3.2.1; omega, ?_⟩)
        · rw [g4] at E3
          have pb3 := P3.2.1
          have t4 : m4 589 (p + 1 + 1) = vlS tk (p + 1 + 1) := by
            rw [f4 _ _ (by omega)]
            obtain ⟨⟨t1, t2, t3, t4⟩, t5, w⟩ := P3.tok
            refine t2 ?_
            unfold kgS at g4
            obtain ⟨u, hu, -⟩ := exb g4
            exact kd_ok hu
          have t5 : up m4 605 k0 (vlS tk (p + 1 + 1)) 588 (p + 1 + 1) = plS tk (p + 1 + 1) := by
            rw [up_ne (by omega), f4 _ _ (by omega)]; exact P3.tok.2.1
          rw [t4]
          intro m5 h5
          have h5' : m5 588 (p + 1 + 1) = plS tk (p + 1 + 1) := by rw [h5]; exact t5
          rw [h5']
          intro m6 h6
          have P6 : PM m6 tk N (p + 1 + 1 + 1) (o + 1) (k0 + 1) := by rw [h6, h5]; exact (P4.up (by decide)).up (by decide)
          have F6 : FwM k0 m0 m6 := by rw [h6, h5]; exact ((F3.f11 f4).nd (by decide) (Int.le_refl _)).nd (by decide) (Int.le_refl _)
          have a6 : ∀ c, c ≠ 605 → c ≠ 592 → 590 ≤ c → m6 c k0 = m3 c k0 := fun c z1 z2 z3 => by rw [h6, up_ne (by omega), h5, up_ne (by omega), f4 _ _ (by omega)]
          have b605 : m6 605 k0 = vlS tk (p + 1 + 1) := by rw [h6, up_ne (by omega), h5, up_at]
          have b592 : m6 592 k0 = plS tk (p + 1 + 1) := by rw [h6, up_at]
          have dd : (if vlS tk p = 17 then (33 : Int) else if vlS tk p = 18 then 34 else 35) = (if vlS tk p = 17 then 33 else 35) := by
            by_cases y1 : vlS tk p = 17
            · rw [if_pos y1, if_pos y1]
            · rw [if_neg y1, if_neg y1, if_neg y]
          rw [dd] at E3
          have d1 : (if vlS tk p = 17 then (33 : Int) else 35) = 33 ∧ vlS tk p = 17 ∨ (if vlS tk p = 17 then (33 : Int) else 35) = 35 ∧ vlS tk p = 19 := by
            by_cases y1 : vlS tk p = 17
            · rw [if_pos y1]; exact .inl ⟨rfl, y1⟩
            · rw [if_neg y1]; exact .inr ⟨rfl, by omega⟩
          generalize (if vlS tk p = 17 then (33 : Int) else 35) = kd at d1 E3
          refine c_204 (d := (kd, plS tk p, vlS tk (p + 1 + 1), plS tk (p + 1 + 1))) hrec hF hf P6 ob.1 F6 (by omega) hk hb ⟨⟨fun z => ?_, ?_, fun z => ?_, fun z => ?_, fun z => ?_, fun _ => ?_, fun z => ?_⟩, ?_⟩ ?_ (fun a q z => h1 a q (by rw [E3]; exact z)) (fun e z => h0 e (by rw [E3]; exact z))
          · exfalso; have z' : kd < 30 := z; omega
          · rw [a6 _ (by decide) (by decide) (by decide)]; exact e595
          · exact b605
          · exfalso; have z' : kd = 4 ∨ kd = 5 := z; omega
          · exfalso; have z' : kd = 6 := z; omega
          · rw [a6 _ (by decide) (by decide) (by decide), e597]
            show s0 = (if kd = 30 then _ else if kd = 31 then 2 else if kd = 32 then 4 else if kd = 33 then 3 else if kd = 34 then 5 else 6)
            rw [if_neg (by omega), if_neg (by omega), if_neg (by omega)]
            by_cases y1 : kd = 33
            · rw [if_pos y1]; omega
            · rw [if_neg y1, if_neg (by omega)]; omega
          · exact b592
          · rw [a6 _ (by decide) (by decide) (by decide)]; exact e591
          · show vlS tk p = 17 ∧ s0 = 3 ∧ kd = 33 ∨ vlS tk p = 18 ∧ s0 = 5 ∧ kd = 34 ∨ vlS tk p = 19 ∧ s0 = 6 ∧ kd = 35
            omega
        · rintro m5 rfl m6 rfl
          exact f_204 hF ((P4.up (by decide)).up (by decide)) ob.1 (((F3.f11 f4).nd (by decide) (Int.le_refl _)).nd (by decide) (Int.le_refl _)) (by omega) (by omega) (by omega) rs (h0 e (by rw [E3, g4]; rfl))
    · have F3 := F2.f12 f3
      have hE := h0 e (by rw [E1, g3]; rfl)
      have qb := P3.1
      by_cases y : s0 = 5
      · rw [if_pos y]
        exact f_204 hF P3 ob.1 F3 (by omega) (by omega) (by omega) rs hE
      · rw [if_neg y]
        refine f_need P3 ⟨by omega, ?_⟩
        rintro m5 rfl m6 rfl
        exact f_204 hF ((P3.up (by decide)).up (by decide)) ob.1 ((F3.nd (by decide) (Int.le_refl _)).nd (by decide) (Int.le_refl _)) (by omega) (by omega) (by omega) rs hE
  · have hE := h0 e (by rw [E, g1]; rfl)
    rintro m2 rfl
    rw [if_neg (by omega), if_neg (by omega)]
    have P2 : PF (up m1 597 k0 s0) e p o (k0 + 1) := P1.up (by decide)
    have F2 : FwM k0 m0 (up m1 597 k0 s0) := (fr.f582 (fun c i z => f1 c i (by omega))).nd (by decide) (Int.le_refl _)
    refine f_openWith P2 (by omega) (fun m3 P3 f3 => ?_)
    have F3 := F2.f12 f3
    by_cases y : s0 = 5
    · rw [if_pos y]
      exact f_204 hF P3 ob.1 F3 (by omega) (by omega) (by omega) rs hE
    · rw [if_neg y]
      refine f_need P3 ⟨by omega, ?_⟩
      rintro m5 rfl m6 rfl
      exact f_204 hF ((P3.up (by decide)).up (by decide)) ob.1 ((F3.nd (by decide) (Int.le_refl _)).nd (by decide) (Int.le_refl _)) (by omega) (by omega) (by omega) rs hE
theorem TNB.rg (hd : 30 ≤ d.1 ∧ d.1 ≤ 32) (kb : 0 ≤ k ∧ k < 12000) (e1 : m 591 k = -1) (e5 : m 595 k = d.2.1) (e7 : m 597 k = if d.1 = 30 then d.2.2.1 else if d.1 = 31 then 2 else 4) : TNB m (d, lf) k (k + 1) k := by
  refine ⟨k + 1, k + 1, [], by omega, ⟨fun z => ?_, e5, fun z => ?_, fun z => ?_, fun z => ?_, fun _ => ?_, fun z => ?_⟩, ⟨fun z => ?_, fun z => ?_, fun z => ?_, fun z => ?_, fun z => ?_, fun z => ?_, fun z => ?_, fun _ => e1, fun z => ?_⟩, rfl, Int.le_refl _⟩
  · exfalso; have z' : d.1 < 30 := z; omega
  · exfalso; have z' : d.1 = 0 ∨ d.1 = 3 ∨ d.1 = 23 ∨ d.1 = 33 ∨ d.1 = 35 := z; omega
  · exfalso; have z' : d.1 = 4 ∨ d.1 = 5 := z; omega
  · exfalso; have z' : d.1 = 6 := z; omega
  · rw [e7]
    show _ = (if d.1 = 30 then d.2.2.1 else if d.1 = 31 then 2 else if d.1 = 32 then 4 else if d.1 = 33 then 3 else if d.1 = 34 then 5 else 6)
    by_cases y : d.1 = 30
    · rw [if_pos y, if_pos y]
    · rw [if_neg y, if_neg y]
      by_cases y : d.1 = 31
      · rw [if_pos y, if_pos y]
      · rw [if_neg y, if_neg y, if_pos (by omega)]
  · exfalso; have z' : d.1 = 33 ∨ d.1 = 35 := z; omega
  · exfalso; have z' : d.1 = 5 ∨ d.1 = 6 := z; omega
  · exfalso; have z' : d.1 = 7 := z; omega
  · exfalso; have z' : d.1 = 8 := z; omega
  · exfalso; have z' : d.1 = 9 ∨ d.1 = 10 ∨ 12 ≤ d.1 ∧ d.1 ≤ 21 := z; omega
  · exfalso; have z' : d.1 = 11 ∨ d.1 = 22 := z; omega
  · exfalso; have z' : d.1 = 23 := z; omega
  · exfalso; have z' : d.1 = 24 ∨ d.1 = 25 := z; omega
  · exfalso; have z' : 34 ≤ d.1 := z; omega
/-- rings are read as the specification says -/
theorem c_ringP : ∀ (f dep : Nat), f < dep → RgC tk N T f (R_X10_readRing dep) := by
  intro f
  induction f with
  | zero => intro dep _ p o k0 m Q hf hP; exfalso; have := hP.2.2.2.1.2; omega
  | succ f ih =>
    intro dep hd p o k0 m Q hf hP hb h1 h0
    obtain ⟨d, rfl⟩ : ∃ d, dep = d + 1 + 1 := ⟨dep - 2, by omega⟩
    have hrec : RgC tk N T f (R_X10_readRing (d + 1)) := ih (d + 1) (by omega)
    have hF : RgF T (R_X10_readRing (d + 1)) := f_ring
    have pb := hP.2.1
    have kb := hP.2.2.2.2
    obtain ⟨⟨t1, t2, t3, t4⟩, t5, w⟩ := hP.tok
    show W_X10_readRing (R_X10_readRing (d + 1)) m Q T
    unfold W_X10_readRing
    rw [pb.1]
    refine c_nodeM kb.1 (by omega) (by omega) (fun m1 f1 e15 e590 e591 e592 e593 e594 e595 e597 e605 => ?_)
    have P1 := hP.nd f1 e15
    have F1 : FwM k0 m m1 := FwM.refl.ad (Int.le_refl _) f1
    rw [t5] at e595
    rw [P1.2.2.1]
    refine ⟨by decide, ?_⟩
    rw [if_pos (by decide)]
    -- the plain ones
    have plain : ∀ s v, (v = 14 ∧ s = 0 ∨ v = 15 ∧ s = 1 ∨ v = 16 ∧ s = 2 ∨ v = 20 ∧ s = 4) → isKy tk v p → P_X10_readRing_125 (R_X10_readRing (d + 1)) Q T k0 s m1 := by
      intro s v hs y
      have yk : kdS tk p = 3 := y.1
      have yv : vlS tk p = v := y.2
      have E : pT tk (f + 1) p o = (goS tk p >>= fun q => pure ((((if vlS tk p = 16 then 31 else if vlS tk p = 20 then 32 else 30), plS tk p, (if vlS tk p = 15 then 1 else 0), 0), lf), q)) := by
        unfold pT
        rw [if_neg (by rw [yk]; decide), if_pos (by omega)]
      refine ⟨by constructor <;> omega, ?_⟩
      rw [if_pos (by omega)]
      have lst : ∀ m2, (if s < 3 then Q k0 m2 else if s = 4 then Q k0 m2 else P_X10_openWith 40 m2 (fun r2 m3 => (if s = 5 then P_X10_readRing_204 (R_X10_readRing (d + 1)) Q T k0 s m3 else P_X10_need 4 m3 (fun r3 m4 => (0 ≤ r3 ∧ r3 < 420) ∧ ∀ m5 : MM, m5 = up m4 605 k0 (m4 589 r3) → ∀ m6 : MM, m6 = up m5 592 k0 (m5 588 r3) → P_X10_readRing_204 (R_X10_readRing (d + 1)) Q T k0 s m6)))) ↔ Q k0 m2 := by
        intro m2
        by_cases z : s < 3
        · rw [if_pos z]
        · rw [if_neg z, if_pos (by omega)]
      refine c_acceptM P1 (ky_kd y) (fun m2 g2 P2 f2 => ⟨by omega, ?_⟩) (fun e m2 g2 P2 f2 => ⟨by omega, ?_⟩)
      · intro m3 h3
        refine (lst m3).2 ?_
        have P3 : PM m3 tk N (p + 1) o (k0 + 1) := by rw [h3]; exact P2.up (by decide)
        have F3 : FwM k0 m m3 := by rw [h3]; exact (F1.f582 (fun c i z => f2 c i (by omega))).nd (by decide) (Int.le_refl _)
        have a3 : ∀ c, c ≠ 597 → 590 ≤ c → m3 c k0 = m1 c k0 := fun c z z1 => by rw [h3, up_ne (by omega), f2 _ _ (by omega)]
        have hK : ((if vlS tk p = 16 then (31 : Int) else if vlS tk p = 20 then 32 else 30) = 30 ∧ (if vlS tk p = 15 then (1 : Int) else 0) = s) ∨ ((if vlS tk p = 16 then (31 : Int) else if vlS tk p = 20 then 32 else 30) = 31 ∧ s = 2) ∨ ((if vlS tk p = 16 then (31 : Int) else if vlS tk p = 20 then 32 else 30) = 32 ∧ s = 4) := by
          rw [yv]
          rcases hs with ⟨rfl, rfl⟩ | ⟨rfl, rfl⟩ | ⟨rfl, rfl⟩ | ⟨rfl, rfl⟩ <;> decide
        rw [g2] at E
        generalize (if vlS tk p = 16 then (31 : Int) else if vlS tk p = 20 then 32 else 30) = ks at hK E
        generalize (if vlS tk p = 15 then (1 : Int) else 0) = v' at hK E
        refine h1 ((ks, plS tk p, v', 0), lf) (p + 1) E m3 (k0 + 1) P3 F3 (TNB.rg (d := (ks, plS tk p, v', 0)) (by show 30 ≤ ks ∧ ks ≤ 32; omega) (by omega) (by rw [a3 _ (by decide) (by decide)]; exact e591) (by rw [a3 _ (by decide) (by decide)]; exact e595) ?_) (by omega)
        rw [h3, up_at]
        show s = if ks = 30 then v' else if ks = 31 then 2 else 4
        by_cases y1 : ks = 30
        · rw [if_pos y1]; omega
        · rw [if_neg y1]
          by_cases y1 : ks = 31
          · rw [if_pos y1]; omega
          · rw [if_neg y1]; omega
      · intro m3 h3
        refine (lst m3).2 ?_
        have P3 : PF m3 e p o (k0 + 1) := by rw [h3]; exact P2.up (by decide)
        have F3 : FwM k0 m m3 := by rw [h3]; exact (F1.f582 (fun c i z => f2 c i (by omega))).nd (by decide) (Int.le_refl _)
        exact h0 e (by rw [E, g2]; rfl) m3 p (k0 + 1) P3 F3 (Int.le_refl _) (by omega) (by omega)
    have over : ∀ s v, (v = 17 ∧ s = 3 ∨ v = 18 ∧ s = 5 ∨ v = 19 ∧ s = 6) → isKy tk v p → P_X10_readRing_125 (R_X10_readRing (d + 1)) Q T k0 s m1 := by
      intro s v hs y
      have yk : kdS tk p = 3 := y.1
      have yv : vlS tk p = v := y.2
      exact c_125 hrec hF (by omega) P1 F1 kb.2 hb yk ⟨e591, e595⟩ (by omega) h1 h0
    refine c_isKeyM (c := 14) rfl (by decide) P1 (fun y => ⟨by decide, ?_⟩) (fun y14 => ⟨by decide, ?_⟩)
    · rw [if_neg (by decide)]; exact plain 0 14 (by decide) y
    rw [if_pos rfl]
    refine c_isKeyM (c := 15) rfl (by decide) P1 (fun y => ⟨by decide, ?_⟩) (fun y15 => ⟨by decide, ?_⟩)
    · rw [if_neg (by decide)]; exact plain 1 15 (by decide) y
    rw [if_pos rfl]
    refine c_isKeyM (c := 16) rfl (by decide) P1 (fun y => ⟨by decide, ?_⟩) (fun y16 => ⟨by decide, ?_⟩)
    · rw [if_neg (by decide)]; exact plain 2 16 (by decide) y
    rw [if_pos rfl]
    refine c_isKeyM (c := 17) rfl (by decide) P1 (fun y => ⟨by decide, ?_⟩) (fun y17 => ⟨by decide, ?_⟩)
    · rw [if_neg (by decide)]; exact over 3 17 (by decide) y
    rw [if_pos rfl]
    refine c_isKeyM (c := 20) rfl (by decide) P1 (fun y => ⟨by decide, ?_⟩) (fun y20 => ⟨by decide, ?_⟩)
    · rw [if_neg (by decide)]; exact plain 4 20 (by decide) y
    rw [if_pos rfl]
    refine c_isKeyM (c := 18) rfl (by decide) P1 (fun y => ⟨by decide, ?_⟩) (fun y18 => ⟨by decide, ?_⟩)
    · rw [if_neg (by decide)]; exact over 5 18 (by decide) y
    rw [if_pos rfl]
    refine c_isKeyM (c := 19) rfl (by decide) P1 (fun y => ⟨by decide, ?_⟩) (fun y19 => ⟨by decide, ?_⟩)
    · rw [if_neg (by decide)]; exact over 6 19 (by decide) y
    rw [if_pos rfl]
    refine ⟨by decide, ?_⟩
    rw [if_neg (by decide)]
    have E : pT tk (f + 1) p o = .error (1, plS tk p) := by
      unfold pT
      by_cases y3 : kdS tk p = 3
      · rw [if_neg (by rw [y3]; decide), if_neg (fun z => ?_), if_pos (fun z => ?_)]
        · rcases z with z | z | z
          · exact y17 ⟨y3, z⟩
          · exact y18 ⟨y3, z⟩
          · exact y19 ⟨y3, z⟩
        · rcases z with z | z | z | z
          · exact y14 ⟨y3, z⟩
          · exact y15 ⟨y3, z⟩
          · exact y16 ⟨y3, z⟩
          · exact y20 ⟨y3, z⟩
      · rw [if_pos y3]
    refine c_failM P1 (by decide) (fun m2 P2 f2 => h0 _ E m2 p (k0 + 1) P2 (F1.f582 (fun c i z => f2 c i (by omega))) (Int.le_refl _) (by omega) (by omega))
end RINGM
