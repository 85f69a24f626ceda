set_option maxRecDepth 100000
/-! greatest common divisors -/
def numR (g : Int) : Int → PP := fun k => if k = 0 then (g, 1) else (0, 1)
def numV (g : Int) : VV := rvv (numR g)
theorem numR_NR {mu g : Int} (hM : MU mu) (hg : NB mu (g, 1)) : NR mu 1 (numR g) := by
  refine ⟨fun k => ?_, fun k hk => ?_⟩
  · unfold numR
    split
    · exact hg
    · exact NB_zr hM
  · unfold numR
    rw [if_neg (by omega)]
theorem cof0 : cof 0 = 1 := rfl
theorem cof1 : cof 1 = 7 := rfl
theorem cof2 : cof 2 = 49 := rfl
theorem numV_NN {mu g : Int} (hM : MU mu) (hg : NB mu (g, 1)) : NN mu 0 0 (numV g) := rvv_NN hM (by rw [cof0]; exact numR_NR hM hg)
/-- a value without entries is its row -/
theorem VC_row {g : Int → Int} {x d : Int} {u : Int → PP} (h : Rw g x u (cof d)) : VC g x d 0 (rvv u) := by
  intro i j hi hj
  have r0 : rws 0 = 1 := rfl
  rw [show i = 0 by omega, show j = 0 by omega, rvv_at, show EA d 0 0 0 = 0 by unfold EA; omega, Int.add_zero]
  exact h
theorem VC.row0 {g : Int → Int} {x d : Int} {V : VV} (h : VC g x d 0 V) : Rw g x (V 0 0) (cof d) := by
  have r0 : rws 0 = 1 := rfl
  have := h 0 0 (by omega) (by omega)
  rw [show EA d 0 0 0 = 0 by unfold EA; omega, Int.add_zero] at this
  exact this
theorem c_integer {m : MM} {Q : Int → MM → Prop} {k : Int} (h : ∀ m', Fc (fun q => 1155420 ≤ q ∧ q < 1155422) m m' → m' 378 2 = m 378 2 → VC (m' 379) 1155420 0 0 (numV k) → Q 0 m') : P_X6_integer k m Q := by
  rintro _ rfl _ rfl
  refine h _ (Fc.trans (Fc.ofUp (by decide)) (Fc.ofUp (by decide))) (by rw [up_ne (fun z => absurd z.1 (by decide)), up_ne (fun z => absurd z.1 (by decide))]) (VC_row (fun j j0 j1 => ?_))
  rw [cof0] at j1
  have : j = 0 := by omega
  subst this
  refine ⟨?_, ?_⟩
  · rw [show (1155420 : Int) + 2 * 0 = 1155420 by decide, up_neI (by decide), up_at]
    rfl
  · rw [show (1155420 : Int) + 2 * 0 + 1 = 1155421 by decide, up_at]
    rfl
theorem c_tellNumber {m : MM} {Q : Int → MM → Prop} {x a : Int} (hx : Pl x 882) (h : ∀ m', Fm (SX x) m m' → m' 582 84 = m 582 84 → VM (m' 635) x (numV a) → Q 0 m') : P_X10_tellNumber x a m Q := by
  refine c_clear (n := 441) (by omega) (by omega) (fun m1 f1 e1 r1 => ?_)
  have f1' : Fm (SX x) m m1 := f1.mono (fun q z => by have z1 : x ≤ q ∧ q < x + 2 * 441 := z; unfold SX; omega)
  have v1 : VM (m1 635) x (rvv zr) := by rw [rvv_zr]; exact VM_clear r1
  refine c_set (by omega) ?_
  refine h _ (f1'.trans (Fm.ofPt (by unfold SX; omega) (by unfold SX; omega))) (by rw [pt_oth (by decide), e1]) ?_
  refine v1.chg (c := 1) (Fm.ofPt (S := fun q => x ≤ q ∧ q < x + 2) (by omega) (by omega)) (fun q q0 q1 z => by omega) (fun j j0 j1 => ?_) (by decide) (fun _ _ => rfl) (fun k hk => ?_) (by decide)
  · have : j = 0 := by omega
    subst this
    have q := pt_at (m := m1) (a := 635) (x := x) (p := (a, 1))
    rw [show x + 2 * 0 = x by omega]
    exact ⟨congrArg Prod.fst q, congrArg Prod.snd q⟩
  · unfold numR
    rw [if_neg (by omega)]
def gcG (mu : Int) : Nat → (Int → PP) → (Int → PP) → EX (Int → PP)
  | 0, u, _ => .ok u
  | n + 1, u, v => if degS v < 0 then .ok u else match dvP mu u v with
    | .error e => .error e
    | .ok (_, w) => gcG mu n v w
noncomputable def nrmS (mu : Int) (u : Int → PP) : EX VV := if degS u < 0 then .ok (rvv u) else mapE 1 0 (fun _ _ k => divS mu (u k) (u (degS u)))
noncomputable def gcdS (mu : Int) (u v : Int → PP) : EX VV := match gcG mu 8 u v with
  | .error e => .error e
  | .ok w => nrmS mu w
theorem gcG_NR {mu : Int} (hM : MU mu) : ∀ (n : Nat) (u v w : Int → PP), NR mu 7 u → NR mu 7 v → gcG mu n u v = .ok w → NR mu 7 w := by
  intro n
  induction n with
  | zero => intro u v w nu _ h; cases h; exact nu
  | succ n ih =>
    intro u v w nu nv h
    unfold gcG at h
    split at h
    · cases h; exact nu
    · split at h
      case h_1 => cases h
      case h_2 q w2 hq => exact ih v w2 w nv (dvP_NR hM nu nv hq).2 h
theorem gcG_err {mu e : Int} : ∀ (n : Nat) (u v : Int → PP), gcG mu n u v = .error e → e = 1 ∨ e = 2 := by
  intro n
  induction n with
  | zero => intro u v h; cases h
  | succ n ih =>
    intro u v h
    unfold gcG at h
    split at h
    · cases h
    · split at h
      case h_1 he => cases h; exact dvP_err he
      case h_2 q w2 hq => exact ih v w2 h
theorem nrmS_NN {mu : Int} {u : Int → PP} {U : VV} (hM : MU mu) (nu : NR mu 7 u) (h : nrmS mu u = .ok U) : NN mu 1 0 U := by
  unfold nrmS at h
  have hb := degS_bd u
  split at h
  · cases h; exact rvv_NN hM (by rw [cof1]; exact nu)
  · exact mapE_NN hM (fun i j k p _ hp => NB.div hM (nu.1 k) (nu.1 _) (degG_v (by omega)) hp) h
theorem gcdS_NN {mu : Int} {u v : Int → PP} {U : VV} (hM : MU mu) (nu : NR mu 7 u) (nv : NR mu 7 v) (h : gcdS mu u v = .ok U) : NN mu 1 0 U := by
  unfold gcdS at h
  split at h
  case h_1 => cases h
  case h_2 w hw => exact nrmS_NN hM (gcG_NR hM _ _ _ _ nu nv hw) h
theorem gcdS_err {mu e : Int} {u v : Int → PP} (h : gcdS mu u v = .error e) : e = 1 ∨ e = 2 := by
  unfold gcdS at h
  split at h
  case h_1 he => cases h; exact gcG_err _ _ _ he
  case h_2 w hw =>
    unfold nrmS at h
    split at h
    · cases h
    · exact Or.inl (mapE_err h)
section GCD
variable {Q : Int → MM → Prop} {r b base mu x y : Int} {u v : Int → PP}
/-- two operands, and what lies behind the stack -/
def S2K (x y : Int) (q : Int) : Prop := x ≤ q ∧ q < x + 14 ∨ y ≤ q ∧ q < y + 14 ∨ 1155420 ≤ q
theorem in10 {i j k : Int} : inV 1 0 i j k ↔ i = 0 ∧ j = 0 ∧ 0 ≤ k ∧ k < 7 := by
  have r0 : rws 0 = 1 := rfl
  unfold inV
  rw [r0, cof1]
  omega
theorem gcdC_95 {m0 m : MM} (hb : RI b) (hmu : muC m b = mu) (hM : MU mu) (hf : FD mu) (he : m 378 2 = 0) (bx : 0 ≤ x ∧ x + 14 ≤ 1155420) (rx : Rw (m 379) x u 7) (nu : NR mu 7 u) (h : OutV (fun q => 1155420 ≤ q) m (nrmS mu u) 1155420 1 0 Q) : P_X6_common_95 Q x b m := by
  have hbu := degS_bd u
  refine c_X8_degree (by omega) rx (fun k _ _ => nu.ri k) (c_X8_copy (by decide) (by omega) (by decide) (fun m1 f1 e1 cp => ?_))
  have f1' : Fc (fun q => 1155420 ≤ q) m m1 := f1.mono (fun q z => by omega)
  have r1 : Rw (m1 379) 1155420 u 7 := rx.cp cp
  have rx1 : Rw (m1 379) x u 7 := rx.fr f1 (fun q q0 q1 z => by omega)
  unfold nrmS at h
  by_cases c : degS u < 0
  · rw [if_pos c] at h
    refine ⟨1, by decide, ?_⟩
    rw [if_neg (by decide)]
    refine ⟨by constructor <;> omega, ?_⟩
    rw [if_pos c]
    exact h.1 _ m1 rfl f1' (by rw [e1, he]) (VC_row (by rw [cof1]; exact r1))
  · rw [if_neg c] at h
    have L : ∀ (n : Nat) (k : Int) (m' : MM), 0 ≤ k → k + n = 7 → Fc (fun q => 1155420 ≤ q) m m' → m' 378 2 = 0 → (∀ j, 0 ≤ j → j < k → ∃ p, divS mu (u j) (u (degS u)) = .ok p) → Rw (m' 379) 1155420 (fun j => okv (divS mu (u j) (u (degS u)))) k → P_X6_common_120 Q (n + 1) x b (degS u) k m' := by
      intro n
      induction n with
      | zero =>
        intro k m' k0 k1 f e all rk
        refine ⟨by constructor <;> omega, ?_⟩
        rw [if_pos (by omega)]
        have : k = 7 := by omega
        subst this
        refine h.1 _ m' (mapE_ok (fun i j k hk => all k (in10.1 hk).2.2.1 (in10.1 hk).2.2.2)) f e ?_
        intro i j hi hj k k0 k1
        have r0 : rws 0 = 1 := rfl
        rw [cof1] at k1
        rw [show i = 0 by omega, show j = 0 by omega, show EA 1 0 0 0 = 0 by decide, Int.add_zero]
        simp only [if_pos (in10.2 ⟨rfl, rfl, k0, k1⟩)]
        exact rk k k0 k1
      | succ n ih =>
        intro k m' k0 k1 f e all rk
        refine ⟨by constructor <;> omega, ?_⟩
        rw [if_neg (by omega)]
        refine ⟨by constructor <;> omega, ?_⟩
        rw [if_neg c]
        refine ⟨by rw [e]; decide, ?_⟩
        rw [if_pos e]
        have rx' : Rw (m' 379) x u 7 := rx.fr f (fun q q0 q1 z => by omega)
        have pk : pr m' 379 (x + 2 * k) = u k := rx'.at k0 (by omega)
        have pd : pr m' 379 (x + 2 * degS u) = u (degS u) := rx'.at (by omega) (by omega)
        refine c_X8_by hb (by rw [f.mu, hmu]) hM hf (by omega) (by omega) (by omega) (by rw [pk]; exact nu.1 _) (by rw [pd]; exact nu.1 _) (by rw [pd]; exact degG_v (by omega)) (fun p hp => ?_) (fun z hz => ?_)
        · rw [pk, pd] at hp
          refine ih (k + 1) _ (by omega) (by omega) (f.trans (Fc.ofPt (by omega) (by omega))) (by rw [pt_oth (by decide), e]) (fun j j0 j1 => ?_) (rk.push ?_)
          · by_cases c : j = k
            · rw [c]; exact ⟨p, hp⟩
            · exact all j j0 (by omega)
          · show okv (divS mu (u k) (u (degS u))) = p
            rw [hp]
            rfl
        · rw [pk, pd] at hz
          have := divS_err hz
          have q1 := h.2 1 _ (mapE_er (f := fun _ _ k => divS mu (u k) (u (degS u))) (in10.2 ⟨rfl, rfl, k0, by omega⟩) hz) (f.trans (Fc.err (e := z))) (by rw [up_at, this])
          refine ⟨by constructor <;> omega, ?_⟩
          by_cases c7 : 7 ≤ k + 1
          · rw [if_pos c7]; exact q1
          · rw [if_neg c7]
            refine ⟨by constructor <;> omega, ?_⟩
            rw [if_neg c]
            refine ⟨by rw [up_at, this]; decide, ?_⟩
            rw [if_neg (by rw [up_at, this]; decide)]
            exact q1
    exact ⟨8, L 7 0 m1 (by decide) (by decide) f1' (by rw [e1, he]) (fun j j0 j1 => by omega) (fun j j0 j1 => by omega)⟩
theorem c_X6_commonP {m : MM} (hR : RG r b 1 0) (hmu : muC m b = mu) (hM : MU mu) (hf : FD mu) (he : m 378 2 = 0) (bx : 0 ≤ x ∧ x + 14 ≤ 1155420) (by_ : 0 ≤ y ∧ y + 14 ≤ 1155420) (dxy : Dj x 14 y 14) (rx : Rw (m 379) x u 7) (ry : Rw (m 379) y v 7) (nu : NR mu 7 u) (nv : NR mu 7 v) (h : OutV (S2K x y) m (gcdS mu u v) 1155420 1 0 Q) : P_X6_common r x y m Q := by
  obtain ⟨-, hb, hd, hs⟩ := id hR
  have rb : RI b := by constructor <;> omega
  refine c_depth hR ⟨by decide, ?_⟩
  rw [if_neg (by decide)]
  refine c_base hR ?_
  unfold gcdS at h
  generalize hG : gcG mu 8 u v = G at h
  have L : ∀ (n : Nat) (u1 v1 : Int → PP) (m' : MM), Fc (S2K x y) m m' → m' 378 2 = 0 → Rw (m' 379) x u1 7 → Rw (m' 379) y v1 7 → NR mu 7 u1 → NR mu 7 v1 → degS v1 < n → gcG mu n u1 v1 = G → P_X6_common_36 Q (n + 1) x y b m' := by
    intro n
    induction n with
    | zero =>
      intro u1 v1 m' f e r1 r2 n1 n2 hn hs'
      have hbv := degS_bd v1
      refine ⟨by rw [e]; decide, ?_⟩
      rw [if_pos e]
      refine c_X8_degree (by omega) r2 (fun k _ _ => n2.ri k) ⟨by constructor <;> omega, ?_⟩
      rw [if_pos (by omega)]
      rw [← hs'] at h
      exact gcdC_95 (m0 := m) rb (by rw [f.mu, hmu]) hM hf e bx r1 n1 ⟨fun U m2 a1 a2 a3 a4 => h.1 U m2 a1 (f.trans (a2.mono (fun q z => Or.inr (Or.inr z)))) a3 a4, fun z m2 a1 a2 a3 => h.2 z m2 a1 (f.trans (a2.mono (fun q z => Or.inr (Or.inr z)))) a3⟩
    | succ n ih =>
      intro u1 v1 m' f e r1 r2 n1 n2 hn hs'
      have hbv := degS_bd v1
      refine ⟨by rw [e]; decide, ?_⟩
      rw [if_pos e]
      refine c_X8_degree (by omega) r2 (fun k _ _ => n2.ri k) ⟨by constructor <;> omega, ?_⟩
      unfold gcG at hs'
      by_cases c : degS v1 < 0
      · rw [if_pos c]
        rw [if_pos c] at hs'
        rw [← hs'] at h
        exact gcdC_95 (m0 := m) rb (by rw [f.mu, hmu]) hM hf e bx r1 n1 ⟨fun U m2 a1 a2 a3 a4 => h.1 U m2 a1 (f.trans (a2.mono (fun q z => Or.inr (Or.inr z)))) a3 a4, fun z m2 a1 a2 a3 => h.2 z m2 a1 (f.trans (a2.mono (fun q z => Or.inr (Or.inr z)))) a3⟩
      · rw [if_neg c]
        rw [if_neg c] at hs'
        refine c_X8_divide (u := u1) (v := v1) rb (by rw [f.mu, hmu]) hM hf e (by omega) (by omega) (by omega) r1 r2 n1 n2 ⟨fun q w m2 h2 f2 e2 rq rw_ => ?_, fun z m2 h2 f2 e2 => ?_⟩
        · rw [h2] at hs'
          simp only at hs'
          have nw := (dvP_NR hM n1 n2 h2).2
          have low := dvP_low hM hf n1 n2 h2
          have f2' : Fc (S2K x y) m m2 := f.trans (f2.mono (fun q z => by unfold SDc at z; unfold S2K; omega))
          have ry2 : Rw (m2 379) y v1 7 := r2.fr f2 (fun q q0 q1 z => by unfold SDc at z; omega)
          refine c_X8_copy (by decide) (by omega) (by omega) (fun m3 f3 e3 cp3 => ?_)
          have rx3 : Rw (m3 379) x v1 7 := ry2.cp cp3
          have rw3 : Rw (m3 379) 1157776 w 7 := rw_.fr f3 (fun q q0 q1 z => by omega)
          refine c_X8_copy (by decide) (by decide) (by omega) (fun m4 f4 e4 cp4 => ?_)
          exact ih v1 w m4 ((f2'.trans (f3.mono (fun q z => by unfold S2K; omega))).trans (f4.mono (fun q z => by unfold S2K; omega))) (by rw [e4, e3, e2]) (rx3.fr f4 (fun q q0 q1 z => by omega)) (rw3.cp cp4) n2 nw (by omega) hs'
        · rw [h2] at hs'
          rw [← hs'] at h
          have := dvP_err h2
          have f2' : Fc (S2K x y) m m2 := f.trans (f2.mono (fun q z => by unfold SDc at z; unfold S2K; omega))
          have ry2 : Rw (m2 379) y v1 7 := r2.fr f2 (fun q q0 q1 z => by unfold SDc at z; omega)
          refine c_X8_copy (by decide) (by omega) (by omega) (fun m3 f3 e3 cp3 => ?_)
          have rx3 : Rw (m3 379) x v1 7 := ry2.cp cp3
          refine c_X8_copy (by decide) (by decide) (by omega) (fun m4 f4 e4 cp4 => ?_)
          have rx4 : Rw (m4 379) x v1 7 := rx3.fr f4 (fun q q0 q1 z => by omega)
          have e4' : m4 378 2 = z := by rw [e4, e3, e2]
          refine ⟨by rw [e4']; constructor <;> omega, ?_⟩
          rw [if_neg (by rw [e4']; omega)]
          refine c_X8_degree (by omega) rx4 (fun k _ _ => n2.ri k) (c_X8_copy (by decide) (by omega) (by decide) (fun m5 f5 e5 cp5 => ?_))
          have q1 := h.2 z m5 rfl (((f2'.trans (f3.mono (fun q z => by unfold S2K; omega))).trans (f4.mono (fun q z => by unfold S2K; omega))).trans (f5.mono (fun q z => by unfold S2K; omega))) (by rw [e5, e4'])
          refine ⟨1, by decide, ?_⟩
          rw [if_neg (by decide)]
          refine ⟨by constructor <;> omega, ?_⟩
          by_cases cd : degS v1 < 0
          · rw [if_pos cd]; exact q1
          · rw [if_neg cd]
            refine ⟨by rw [e5, e4']; constructor <;> omega, ?_⟩
            rw [if_neg (by rw [e5, e4']; omega)]
            exact q1
  have hbv := degS_bd v
  exact ⟨9, L 8 u v m (Fc.refl m) he rx ry nu nv (by omega) hG⟩
end GCD
