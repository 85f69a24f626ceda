set_option maxRecDepth 100000
/-! greatest common divisors: the model; quotients and rests, both -/
theorem c_floorDivI {x y : Int} {m : MM} {Q : Int → MM → Prop} (hx : RI x) (hy : RI y) (h0 : 0 < y) (h : Q (x / y) m) : P_J4_floorDiv x y m Q := by
  have hs := ixor_sg hx hy
  have hm := Int.emod_nonneg x (show y ≠ 0 by omega)
  have hl := Int.emod_lt_of_pos x h0
  refine ⟨hx, hy, by omega, ixor_ri _ _, ?_⟩
  by_cases c : 0 ≤ x
  · rw [if_pos (hs.2 (by constructor <;> intro <;> omega)), tdiv_pos c]
    exact h
  · rw [if_neg (fun k => by have := hs.1 k; omega)]
    have e := tmod_neg' (x := x) (by omega) h0
    have t1 := Int.mul_tdiv_add_tmod x y
    have t2 := Int.mul_ediv_add_emod x y
    rw [Int.mul_comm (Int.tdiv x y) y]
    by_cases c2 : x % y = 0
    · rw [if_pos c2] at e
      refine ⟨by constructor <;> omega, ?_⟩
      rw [if_pos (by omega)]
      have : Int.tdiv x y = x / y := Int.eq_of_mul_eq_mul_left (show y ≠ 0 by omega) (by omega)
      rw [this]
      exact h
    · rw [if_neg c2] at e
      refine ⟨by constructor <;> omega, ?_⟩
      rw [if_neg (by omega)]
      have : Int.tdiv x y = x / y + 1 := by
        refine Int.eq_of_mul_eq_mul_left (show y ≠ 0 by omega) ?_
        rw [Int.mul_add, Int.mul_one]
        omega
      rw [this, show x / y + 1 - 1 = x / y by omega]
      exact h
section REST
variable {Q : Int → MM → Prop} {r b base mu x y : Int} {u v : Int → PP} {V W : VV}
theorem gcd_bd {a c : Int} (ha : -999999999 ≤ a ∧ a ≤ 999999999) (hc : -999999999 ≤ c ∧ c ≤ 999999999) : 0 ≤ (Int.gcd a c : Int) ∧ (Int.gcd a c : Int) ≤ 999999999 := by
  refine ⟨by omega, ?_⟩
  by_cases h : a = 0
  · rw [h, Int.zero_gcd]; omega
  · have := Nat.le_of_dvd (show 0 < a.natAbs by omega) (Int.natAbs_dvd_natAbs.2 (Int.gcd_dvd_left (a := a) (b := c)))
    have e : ((Int.gcd a c : Int)).natAbs = Int.gcd a c := by omega
    rw [e] at this
    omega
theorem c_X6_commonZ {m : MM} (hR : RG r b 0 0) (bx : 0 ≤ x ∧ x + 2 ≤ 1155420) (by_ : 0 ≤ y ∧ y + 2 ≤ 1155420) (vx : VC (m 379) x 0 0 V) (vy : VC (m 379) y 0 0 W) (nV : NN 0 0 0 V) (nW : NN 0 0 0 W) (h : ∀ m', Fc (fun q => 1155420 ≤ q ∧ q < 1155422) m m' → m' 378 2 = m 378 2 → VC (m' 379) 1155420 0 0 (numV (Int.gcd (V 0 0 0).1 (W 0 0 0).1)) → Q 0 m') : P_X6_common r x y m Q := by
  have rx := vx.row0 0 (by decide) (by decide)
  have ry := vy.row0 0 (by decide) (by decide)
  rw [show x + 2 * 0 = x by omega] at rx
  rw [show y + 2 * 0 = y by omega] at ry
  have p1 := (nV.1 0 0 0).p1
  have p2 := (nW.1 0 0 0).p1
  refine c_depth hR ⟨by decide, ?_⟩
  rw [if_pos rfl, rx.1, ry.1]
  exact ⟨by omega, by constructor <;> omega, by omega, by constructor <;> omega, c_X8_common (by constructor <;> omega) (by constructor <;> omega) (c_integer h)⟩
theorem c_X10_greatestZ {m : MM} (bx : 0 ≤ x ∧ x + 882 ≤ 1590000) (by_ : 0 ≤ y ∧ y + 882 ≤ 1590000) (vx : VM (m 635) x V) (vy : VM (m 635) y W) (nV : NN 0 0 0 V) (nW : NN 0 0 0 W) (h : ∀ m', Fm (SX x) m m' → m' 582 84 = m 582 84 → VM (m' 635) x (numV (Int.gcd (V 0 0 0).1 (W 0 0 0).1)) → Q 0 m') : P_X10_greatest x y base 0 m Q := by
  have rx := vx 0 0 (by decide) (by decide) 0 (by decide) (by decide)
  have ry := vy 0 0 (by decide) (by decide) 0 (by decide) (by decide)
  rw [show x + 98 * (3 * 0 + 0) + 2 * 0 = x by omega] at rx
  rw [show y + 98 * (3 * 0 + 0) + 2 * 0 = y by omega] at ry
  have p1 := (nV.1 0 0 0).p1
  have p2 := (nW.1 0 0 0).p1
  refine ⟨by decide, ?_⟩
  rw [if_pos rfl, rx.1, ry.1]
  exact ⟨by omega, by omega, c_X10_common (by constructor <;> omega) (by constructor <;> omega) (c_tellNumber (by omega) h)⟩
/-- a row of which so many are done -/
def dnR (f : Int → EX PP) (u : Int → PP) (k0 : Int) : Int → PP := fun k => if 0 ≤ k ∧ k < k0 then okv (f k) else u k
def S2M (x y : Int) (q : Int) : Prop := x ≤ q ∧ q < x + 882 ∨ y ≤ q ∧ q < y + 882 ∨ 1590000 ≤ q
theorem divS_z {mu : Int} {q : PP} (hM : MU mu) (nq : NB mu q) (q0 : q.1 ≠ 0) : divS mu (0, 1) q = .ok (0, 1) := by
  unfold divS
  by_cases c : mu = 1
  · rw [if_pos c]
    have e : nmV 1 (0 * q.2) (1 * q.1) = (0, 1) := by
      rw [Int.zero_mul, Int.one_mul]
      show ((if q.1 < 0 then Int.tdiv (-0) (Int.gcd 0 q.1) else Int.tdiv 0 (Int.gcd 0 q.1)), Int.tdiv (q.1.natAbs : Int) (Int.gcd 0 q.1)) = _
      rw [Int.zero_gcd, Int.neg_zero, Int.zero_tdiv, Int.tdiv_self (by omega)]
      split <;> rfl
    unfold nmS
    show (if okP (nmV 1 (0 * q.2) (1 * q.1)) then Except.ok (nmV 1 (0 * q.2) (1 * q.1)) else .error 1) = _
    rw [e, if_pos (by decide)]
  · rw [if_neg c]
    show nmS mu (0 * invS mu q.1) 1 = _
    rw [Int.zero_mul]
    unfold nmS nmV
    by_cases c0 : mu = 0
    · rw [if_pos c0, if_pos (by decide)]
    · rw [if_neg c0, if_neg c, Int.zero_emod, if_pos (by decide)]
theorem gcdM_83 {m : MM} (hB : BM m base mu) (hf : FD mu) (he : m 582 84 = 0) (bx : 0 ≤ x ∧ x + 882 ≤ 1590000) (vx : VM (m 635) x (rvv u)) (nu : NR mu 7 u) (h : OutW (fun q => SX x q ∨ 1590000 ≤ q) m (nrmS mu u) x Q) : P_X10_greatest_83 Q x base m := by
  have hM : MU mu := hB.2.2.2.1
  have hbu := degS_bd u
  refine c_X10_degreeOf (by omega) (vx.row.le (by decide)) (fun k _ _ => nu.rl k) ⟨by constructor <;> omega, ?_⟩
  unfold nrmS at h
  by_cases c : degS u < 0
  · rw [if_neg (by omega)]
    rw [if_pos c] at h
    exact h.1 _ m rfl (Fm.refl m) he vx
  · rw [if_pos (by omega)]
    rw [if_neg c] at h
    have hv := degG_v (v := u) (by omega)
    refine c_copy (n := 2) (by omega) (by decide) (Or.inr (by omega)) (fun m1 f1 e1 cp => ?_)
    have f1' : Fm (fun q => SX x q ∨ 1590000 ≤ q) m m1 := f1.mono (fun q z => Or.inr (by have z1 : 1594004 ≤ q ∧ q < 1594004 + 2 := z; omega))
    have pl : pr m1 635 1594004 = u (degS u) := by
      have := (vx.row.le (show (7 : Int) ≤ 49 by decide)).at (k := degS u) (by omega) (by omega)
      rw [← this]
      have a := cp 0 (by decide) (by decide)
      have b := cp 1 (by decide) (by decide)
      rw [Int.add_zero, Int.add_zero] at a
      unfold pr
      rw [a, show (1594004 : Int) + 1 = 1594004 + 1 from rfl, b]
    have v1 : VM (m1 635) x (rvv u) := vx.fm f1 (fun q q0 q1 z => by have z1 : 1594004 ≤ q ∧ q < 1594004 + 2 := z; omega)
    have okhi : ∀ k, degS u < k → k < 7 → divS mu (u k) (u (degS u)) = .ok (0, 1) := by
      intro k k0 k1
      have z : u k = (0, 1) := NB_zero (nu.1 k) (degG_ab 7 k (show degG u 7 < k by have : degG u 7 = degS u := rfl; omega) k1)
      rw [z]
      exact divS_z hM (nu.1 _) hv
    have L : ∀ (n : Nat) (k : Int) (m' : MM), 0 ≤ k → k + n = degS u + 1 → Fm (fun q => SX x q ∨ 1590000 ≤ q) m m' → m' 582 84 = 0 → pr m' 635 1594004 = u (degS u) → VM (m' 635) x (rvv (dnR (fun j => divS mu (u j) (u (degS u))) u k)) → (∀ j, 0 ≤ j → j < k → ∃ p, divS mu (u j) (u (degS u)) = .ok p) → P_X10_greatest_113 Q (n + 1) x base (degS u) k m' := by
      intro n
      induction n with
      | zero =>
        intro k m' k0 k1 f e pl v all
        refine ⟨by constructor <;> omega, by constructor <;> omega, ?_⟩
        rw [if_pos (by omega)]
        refine h.1 _ m' (mapE_ok (fun i j l hl => ?_)) f e ?_
        · have hl' := in10.1 hl
          by_cases cl : l < k
          · exact all l hl'.2.2.1 cl
          · exact ⟨_, okhi l (by omega) hl'.2.2.2⟩
        · intro i j hi hj l l0 l1
          have o := v i j hi hj l l0 l1
          have ev : rvv (dnR (fun j => divS mu (u j) (u (degS u))) u k) i j l = (if inV 1 0 i j l then okv (divS mu (u l) (u (degS u))) else (0, 1)) := by
            by_cases c0 : i = 0 ∧ j = 0
            · rw [c0.1, c0.2, rvv_at]
              unfold dnR
              by_cases cl : l < k
              · rw [if_pos ⟨l0, cl⟩, if_pos (in10.2 ⟨rfl, rfl, l0, by omega⟩)]
              · rw [if_neg (fun z => cl z.2)]
                by_cases c7 : l < 7
                · rw [if_pos (in10.2 ⟨rfl, rfl, l0, c7⟩), okhi l (by omega) c7]
                  exact NB_zero (nu.1 l) (degG_ab 7 l (show degG u 7 < l by have : degG u 7 = degS u := rfl; omega) c7)
                · rw [if_neg (fun z => by have := in10.1 z; omega)]
                  exact nu.2 l (by omega)
            · rw [rvv_ne c0, if_neg (fun z => by have := in10.1 z; omega)]
              rfl
          rw [ev] at o
          exact o
      | succ n ih =>
        intro k m' k0 k1 f e pl v all
        refine ⟨by constructor <;> omega, by constructor <;> omega, ?_⟩
        rw [if_neg (by omega)]
        refine ⟨by rw [e]; decide, ?_⟩
        rw [if_pos e]
        have pk : pr m' 635 (x + 2 * k) = u k := by
          rw [v.row.at k0 (by omega)]
          unfold dnR
          rw [if_neg (by omega)]
        refine c_X10_divideNumbers e (f.bm hB) hf (by omega) (by decide) (by rw [pk]; exact nu.1 _) (by rw [pl]; exact nu.1 _) (by rw [pl]; exact hv) (fun m2 mn => ?_)
        rw [pk, pl] at mn
        have f2 : Fm (fun q => SX x q ∨ 1590000 ≤ q) m m2 := f.trans (Fm.ofMN mn)
        rcases hz : divS mu (u k) (u (degS u)) with z | p
        · have := divS_err hz
          have e2 := mn.2.2 z hz
          have q1 := h.2 1 m2 (mapE_er (f := fun _ _ k => divS mu (u k) (u (degS u))) (in10.2 ⟨rfl, rfl, k0, by omega⟩) hz) f2 (by rw [e2, this])
          refine ⟨by rw [e2, this]; decide, ?_⟩
          rw [if_neg (by rw [e2, this]; decide)]
          refine ⟨by constructor <;> omega, by constructor <;> omega, ?_⟩
          by_cases cc : degS u < k + 1
          · rw [if_pos cc]; exact q1
          · rw [if_neg cc]
            refine ⟨by rw [e2, this]; decide, ?_⟩
            rw [if_neg (by rw [e2, this]; decide)]
            exact q1
        · obtain ⟨e2, p2⟩ := mn.pair hz
          refine ⟨by rw [e2]; decide, ?_⟩
          rw [if_pos e2]
          refine c_put (by omega) ?_
          rw [p2]
          have v2 : VM (m2 635) x (rvv (dnR (fun j => divS mu (u j) (u (degS u))) u k)) := v.fm (Fm.ofMN (S := fun _ => False) mn) (fun _ _ _ z => z)
          have setv : setP (dnR (fun j => divS mu (u j) (u (degS u))) u k) k p = dnR (fun j => divS mu (u j) (u (degS u))) u (k + 1) := by
            funext l
            by_cases cl : l = k
            · subst cl
              rw [setP_at]
              unfold dnR
              rw [if_pos ⟨k0, by omega⟩]
              simp only
              rw [hz]
              rfl
            · rw [setP_ne cl]
              unfold dnR
              by_cases c2 : 0 ≤ l ∧ l < k
              · rw [if_pos c2, if_pos (by omega)]
              · rw [if_neg c2, if_neg (by omega)]
          have fpt : Fm (fun q => x ≤ q ∧ q < x + 14) m2 (pt m2 635 (x + 2 * k) p) := Fm.ofPt (by omega) (by omega)
          refine ih (k + 1) _ (by omega) (by omega) (f2.trans (fpt.mono (fun q z => Or.inl (by unfold SX; omega)))) (by rw [pt_oth (by decide), e2]) ?_ ?_ (fun j j0 j1 => ?_)
          · rw [pt_ne (by omega)]
            have a := mn.1 635 1594004 (by decide)
            have b := mn.1 635 (1594004 + 1) (by decide)
            unfold pr at pl ⊢
            rw [a, b]
            exact pl
          · rw [← setv]
            have hh : ∀ l, 7 ≤ l → dnR (fun j => divS mu (u j) (u (degS u))) u k l = (0, 1) := by
              intro l hl
              unfold dnR
              rw [if_neg (by omega)]
              exact nu.2 l hl
            exact v2.chg (c := 7) fpt (fun q q0 q1 z => by omega) (v2.row.le (by decide)).set (by decide) hh (fun l hl => by rw [setP_ne (by omega)]; exact hh l hl) (by decide)
          · by_cases cj : j = k
            · rw [cj]; exact ⟨p, hz⟩
            · exact all j j0 (by omega)
    refine ⟨_, L (degS u + 1).toNat 0 m1 (by decide) (by omega) f1' (by rw [e1, he]) pl ?_ (fun j j0 j1 => by omega)⟩
    have : dnR (fun j => divS mu (u j) (u (degS u))) u 0 = u := by
      funext l
      unfold dnR
      rw [if_neg (by omega)]
    rw [this]
    exact v1
theorem c_X10_greatestP {m : MM} (hB : BM m base mu) (hf : FD mu) (he : m 582 84 = 0) (bx : 0 ≤ x ∧ x + 882 ≤ 1590000) (by_ : 0 ≤ y ∧ y + 882 ≤ 1590000) (dxy : Dj x 882 y 882) (vx : VM (m 635) x (rvv u)) (vy : VM (m 635) y (rvv v)) (nu : NR mu 7 u) (nv : NR mu 7 v) (h : OutW (S2M x y) m (gcdS mu u v) x Q) : P_X10_greatest x y base 1 m Q := by
  have hM : MU mu := hB.2.2.2.1
  refine ⟨by decide, ?_⟩
  rw [if_neg (by decide)]
  unfold gcdS at h
  generalize hG : gcG mu 8 u v = G at h
  have L : ∀ (n : Nat) (u1 v1 : Int → PP) (m' : MM), Fm (S2M x y) m m' → m' 582 84 = 0 → VM (m' 635) x (rvv u1) → VM (m' 635) y (rvv v1) → NR mu 7 u1 → NR mu 7 v1 → degS v1 < n → gcG mu n u1 v1 = G → P_X10_greatest_26 Q (n + 1) x y base 1 m' := by
    have last : ∀ (u1 : Int → PP) (m' : MM), Fm (S2M x y) m m' → m' 582 84 = 0 → VM (m' 635) x (rvv u1) → NR mu 7 u1 → .ok u1 = G → P_X10_greatest_83 Q x base m' := by
      intro u1 m' f e v1 n1 hs'
      rw [← hs'] at h
      exact gcdM_83 (f.bm hB) hf e bx v1 n1 ⟨fun U m2 a1 a2 a3 a4 => h.1 U m2 a1 (f.trans (a2.mono (fun q z => by unfold SX at z; unfold S2M; omega))) a3 a4, fun z m2 a1 a2 a3 => h.2 z m2 a1 (f.trans (a2.mono (fun q z => by unfold SX at z; unfold S2M; omega))) a3⟩
    intro n
    induction n with
    | zero =>
      intro u1 v1 m' f e w1 w2 n1 n2 hn hs'
      refine c_isZero (n := 7) (u := v1) (by omega) (by omega) (w2.row.le (by decide)) (fun k _ _ => n2.rl k) ?_
      rw [if_pos (allZ_deg.2 (by omega))]
      refine ⟨by decide, ?_⟩
      rw [if_neg (by decide)]
      exact last u1 m' f e w1 n1 hs'
    | succ n ih =>
      intro u1 v1 m' f e w1 w2 n1 n2 hn hs'
      refine c_isZero (n := 7) (u := v1) (by omega) (by omega) (w2.row.le (by decide)) (fun k _ _ => n2.rl k) ?_
      unfold gcG at hs'
      by_cases c : degS v1 < 0
      · rw [if_pos (allZ_deg.2 c)]
        rw [if_pos c] at hs'
        refine ⟨by decide, ?_⟩
        rw [if_neg (by decide)]
        exact last u1 m' f e w1 n1 hs'
      · rw [if_neg (fun z => c (allZ_deg.1 z))]
        rw [if_neg c] at hs'
        refine ⟨by decide, ?_⟩
        rw [if_pos rfl]
        refine ⟨by rw [e]; decide, ?_⟩
        rw [if_pos e]
        refine c_X10_divide (u := u1) (v := v1) (f.bm hB) hf e bx by_ w1 w2 n1 n2 ⟨fun q w m2 h2 f2 e2 vq vw => ?_, fun z m2 h2 f2 e2 => ?_⟩
        · rw [h2] at hs'
          simp only at hs'
          have nw := (dvP_NR hM n1 n2 h2).2
          have low := dvP_low hM hf n1 n2 h2
          refine ⟨by rw [e2]; decide, ?_⟩
          rw [if_pos (by rw [e2]; decide)]
          have f2' : Fm (S2M x y) m m2 := f.trans (f2.mono (fun q z => by unfold SDM at z; unfold S2M; omega))
          have wy : VM (m2 635) y (rvv v1) := w2.fm f2 (fun q q0 q1 z => by unfold SDM at z; omega)
          refine c_copy (n := 882) (by omega) (by omega) (Or.inr (by omega)) (fun m3 f3 e3 cp3 => ?_)
          have wx3 : VM (m3 635) x (rvv v1) := wy.cpy cp3
          have vw3 : VM (m3 635) 1593000 (rvv w) := vw.fm f3 (fun q q0 q1 z => by have z1 : x ≤ q ∧ q < x + 882 := z; omega)
          refine c_copy (n := 882) (by decide) (by omega) (Or.inr (by omega)) (fun m4 f4 e4 cp4 => ?_)
          exact ih v1 w m4 ((f2'.trans (f3.mono (fun q z => by have z1 : x ≤ q ∧ q < x + 882 := z; unfold S2M; omega))).trans (f4.mono (fun q z => by have z1 : y ≤ q ∧ q < y + 882 := z; unfold S2M; omega))) (by rw [e4, e3, e2]) (wx3.fm f4 (fun q q0 q1 z => by have z1 : y ≤ q ∧ q < y + 882 := z; omega)) (vw3.cpy cp4) n2 nw (by omega) hs'
        · rw [h2] at hs'
          rw [← hs'] at h
          have := dvP_err h2
          refine ⟨by rw [e2]; constructor <;> omega, ?_⟩
          rw [if_neg (by rw [e2]; omega)]
          exact h.2 z m2 rfl (f.trans (f2.mono (fun q z => by unfold SDM at z; unfold S2M; omega))) e2
  have hbv := degS_bd v
  exact ⟨9, L 8 u v m (Fm.refl m) he vx vy nu nv (by omega) hG⟩
end REST
