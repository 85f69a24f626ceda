set_option maxRecDepth 100000
/-! derivatives -/
def derN (mu i : Int) (p : PP) : EX PP := nmS mu (i * p.1) p.2
def derF (mu d : Int) (u : Int → PP) (k : Int) : EX PP := if k + cof (d - 1) < cof d then derN mu (k / cof (d - 1) + 1) (u (k + cof (d - 1))) else .ok (0, 1)
noncomputable def derS (mu d : Int) (u : Int → PP) : EX VV := mapE d 0 (fun _ _ k => derF mu d u k)
theorem NB.der {mu i : Int} {p q : PP} (hM : MU mu) (hp : NB mu p) (h : derN mu i p = .ok q) : NB mu q := NB_nm hM hp.2.2.1 (by have := hp.p2; omega) h
theorem derS_NN {mu d : Int} {u : Int → PP} {U : VV} (hM : MU mu) (nu : NR mu (cof d) u) (h : derS mu d u = .ok U) : NN mu d 0 U := by
  refine mapE_NN hM (fun i j k p _ hp => ?_) h
  have hp : derF mu d u k = .ok p := hp
  unfold derF at hp
  split at hp
  · exact NB.der hM (nu.1 _) hp
  · cases hp; exact NB_zr hM
theorem der_mul {mu i : Int} {p : PP} (hM : MU mu) (hp : NB mu p) : mulS mu ((if mu ≤ 1 then i else i % mu), 1) p = derN mu i p := by
  unfold mulS derN
  by_cases c1 : mu = 1
  · rw [if_pos c1, if_pos (by omega)]
    show nmS 1 (i * p.1) (1 * p.2) = _
    rw [Int.one_mul, c1]
  · rw [if_neg c1]
    have p2 := hp.2.2.1 c1
    rw [p2]
    by_cases c0 : mu ≤ 1
    · rw [if_pos c0]
    · rw [if_neg c0]
      show nmS mu (i % mu * p.1) 1 = _
      unfold nmS nmV
      rw [if_neg (show ¬ mu = 0 by omega), if_neg c1, if_neg (show ¬ mu = 0 by omega), if_neg c1, Int.mul_emod, Int.emod_emod, ← Int.mul_emod]
theorem inD0 {d i j k : Int} : inV d 0 i j k ↔ i = 0 ∧ j = 0 ∧ 0 ≤ k ∧ k < cof d := by
  have r0 : rws 0 = 1 := rfl
  unfold inV
  rw [r0]
  omega
theorem cof_less {d : Int} (hd : 1 ≤ d ∧ d ≤ 2) : Int.tdiv (cof d) 7 = cof (d - 1) ∧ cof d = 7 * cof (d - 1) ∧ (cof (d - 1) = 1 ∧ d = 1 ∨ cof (d - 1) = 7 ∧ d = 2) := by
  rcases (show d = 1 ∨ d = 2 by omega) with rfl | rfl
  · decide
  · decide
section DER
variable {Q : Int → MM → Prop} {r b base mu d x : Int} {u : Int → PP}
theorem derC_err37 {m : MM} {c : Int} (hmu : MU mu) (hc : RI c) (he : RI (m 378 2)) (h0 : m 378 2 ≠ 0) : ∀ (n : Nat) (k : Int) (m' : MM), 1 ≤ k → 7 - k ≤ n → k ≤ 7 → Fc (fun q => 1155420 ≤ q) m m' → m' 378 2 = m 378 2 → (∀ m2, Fc (fun q => 1155420 ≤ q) m m2 → m2 378 2 = m 378 2 → Q 0 m2) → P_X6_derived_37 Q (n + 1) r x c mu k m' := by
  intro n
  induction n with
  | zero =>
    intro k m' k0 k1 k2 f e q
    refine ⟨by constructor <;> omega, ?_⟩
    rw [if_pos (by omega)]
    exact q m' f e
  | succ n ih =>
    intro k m' k0 k1 k2 f e q
    refine ⟨by constructor <;> omega, ?_⟩
    by_cases c7 : 7 ≤ k
    · rw [if_pos c7]; exact q m' f e
    · rw [if_neg c7]
      refine ⟨⟨by constructor <;> omega, by split; trivial; omega⟩, ?_⟩
      rintro _ rfl _ rfl
      have f2 : ∀ v w : Int, Fc (fun q => 1155420 ≤ q) m (up (up m' 379 1157576 v) 379 1157577 w) := fun v w => (f.trans (Fc.ofUp (by decide))).trans (Fc.ofUp (by decide))
      have e2 : ∀ v w : Int, up (up m' 379 1157576 v) 379 1157577 w 378 2 = m 378 2 := fun v w => by rw [up_ne (fun z => absurd z.1 (by decide)), up_ne (fun z => absurd z.1 (by decide)), e]
      refine ⟨1, by decide, hc, ?_⟩
      have k37 := ih (k + 1) _ (by omega) (by omega) (by omega) (f2 (if mu ≤ 1 then k else Int.tmod k mu) 1) (e2 _ _) q
      by_cases cc : c ≤ 0
      · rw [if_pos cc]; exact k37
      · rw [if_neg cc]
        refine ⟨by rw [e2]; exact he, ?_⟩
        rw [if_neg (by rw [e2]; exact h0)]
        exact k37
theorem c_X6_derived {m : MM} (hR : RG r b d 0) (hd1 : 1 ≤ d) (hmu : muC m b = mu) (hM : MU mu) (he : m 378 2 = 0) (bx : 0 ≤ x ∧ x + 882 ≤ 1155420) (rx : Rw (m 379) x u (cof d)) (nu : NR mu (cof d) u) (h : OutV (fun q => 1155420 ≤ q) m (derS mu d u) 1155420 d 0 Q) : P_X6_derived r x m Q := by
  obtain ⟨-, hb, hd, hs⟩ := id hR
  have hcd := cof_bd hd
  obtain ⟨l1, l2, l3⟩ := cof_less ⟨hd1, hd.2⟩
  have hcN : ((cof d).toNat : Int) = cof d := by omega
  have hc1 : cof (d - 1) = 1 ∨ cof (d - 1) = 7 := by omega
  refine c_coef hR ⟨by constructor <;> omega, c_coef hR ?_⟩
  rw [← hcN]
  refine c_X8_clear (by decide) (by omega) (fun m1 f1 e1 r1 => ?_)
  rw [hcN] at f1 r1 ⊢
  have f1' : Fc (fun q => 1155420 ≤ q) m m1 := f1.mono (fun q z => by omega)
  refine c_base hR (c_X8_modulus (by constructor <;> omega) ?_)
  rw [f1.mu, hmu, l1]
  have hder : derS mu d u = mapE d 0 (fun _ _ k => derF mu d u k) := rfl
  rw [hder] at h
  have dF : ∀ k, derF mu d u k = if k + cof (d - 1) < cof d then derN mu (k / cof (d - 1) + 1) (u (k + cof (d - 1))) else .ok (0, 1) := fun k => rfl
  generalize hF : derF mu d u = F at *
  generalize hcc : cof (d - 1) = c at *
  -- powers of the outermost unknown
  have L80 : ∀ {K37 : Int → Int → Int → Int → Int → MM → Prop} {k : Int}, (1 ≤ k ∧ k < 7) → (∀ m', Fc (fun q => 1155420 ≤ q) m m' → m' 378 2 = 0 → Rw (m' 379) 1155420 (dnR F zr (c * k)) (cof d) → (∀ j, 0 ≤ j → j < c * k → ∃ p, F j = .ok p) → K37 r x c mu (k + 1) m') → (∀ m', Fc (fun q => 1155420 ≤ q) m m' → m' 378 2 = 1 → mapE d 0 (fun _ _ k => F k) = .error 1 → K37 r x c mu (k + 1) m') → ∀ (n : Nat) (j : Int) (m' : MM), 0 ≤ j → j + n = c → Fc (fun q => 1155420 ≤ q) m m' → m' 378 2 = 0 → pr m' 379 1157576 = ((if mu ≤ 1 then k else k % mu), 1) → Rw (m' 379) 1155420 (dnR F zr (c * (k - 1) + j)) (cof d) → (∀ l, 0 ≤ l → l < c * (k - 1) + j → ∃ p, F l = .ok p) → P_X6_derived_80 Q K37 (n + 1) r x c mu k j m' := by
    intro K37 k hk ok er n
    have ck : c * k = c * (k - 1) + c := by rw [Int.mul_sub, Int.mul_one]; omega
    have ckb : 0 ≤ c * (k - 1) ∧ c * (k - 1) + c ≤ 6 * c := by
      rcases hc1 with z | z <;> rw [z] <;> omega
    induction n with
    | zero =>
      intro j m' j0 j1 f e pd row all
      refine ⟨by constructor <;> omega, by constructor <;> omega, ?_⟩
      rw [if_pos (by omega)]
      have : c * (k - 1) + j = c * k := by omega
      rw [this] at row all
      exact ok m' f e row all
    | succ n ih =>
      intro j m' j0 j1 f e pd row all
      refine ⟨by constructor <;> omega, by constructor <;> omega, ?_⟩
      rw [if_neg (by omega)]
      refine ⟨by rw [e]; decide, ?_⟩
      rw [if_pos e]
      have ix : (c * (k - 1) + j) / c + 1 = k ∧ c * (k - 1) + j + c = c * k + j := by
        refine ⟨?_, by omega⟩
        rcases hc1 with z | z <;> rw [z] <;> omega
      have ru : pr m' 379 (x + 2 * (c * k + j)) = u (c * k + j) := (rx.fr f (fun q q0 q1 z => by omega)).at (by omega) (by omega)
      have km : ¬ mu ≤ 1 → 0 ≤ k % mu ∧ k % mu < mu := fun z => ⟨Int.emod_nonneg _ (by omega), Int.emod_lt_of_pos _ (by omega)⟩
      have nk : NB mu ((if mu ≤ 1 then k else k % mu), 1) := by
        refine ⟨⟨?_, ?_, show (1 : Int) ≤ 999999999 by decide⟩, show (1 : Int) ≤ 1 by decide, fun _ => rfl, fun _ => Int.gcd_one_right .., fun z => ?_⟩
        · show -999999999 ≤ (if mu ≤ 1 then k else k % mu)
          split
          case isTrue => omega
          case isFalse z => have := km z; omega
        · show (if mu ≤ 1 then k else k % mu) ≤ 999999999
          split
          case isTrue => omega
          case isFalse z => have := km z; omega
        · show 0 ≤ (if mu ≤ 1 then k else k % mu) ∧ (if mu ≤ 1 then k else k % mu) < mu
          rw [if_neg (by omega)]
          exact ⟨Int.emod_nonneg _ (by omega), Int.emod_lt_of_pos _ (by omega)⟩
      have fk : F (c * (k - 1) + j) = derN mu k (u (c * k + j)) := by
        rw [dF, if_pos (by omega), ix.1, ix.2]
      refine c_base hR (c_X8_times (by constructor <;> omega) (by rw [f.mu, hmu]) hM (by decide) (by omega) (by omega) (by rw [pd]; exact nk) (by rw [ru]; exact nu.1 _) (fun p hp => ?_) (fun z hz => ?_))
      · rw [pd, ru, der_mul hM (nu.1 _), ← fk] at hp
        have setv : setP (dnR F zr (c * (k - 1) + j)) (c * (k - 1) + j) p = dnR F zr (c * (k - 1) + (j + 1)) := by
          funext l
          by_cases cl : l = c * (k - 1) + j
          · rw [cl, setP_at]
            unfold dnR
            rw [if_pos ⟨by omega, by omega⟩, hp]
            rfl
          · rw [setP_ne cl]
            unfold dnR
            by_cases c2 : 0 ≤ l ∧ l < c * (k - 1) + j
            · rw [if_pos c2, if_pos (by omega)]
            · rw [if_neg c2, if_neg (by omega)]
        refine ih (j + 1) _ (by omega) (by omega) (f.trans (Fc.ofPt (by omega) (by omega))) (by rw [pt_oth (by decide), e]) (by rw [pt_ne (by omega)]; exact pd) ?_ (fun l l0 l1 => ?_)
        · rw [← setv]
          exact row.set
        · by_cases cl : l = c * (k - 1) + j
          · rw [cl]; exact ⟨p, hp⟩
          · exact all l l0 (by omega)
      · rw [pd, ru, der_mul hM (nu.1 _), ← fk] at hz
        have z1 : z = 1 := by
          rw [fk] at hz
          exact nmS_err hz
        have q1 := er _ (f.trans (Fc.err (e := z))) (by rw [up_at, z1]) (mapE_er (f := fun _ _ k => F k) (inD0.2 ⟨rfl, rfl, by omega, by omega⟩) hz)
        refine ⟨by constructor <;> omega, by constructor <;> omega, ?_⟩
        by_cases cc : c ≤ j + 1
        · rw [if_pos cc]; exact q1
        · rw [if_neg cc]
          refine ⟨by rw [up_at, z1]; decide, ?_⟩
          rw [if_neg (by rw [up_at, z1]; decide)]
          exact q1
  have L37 : ∀ (n : Nat) (k : Int) (m' : MM), 1 ≤ k → k + n = 7 → Fc (fun q => 1155420 ≤ q) m m' → m' 378 2 = 0 → Rw (m' 379) 1155420 (dnR F zr (c * (k - 1))) (cof d) → (∀ j, 0 ≤ j → j < c * (k - 1) → ∃ p, F j = .ok p) → P_X6_derived_37 Q (n + 1) r x c mu k m' := by
    intro n
    induction n with
    | zero =>
      intro k m' k0 k1 f e row all
      refine ⟨by constructor <;> omega, ?_⟩
      rw [if_pos (by omega)]
      have k7 : k = 7 := by omega
      subst k7
      have hi : ∀ j, c * (7 - 1) ≤ j → F j = .ok (0, 1) := by
        intro j hj
        rw [dF, if_neg (by rcases hc1 with z | z <;> rw [z] at hj l2 ⊢ <;> omega)]
      refine h.1 _ m' (mapE_ok (fun i j l hl => ?_)) f e ?_
      · have hl' := inD0.1 hl
        by_cases cl : l < c * (7 - 1)
        · exact all l hl'.2.2.1 cl
        · exact ⟨_, hi l (by omega)⟩
      · intro i j hi' hj' l l0 l1
        have r0 : rws 0 = 1 := rfl
        have i0 : i = 0 := by omega
        have j0 : j = 0 := by omega
        subst i0 j0
        have o := row l l0 l1
        rw [show EA d 0 0 0 = 0 by unfold EA; omega, Int.add_zero]
        have ev : dnR F zr (c * (7 - 1)) l = (if inV d 0 0 0 l then okv (F l) else (0, 1)) := by
          rw [if_pos (inD0.2 ⟨rfl, rfl, l0, l1⟩)]
          unfold dnR
          by_cases cl : l < c * (7 - 1)
          · rw [if_pos ⟨l0, cl⟩]
          · rw [if_neg (fun z => cl z.2), hi l (by omega)]
            rfl
        rw [ev] at o
        exact o
    | succ n ih =>
      intro k m' k0 k1 f e row all
      refine ⟨by constructor <;> omega, ?_⟩
      rw [if_neg (by omega)]
      refine ⟨⟨by constructor <;> omega, by split; trivial; omega⟩, ?_⟩
      rintro _ rfl _ rfl
      have tm : (if mu ≤ 1 then k else Int.tmod k mu) = (if mu ≤ 1 then k else k % mu) := by rw [tmod_pos (by omega)]
      rw [tm]
      have f2 : Fc (fun q => 1155420 ≤ q) m (up (up m' 379 1157576 (if mu ≤ 1 then k else k % mu)) 379 1157577 1) := (f.trans (Fc.ofUp (by decide))).trans (Fc.ofUp (by decide))
      have ck : c * (k + 1 - 1) = c * k := by rw [show k + 1 - 1 = k by omega]
      refine ⟨_, L80 (by omega) (fun m2 f2 e2 row2 all2 => ?_) (fun m2 f2 e2 hm => ?_) c.toNat 0 _ (by decide) (by omega) f2 (by rw [up_ne (fun z => absurd z.1 (by decide)), up_ne (fun z => absurd z.1 (by decide)), e]) ?_ ?_ (fun l l0 l1 => all l l0 (by omega))⟩
      · rw [← ck] at row2 all2
        exact ih (k + 1) m2 (by omega) (by omega) f2 e2 row2 all2
      · exact derC_err37 hM (by constructor <;> omega) (by rw [e2]; decide) (by rw [e2]; decide) n (k + 1) m2 (by omega) (by omega) (by omega) (Fc.refl m2) rfl (fun m3 f3 e3 => h.2 1 m3 hm (f2.trans f3) (by rw [e3, e2]))
      · unfold pr
        rw [up_neI (by decide), up_at, show (1157576 : Int) + 1 = 1157577 by decide, up_at]
      · rw [Int.add_zero]
        intro l l0 l1
        rw [up_neI (by omega), up_neI (by omega), up_neI (by omega), up_neI (by omega)]
        exact row l l0 l1
  refine ⟨_, L37 6 1 m1 (by decide) (by decide) f1' (by rw [e1, he]) ?_ (fun j j0 j1 => by rw [show (1 : Int) - 1 = 0 by decide, Int.mul_zero] at j1; omega)⟩
  have : dnR F zr (c * (1 - 1)) = zr := by
    funext l
    unfold dnR
    rw [show (1 : Int) - 1 = 0 by decide, Int.mul_zero, if_neg (by omega)]
  rw [this]
  exact r1
theorem c_X10_derive {m : MM} (hd : 1 ≤ d ∧ d ≤ 2) (hB : BM m base mu) (he : m 582 84 = 0) (bx : 0 ≤ x ∧ x + 882 ≤ 1590000) (vx : VM (m 635) x (rvv u)) (nu : NR mu (cof d) u) (h : OutW (fun q => SX x q ∨ 1590000 ≤ q) m (derS mu d u) x Q) : P_X10_derive x base d m Q := by
  have hM : MU mu := hB.2.2.2.1
  have hd' : 0 ≤ d ∧ d ≤ 2 := by omega
  have hcd := cof_bd hd'
  obtain ⟨l1, l2, l3⟩ := cof_less hd
  have hc1 : cof (d - 1) = 1 ∨ cof (d - 1) = 7 := by omega
  refine c_copy (n := 98) (by omega) (by decide) (Or.inr (by omega)) (fun m1 f1 e1 cp => ?_)
  have f1' : Fm (fun q => SX x q ∨ 1590000 ≤ q) m m1 := f1.mono (fun q z => Or.inr (by have z1 : 1593000 ≤ q ∧ q < 1593000 + 98 := z; omega))
  have rt : Rw (m1 635) 1593000 u 49 := vx.row.cp (n := 49) cp
  refine c_clear (n := 49) (by omega) (by omega) (fun m2 f2 e2 r2 => ?_)
  have f2' : Fm (fun q => SX x q ∨ 1590000 ≤ q) m m2 := f1'.trans (f2.mono (fun q z => Or.inl (by have z1 : x ≤ q ∧ q < x + 2 * 49 := z; unfold SX; omega)))
  have rt2 : Rw (m2 635) 1593000 u 49 := rt.fm f2 (fun q q0 q1 z => by have z1 : x ≤ q ∧ q < x + 2 * 49 := z; omega)
  have v2 : VM (m2 635) x (rvv zr) := (vx.fm f1 (fun q q0 q1 z => by have z1 : 1593000 ≤ q ∧ q < 1593000 + 98 := z; omega)).chg (c := 49) f2 (fun q q0 q1 z => by have z1 : x ≤ q ∧ q < x + 2 * 49 := z; omega) r2 (by decide) (nu.hi hcd.2) (fun _ _ => rfl) (by decide)
  have hder : derS mu d u = mapE d 0 (fun _ _ k => derF mu d u k) := rfl
  rw [hder] at h
  have dF : ∀ k, derF mu d u k = if k + cof (d - 1) < cof d then derN mu (k / cof (d - 1) + 1) (u (k + cof (d - 1))) else .ok (0, 1) := fun k => rfl
  generalize hF : derF mu d u = F at *
  generalize hcc : cof (d - 1) = c at *
  have dc : (d = 1 ∧ c = 1) ∨ (d = 2 ∧ c = 7) := by omega
  -- the power that a coefficient has
  have pw : ∀ k, 0 ≤ k → (if d = 1 then k else Int.tdiv k 7) = k / c := by
    intro k k0
    rcases dc with ⟨a, z⟩ | ⟨a, z⟩
    · rw [if_pos a, z, Int.ediv_one]
    · rw [if_neg (by omega), z, tdiv_pos k0]
  have pw2 : ∀ k : Int, (if d = 1 then k - 1 else k - 7) = k - c := by
    intro k
    rcases dc with ⟨a, z⟩ | ⟨a, z⟩
    · rw [if_pos a, z]
    · rw [if_neg (by omega), z]
  have kc : ∀ k, 0 ≤ k → k < cof d → (k / c = 0 ↔ k < c) ∧ 0 ≤ k / c ∧ k / c ≤ 6 ∧ (c ≤ k → (k - c) / c + 1 = k / c) := by
    intro k k0 k1
    rcases hc1 with z | z <;> rw [z] <;> refine ⟨by omega, by omega, by omega, fun _ => by omega⟩
  have wd : ∀ q : Int, Int.tdiv (2 * q) 2 = q := fun q => Int.mul_tdiv_cancel_left _ (by decide)
  have bad : ∀ (n : Nat) (k : Int) (m' : MM), 0 ≤ k → cof d - k ≤ n → k ≤ cof d → RI (m' 582 84) → 0 < m' 582 84 → Q 0 m' → P_X10_derive_20 Q (n + 1) x base d k m' := by
    intro n
    induction n with
    | zero =>
      intro k m' k0 k1 k2 e1 e2 q
      refine c_width hd' ⟨by constructor <;> omega, by constructor <;> omega, ?_⟩
      rw [wd]
      refine ⟨by constructor <;> omega, ?_⟩
      rw [if_pos (by omega)]
      exact q
    | succ n ih =>
      intro k m' k0 k1 k2 e1 e2 q
      refine c_width hd' ⟨by constructor <;> omega, by constructor <;> omega, ?_⟩
      rw [wd]
      refine ⟨by constructor <;> omega, ?_⟩
      by_cases cc : cof d ≤ k
      · rw [if_pos cc]; exact q
      · rw [if_neg cc]
        have kk := kc k k0 (by omega)
        rw [pw k k0]
        refine ⟨by constructor <;> omega, by constructor <;> omega, ?_⟩
        have nx := ih (k + 1) m' (by omega) (by omega) (by omega) e1 e2 q
        by_cases c0 : k / c = 0
        · rw [if_pos c0]; exact nx
        · rw [if_neg c0]
          refine ⟨e1, ?_⟩
          rw [if_neg (by omega)]
          exact nx
  have L : ∀ (n : Nat) (k : Int) (m' : MM), 0 ≤ k → k + n = cof d → Fm (fun q => SX x q ∨ 1590000 ≤ q) m m' → m' 582 84 = 0 → Rw (m' 635) 1593000 u 49 → VM (m' 635) x (rvv (dnR F zr (k - c))) → (∀ j, 0 ≤ j → j < k - c → ∃ p, F j = .ok p) → P_X10_derive_20 Q (n + 1) x base d k m' := by
    intro n
    induction n with
    | zero =>
      intro k m' k0 k1 f e rt' v all
      refine c_width hd' ⟨by constructor <;> omega, by constructor <;> omega, ?_⟩
      rw [wd]
      refine ⟨by constructor <;> omega, ?_⟩
      rw [if_pos (by omega)]
      have k7 : k = cof d := by omega
      subst k7
      have hi : ∀ j, cof d - c ≤ j → F j = .ok (0, 1) := by
        intro j hj
        rw [dF, if_neg (by omega)]
      refine h.1 _ m' (mapE_ok (fun i j l hl => ?_)) f e ?_
      · have hl' := inD0.1 hl
        by_cases cl : l < cof d - c
        · exact all l hl'.2.2.1 cl
        · exact ⟨_, hi l (by omega)⟩
      · intro i j hi' hj' l l0 l1
        have o := v i j hi' hj' l l0 l1
        have ev : rvv (dnR F zr (cof d - c)) i j l = (if inV d 0 i j l then okv (F l) else (0, 1)) := by
          by_cases c0 : i = 0 ∧ j = 0
          · rw [c0.1, c0.2, rvv_at]
            unfold dnR
            by_cases cl : l < cof d - c
            · rw [if_pos ⟨l0, cl⟩, if_pos (inD0.2 ⟨rfl, rfl, l0, by omega⟩)]
            · rw [if_neg (fun z => cl z.2)]
              by_cases c7 : l < cof d
              · rw [if_pos (inD0.2 ⟨rfl, rfl, l0, c7⟩), hi l (by omega)]
                rfl
              · rw [if_neg (fun z => by have := inD0.1 z; omega)]
                rfl
          · rw [rvv_ne c0, if_neg (fun z => by have := inD0.1 z; omega)]
            rfl
        rw [ev] at o
        exact o
    | succ n ih =>
      intro k m' k0 k1 f e rt' v all
      refine c_width hd' ⟨by constructor <;> omega, by constructor <;> omega, ?_⟩
      rw [wd]
      refine ⟨by constructor <;> omega, ?_⟩
      rw [if_neg (by omega)]
      have kk := kc k k0 (by omega)
      rw [pw k k0, pw2 k]
      refine ⟨by constructor <;> omega, by constructor <;> omega, ?_⟩
      by_cases c0 : k / c = 0
      · rw [if_pos c0]
        have lt := kk.1.1 c0
        have same : dnR F zr (k - c) = dnR F zr (k + 1 - c) := by
          funext l
          unfold dnR
          rw [if_neg (by omega), if_neg (by omega)]
        rw [same] at v
        exact ih (k + 1) m' (by omega) (by omega) f e rt' v (fun j j0 j1 => by omega)
      · rw [if_neg c0]
        have ge : c ≤ k := by
          by_cases z : k < c
          · exact absurd (kk.1.2 z) c0
          · omega
        refine ⟨by rw [e]; decide, ?_⟩
        rw [if_pos (by rw [e]; decide)]
        have rk := rt' k k0 (by omega)
        have n1 := (nu.1 k).p1
        have n2 := (nu.1 k).p2
        rw [rk.1, rk.2]
        have mb : -5999999994 ≤ k / c * (u k).1 ∧ k / c * (u k).1 ≤ 5999999994 := by
          have h1 := kk.2.1
          have h2 := kk.2.2.1
          generalize k / c = i at *
          rcases (show i = 0 ∨ i = 1 ∨ i = 2 ∨ i = 3 ∨ i = 4 ∨ i = 5 ∨ i = 6 by omega) with z | z | z | z | z | z | z <;> rw [z] <;> omega
        obtain ⟨b0, b1, b2, b3, b4⟩ := f.bm hB
        have fk : F (k - c) = derN mu (k / c) (u k) := by
          rw [dF, if_pos (by omega), kk.2.2.2 ge, show k - c + c = k by omega]
        refine ⟨by omega, by omega, c_X10_number e (by constructor <;> omega) b0 b2 b3 b4 (by constructor <;> omega) (by constructor <;> omega) (by omega) (fun m3 mn => ?_)⟩
        have mn' : MN m' m3 (F (k - c)) := by rw [fk]; exact mn
        have f3 : Fm (fun q => SX x q ∨ 1590000 ≤ q) m m3 := f.trans (Fm.ofMN mn)
        have fz : Fm (fun _ => False) m' m3 := Fm.ofMN mn
        have fp : ∀ p : PP, Fm (fun q => x ≤ q ∧ q < x + 98) m3 (pt m3 635 (x + 2 * (k - c)) p) := fun p => Fm.ofPt (by omega) (by omega)
        refine ⟨by constructor <;> omega, c_put (by omega) ?_⟩
        rcases hz : F (k - c) with z | p
        · have z1 : z = 1 := by
            rw [fk] at hz
            exact nmS_err hz
          have e3 := mn'.2.2 z hz
          have e4 : pt m3 635 (x + 2 * (k - c)) (m3 582 87, m3 582 88) 582 84 = 1 := by rw [pt_oth (by decide), e3, z1]
          refine bad n (k + 1) _ (by omega) (by omega) (by omega) (by rw [e4]; decide) (by rw [e4]; decide) (h.2 1 _ (mapE_er (f := fun _ _ k => F k) (inD0.2 ⟨rfl, rfl, by omega, by omega⟩) hz) (f3.trans ((fp _).mono (fun q z => Or.inl (by unfold SX; omega)))) e4)
        · obtain ⟨e3, p3⟩ := mn'.pair hz
          rw [p3]
          have v3 : VM (m3 635) x (rvv (dnR F zr (k - c))) := v.fm fz (fun _ _ _ z => z)
          have setv : setP (dnR F zr (k - c)) (k - c) p = dnR F zr (k + 1 - c) := by
            funext l
            by_cases cl : l = k - c
            · rw [cl, setP_at]
              unfold dnR
              rw [if_pos ⟨by omega, by omega⟩, hz]
              rfl
            · rw [setP_ne cl]
              unfold dnR
              by_cases c2 : 0 ≤ l ∧ l < k - c
              · rw [if_pos c2, if_pos (by omega)]
              · rw [if_neg c2, if_neg (by omega)]
          have hh : ∀ l, 49 ≤ l → dnR F zr (k - c) l = (0, 1) := by
            intro l hl
            unfold dnR
            rw [if_neg (by omega)]
            rfl
          refine ih (k + 1) _ (by omega) (by omega) (f3.trans ((fp p).mono (fun q z => Or.inl (by unfold SX; omega)))) (by rw [pt_oth (by decide), e3]) ((rt'.fm fz (fun _ _ _ z => z)).fm (fp p) (fun q q0 q1 z => by omega)) ?_ (fun j j0 j1 => ?_)
          · rw [← setv]
            exact v3.chg (c := 49) (fp p) (fun q q0 q1 z => by omega) v3.row.set (by decide) hh (fun l hl => by rw [setP_ne (by omega)]; exact hh l hl) (by decide)
          · by_cases cj : j = k - c
            · rw [cj]; exact ⟨p, hz⟩
            · exact all j j0 (by omega)
  refine ⟨_, L (cof d).toNat 0 m2 (by decide) (by omega) f2' (by rw [e2, e1, he]) rt2 ?_ (fun j j0 j1 => by omega)⟩
  have : dnR F zr (0 - c) = zr := by
    funext l
    unfold dnR
    rw [if_neg (by omega)]
  rw [this]
  exact v2
end DER
