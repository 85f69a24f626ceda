set_option maxRecDepth 100000
/-! inverses, characteristic polynomials -/
noncomputable def invV (mu s : Int) (V : VV) : EX VV := if s = 0 then divV mu 0 0 (oneV 0) (V 0 0 0) else match detS mu 0 s V with
  | .error e => .error e
  | .ok w => if (w 0).1 = 0 then .error 5 else match adjS mu 0 s V with
    | .error e => .error e
    | .ok U => divV mu 0 s U (w 0)
theorem detS_NR {mu d s : Int} {V : VV} {w : Int → PP} (hM : MU mu) (hd : 0 ≤ d ∧ d ≤ 2) (hs : 1 ≤ s ∧ s ≤ 3) (nV : NN mu d s V) (h : detS mu d s V = .ok w) : NR mu (cof d) w := by
  unfold detS at h
  split at h
  · cases h
    exact ⟨fun k => nV.1 0 0 k, fun k hk => nV.2 0 0 k (by omega)⟩
  · split at h
    · exact det2S_NR hM hd (fun k _ _ => nV.1 _ _ k) (fun k _ _ => nV.1 _ _ k) (fun k _ _ => nV.1 _ _ k) (fun k _ _ => nV.1 _ _ k) h
    · exact det3S_NR hM hd (fun i j _ _ k _ _ => nV.1 i j k) h
theorem detS_err {mu d s e : Int} {V : VV} (h : detS mu d s V = .error e) : e = 1 ∨ e = 4 := by
  unfold detS at h
  split at h
  · cases h
  · split at h
    · exact det2S_err h
    · exact det3S_err h
theorem invV_err {mu s e : Int} {V : VV} (h : invV mu s V = .error e) : e = 1 ∨ e = 2 ∨ e = 4 ∨ e = 5 := by
  unfold invV at h
  split at h
  · have := divV_err h; omega
  · split at h
    case h_1 he => cases h; have := detS_err he; omega
    case h_2 w hw =>
      split at h
      · cases h; omega
      · split at h
        case h_1 he => cases h; have := adjS_err he; omega
        case h_2 U hU => have := divV_err h; omega
theorem invV_NN {mu s : Int} {V U : VV} (hM : MU mu) (hs : 0 ≤ s ∧ s ≤ 3) (nV : NN mu 0 s V) (h : invV mu s V = .ok U) : NN mu 0 s U := by
  unfold invV at h
  split at h
  case isTrue c => subst c; exact divV_NN hM (oneV_NN hM (by decide)) (nV.1 0 0 0) h
  case isFalse c =>
    split at h
    case h_1 => cases h
    case h_2 w hw =>
      split at h
      · cases h
      · split at h
        case h_1 => cases h
        case h_2 U' hU => exact divV_NN hM (adjS_NN hM (by decide) (by omega) nV hU) ((detS_NR hM (by decide) (by omega) nV hw).1 0) h
def chM (mu s : Int) (V : VV) : VV := fun i j k => if (0 ≤ i ∧ i < s) ∧ (0 ≤ j ∧ j < s) then (if k = 0 then negN mu (V i j 0) else if k = 1 ∧ i = j then (1, 1) else (0, 1)) else (0, 1)
theorem chM_NN {mu s : Int} {V : VV} (hM : MU mu) (hs : 1 ≤ s ∧ s ≤ 3) (nV : NN mu 0 s V) : NN mu 1 s (chM mu s V) := by
  have rs : rws s = s := by unfold rws; omega
  refine ⟨fun i j k => ?_, fun i j k hn => ?_⟩
  · unfold chM
    split
    · split
      · exact NB.neg hM (nV.1 i j 0)
      · split
        · exact NB_11 hM
        · exact NB_zr hM
    · exact NB_zr hM
  · unfold chM
    split
    case isTrue c =>
      rw [cof1] at hn
      rw [if_neg (by omega), if_neg (by omega)]
    case isFalse => rfl
def charS (mu s : Int) (V : VV) : EX VV := match detS mu 1 s (chM mu s V) with
  | .error e => .error e
  | .ok w => .ok (rvv w)
theorem charS_err {mu s e : Int} {V : VV} (h : charS mu s V = .error e) : e = 1 ∨ e = 4 := by
  unfold charS at h
  split at h
  case h_1 he => cases h; exact detS_err he
  case h_2 => cases h
theorem charS_NN {mu s : Int} {V U : VV} (hM : MU mu) (hs : 1 ≤ s ∧ s ≤ 3) (nV : NN mu 0 s V) (h : charS mu s V = .ok U) : NN mu 1 0 U := by
  unfold charS at h
  split at h
  case h_1 => cases h
  case h_2 w hw => cases h; exact rvv_NN hM (detS_NR hM (by decide) hs (chM_NN hM hs nV) hw)
section INV
variable {Q : Int → MM → Prop} {r b base mu s x : Int} {V : VV}
theorem invC_135 {m : MM} {U : VV} {q : PP} (hb : 0 ≤ b ∧ b ≤ 20001) (hs : 1 ≤ s ∧ s ≤ 3) (hmu : muC m b = mu) (hM : MU mu) (hf : FD mu) (he : m 378 2 = 0) (vx : VC (m 379) 1157776 0 s U) (nU : NN mu 0 s U) (py : pr m 379 1156302 = q) (nq : NB mu q) (q0 : q.1 ≠ 0) (h : OutV (fun z => 1155420 ≤ z) m (divV mu 0 s U q) 1155420 0 s Q) : ∃ nn, P_X6_inverse_135 Q nn b s 0 m := by
  have hd : (0 : Int) ≤ 0 ∧ (0 : Int) ≤ 2 := by decide
  have hs' : 0 ≤ s ∧ s ≤ 3 := by omega
  have es : cof 0 * enn s = s * s := by rw [cof0]; unfold enn; rw [if_neg (by omega), Int.one_mul]
  have sb : 1 ≤ s * s ∧ s * s ≤ 9 := by
    rcases (show s = 1 ∨ s = 2 ∨ s = 3 by omega) with z | z | z <;> rw [z] <;> decide
  have row := vx.row hd hs'
  rw [es] at row
  unfold divV at h
  rw [if_neg q0] at h
  have L : ∀ (n : Nat) (k : Int) (m' : MM), 0 ≤ k → k + n = s * s → Fc (fun z => 1155420 ≤ z ∧ z < 1156302) m m' → m' 378 2 = 0 → (∀ j, 0 ≤ j → j < k → ∃ p, divS mu (fl 0 s U j) q = .ok p) → Rw (m' 379) 1155420 (fun j => okv (divS mu (fl 0 s U j) q)) k → P_X6_inverse_135 Q (n + 1) b s k m' := by
    intro n
    induction n with
    | zero =>
      intro k m' k0 k1 f e all rk
      refine ⟨by constructor <;> omega, by constructor <;> omega, ?_⟩
      rw [if_pos (by omega)]
      have : k = cof 0 * enn s := by omega
      subst this
      refine h.1 _ m' (mapE_ok (fun i j k hk => ?_)) (f.mono (fun q z => z.1)) e (rk.vc hd hs' (fun i j k hi hj hk => ?_))
      · have ix := flat_ix hd hs' hk
        have := all _ ix.1 ix.2
        rw [fl_at hd hs' hk.1 hk.2.1 hk.2.2] at this
        exact this
      · show okv (divS mu (fl 0 s U (cof 0 * (s * i + j) + k)) q) = (if inV 0 s i j k then okv (divS mu (U i j k) q) else (0, 1))
        rw [fl_at hd hs' hi hj hk, if_pos ⟨hi, hj, hk⟩]
    | succ n ih =>
      intro k m' k0 k1 f e all rk
      refine ⟨by constructor <;> omega, by constructor <;> omega, ?_⟩
      rw [if_neg (by omega)]
      refine ⟨by rw [e]; decide, ?_⟩
      rw [if_pos e]
      have pk : pr m' 379 (1157776 + 2 * k) = fl 0 s U k := (row.fr f (fun z z0 z1 zz => by omega)).at k0 (by omega)
      have pq : pr m' 379 1156302 = q := by
        unfold pr
        rw [f.2 _ (by omega), f.2 _ (by omega)]
        exact py
      have ix := fl_ix hd hs' k0 (show k < cof 0 * enn s by omega)
      refine c_X8_by (by constructor <;> omega) (by rw [f.mu, hmu]) hM hf (by omega) (by decide) (by omega) (by rw [pk]; exact nU.1 _ _ _) (by rw [pq]; exact nq) (by rw [pq]; exact q0) (fun p hp => ?_) (fun z hz => ?_)
      · rw [pk, pq] at hp
        refine ih (k + 1) _ (by omega) (by omega) (f.trans (Fc.ofPt (by omega) (by omega))) (by rw [pt_oth (by decide), e]) (fun j j0 j1 => ?_) (rk.push ?_)
        · by_cases c : j = k
          · rw [c]; exact ⟨p, hp⟩
          · exact all j j0 (by omega)
        · show okv (divS mu (fl 0 s U k) q) = p
          rw [hp]
          rfl
      · rw [pk, pq] at hz
        have := divS_err hz
        have q1 := h.2 1 _ (mapE_er (f := fun i j k => divS mu (U i j k) q) ⟨ix.1, ix.2.1, ix.2.2.1⟩ hz) ((f.trans (Fc.err (e := z))).mono (fun q z => z.1)) (by rw [up_at, this])
        refine ⟨by constructor <;> omega, by constructor <;> omega, ?_⟩
        by_cases c : s * s ≤ k + 1
        · rw [if_pos c]; exact q1
        · rw [if_neg c]
          refine ⟨by rw [up_at, this]; decide, ?_⟩
          rw [if_neg (by rw [up_at, this]; decide)]
          exact q1
  exact ⟨_, L (s * s).toNat 0 m (by decide) (by omega) (Fc.refl m) he (fun j j0 j1 => by omega) (fun j j0 j1 => by omega)⟩
theorem invC_135e {m : MM} (hs : 1 ≤ s ∧ s ≤ 3) (he : RI (m 378 2)) (h0 : m 378 2 ≠ 0) (q : Q 0 m) : ∃ nn, P_X6_inverse_135 Q nn b s 0 m := by
  have sb : 1 ≤ s * s ∧ s * s ≤ 9 := by
    rcases (show s = 1 ∨ s = 2 ∨ s = 3 by omega) with z | z | z <;> rw [z] <;> decide
  refine ⟨1, by decide, by constructor <;> omega, ?_⟩
  rw [if_neg (by omega)]
  refine ⟨he, ?_⟩
  rw [if_neg h0]
  exact q
theorem invC_110e {m : MM} (hs : 1 ≤ s ∧ s ≤ 3) (he : RI (m 378 2)) (h0 : m 378 2 ≠ 0) (q : Q 0 m) : P_X6_inverse_110 Q r x b s m := by
  refine ⟨he, ?_⟩
  rw [if_neg h0]
  exact invC_135e hs he h0 q
theorem c_isZeroC {m : MM} {y : Int} {p : PP} (hy : 0 ≤ y ∧ y + 1 < 1159540) (hp : pr m 379 y = p) (np : NB mu p) (h : Q (if p.1 = 0 then 1 else 0) m) : P_X8_isZero y m Q := by
  have e : m 379 y = p.1 := congrArg Prod.fst hp
  have := np.p1
  refine ⟨by omega, by rw [e]; constructor <;> omega, ?_⟩
  rw [e]
  by_cases c : p.1 = 0
  · rw [if_pos c]
    rw [if_pos c] at h
    exact h
  · rw [if_neg c]
    rw [if_neg c] at h
    exact h
theorem c_X6_inverse {m : MM} (hR : RG r b 0 s) (hmu : muC m b = mu) (hM : MU mu) (hf : FD mu) (he : m 378 2 = 0) (bx : 0 ≤ x ∧ x + 882 ≤ 1155420) (vx : VC (m 379) x 0 s V) (nV : NN mu 0 s V) (h : OutV (fun z => 1155420 ≤ z) m (invV mu s V) 1155420 0 s Q) : P_X6_inverse r x m Q := by
  obtain ⟨-, hb, hd, hs⟩ := id hR
  have vb := VS_bd hd hs
  refine c_base hR (c_size hR ⟨by constructor <;> omega, ?_⟩)
  unfold invV at h
  by_cases c : s = 0
  · rw [if_pos c]
    rw [if_pos c] at h
    subst c
    have px : pr m 379 x = V 0 0 0 := by
      have := vx.row0.at (k := 0) (by decide) (by decide)
      rw [show x + 2 * 0 = x by omega] at this
      exact this
    have v0 : VS 0 0 = 2 := by decide
    refine c_isZeroC (mu := mu) (by omega) px (nV.1 0 0 0) ?_
    unfold divV at h
    by_cases c0 : (V 0 0 0).1 = 0
    · rw [if_pos c0] at h ⊢
      refine ⟨by decide, ?_⟩
      rw [if_neg (by decide)]
      rintro _ rfl
      refine c_X8_unit hR (by omega) (fun m1 f1 e1 v1 => ?_)
      have e1' : m1 378 2 = 2 := by rw [e1, up_at]
      refine ⟨by rw [e1']; decide, ?_⟩
      rw [if_neg (by rw [e1']; decide)]
      exact h.2 2 m1 rfl ((Fc.err (S := fun z => 1155420 ≤ z) (m := m) (e := 2)).trans (f1.mono (fun q z => by omega))) e1'
    · rw [if_neg c0] at h ⊢
      refine ⟨by decide, ?_⟩
      rw [if_pos rfl]
      refine c_X8_unit hR (by omega) (fun m1 f1 e1 v1 => ?_)
      have e1' : m1 378 2 = 0 := by rw [e1, he]
      have f1' : Fc (fun z => 1155420 ≤ z) m m1 := f1.mono (fun q z => by omega)
      refine ⟨by rw [e1']; decide, ?_⟩
      rw [if_pos e1']
      have p1 : pr m1 379 1156302 = oneV 0 0 0 0 := by
        have := v1.row0.at (k := 0) (by decide) (by decide)
        rw [show (1156302 : Int) + 2 * 0 = 1156302 by decide] at this
        exact this
      have p2 : pr m1 379 x = V 0 0 0 := by
        unfold pr
        rw [f1.2 _ (by omega), f1.2 _ (by omega)]
        exact px
      have n1 : NB mu (oneV 0 0 0 0) := (oneV_NN hM (d := 0) (s := 0) (by decide)).1 0 0 0
      refine c_X8_by (by constructor <;> omega) (by rw [f1.mu, hmu]) hM hf (by decide) (by omega) (by decide) (by rw [p1]; exact n1) (by rw [p2]; exact nV.1 0 0 0) (by rw [p2]; exact c0) (fun p hp => ?_) (fun z hz => ?_)
      · rw [p1, p2] at hp
        refine h.1 _ _ (mapE_ok (fun i j k hk => ?_)) (f1'.trans (Fc.ofPt (by decide) (by decide))) (by rw [pt_oth (by decide), e1']) ?_
        · have hk' := inD0.1 hk
          rw [cof0] at hk'
          rw [hk'.1, hk'.2.1, show k = 0 by omega]
          exact ⟨p, hp⟩
        · intro i j hi hj k k0 k1
          have r0 : rws 0 = 1 := rfl
          rw [cof0] at k1
          have i0 : i = 0 := by omega
          have j0 : j = 0 := by omega
          have kk : k = 0 := by omega
          subst i0 j0 kk
          have t := pt_at (m := m1) (a := 379) (x := 1155420) (p := p)
          have ev : (if inV 0 0 0 0 0 then okv (divS mu (oneV 0 0 0 0) (V 0 0 0)) else (0, 1)) = p := by
            rw [if_pos (inD0.2 ⟨rfl, rfl, by decide, by decide⟩), hp]
            rfl
          rw [show (1155420 : Int) + EA 0 0 0 0 + 2 * 0 = 1155420 by decide]
          simp only [ev]
          exact ⟨congrArg Prod.fst t, congrArg Prod.snd t⟩
      · rw [p1, p2] at hz
        have := divS_err hz
        exact h.2 1 _ (mapE_er (f := fun i j k => divS mu (oneV 0 i j k) (V 0 0 0)) (inD0.2 ⟨rfl, rfl, Int.le_refl 0, by decide⟩) hz) (f1'.trans Fc.err) (by rw [up_at, this])
  · rw [if_neg c]
    rw [if_neg c] at h
    have hs1 : 1 ≤ s := by omega
    refine c_X8_determinant hR hs1 hmu hM he (by omega) (by rw [cof0]; omega) (by omega) (by rw [cof0]; omega) (by rw [cof0]; omega) vx nV.nv ⟨fun w m1 h1 f1 e1 r1 => ?_, fun z m1 h1 f1 e1 => ?_⟩
    · rw [h1] at h
      simp only at h
      have nw := detS_NR hM hd ⟨hs1, hs.2⟩ nV h1
      have f1' : Fc (fun z => 1155420 ≤ z) m m1 := f1.mono (fun q z => by unfold S3 at z; rw [cof0] at z; omega)
      have pw : pr m1 379 1156302 = w 0 := by
        have := r1.at (k := 0) (by decide) (by decide)
        rw [show (1156302 : Int) + 2 * 0 = 1156302 by decide] at this
        exact this
      refine ⟨by rw [e1]; decide, ?_⟩
      rw [if_pos e1]
      refine c_isZeroC (mu := mu) (by decide) pw (nw.1 0) ?_
      by_cases c0 : (w 0).1 = 0
      · rw [if_pos c0] at h ⊢
        refine ⟨by decide, ?_⟩
        rw [if_neg (by decide)]
        rintro _ rfl
        exact invC_110e ⟨hs1, hs.2⟩ (by rw [up_at]; decide) (by rw [up_at]; decide) (h.2 5 _ rfl (f1'.trans Fc.err) (up_at ..))
      · rw [if_neg c0] at h ⊢
        refine ⟨by decide, ?_⟩
        rw [if_pos rfl]
        refine ⟨by rw [e1]; decide, ?_⟩
        rw [if_pos e1]
        refine c_X8_adjugate hR hs1 (by rw [f1.mu, hmu]) hM e1 (by omega) (by omega) (by omega) (by omega) (by omega) (vx.fr hd hs f1' (fun q q0 q1 z => by omega)) nV ⟨fun U m2 h2 f2 e2 v2 => ?_, fun z m2 h2 f2 e2 => ?_⟩
        · rw [h2] at h
          simp only at h
          have f2' : Fc (fun z => 1155420 ≤ z) m m2 := f1'.trans (f2.mono (fun q z => by unfold S4 at z; omega))
          have pw2 : pr m2 379 1156302 = w 0 := by
            unfold pr
            rw [f2.2 _ (by unfold S4; omega), f2.2 _ (by unfold S4; omega)]
            exact pw
          refine invC_135 hb ⟨hs1, hs.2⟩ (by rw [f2'.mu, hmu]) hM hf e2 v2 (adjS_NN hM hd ⟨hs1, hs.2⟩ nV h2) pw2 (nw.1 0) c0 ⟨fun U' m3 a1 a2 a3 a4 => h.1 U' m3 a1 (f2'.trans a2) a3 a4, fun z m3 a1 a2 a3 => h.2 z m3 a1 (f2'.trans a2) a3⟩
        · rw [h2] at h
          have := adjS_err h2
          refine invC_135e ⟨hs1, hs.2⟩ (by rw [e2]; constructor <;> omega) (by rw [e2]; omega) (h.2 z m2 rfl (f1'.trans (f2.mono (fun q z => by unfold S4 at z; omega))) e2)
    · rw [h1] at h
      have := detS_err h1
      have q := h.2 z m1 rfl (f1.mono (fun q z => by unfold S3 at z; rw [cof0] at z; omega)) e1
      refine ⟨by rw [e1]; constructor <;> omega, ?_⟩
      rw [if_neg (by rw [e1]; omega)]
      exact invC_110e ⟨hs1, hs.2⟩ (by rw [e1]; constructor <;> omega) (by rw [e1]; omega) q
end INV
