set_option maxRecDepth 100000
/-! quotients and rests -/
def quoZ (qf a b : Int) : EX VV := if b = 0 then .error 2 else .ok (numV (if qf = 0 then a % (b.natAbs : Int) else if 0 < b then a / b else -(a / (-b))))
def restP (qf mu : Int) (u v : Int → PP) : EX VV := match dvP mu u v with
  | .error e => .error e
  | .ok (q, w) => .ok (rvv (if qf = 0 then w else q))
theorem quoZ_err {qf a b e : Int} (h : quoZ qf a b = .error e) : e = 2 := by
  unfold quoZ at h
  split at h
  · cases h; rfl
  · cases h
theorem restP_err {qf mu e : Int} {u v : Int → PP} (h : restP qf mu u v = .error e) : e = 1 ∨ e = 2 := by
  unfold restP at h
  split at h
  case h_1 he => cases h; exact dvP_err he
  case h_2 => cases h
theorem NB_Z1 {a : Int} (h : -999999999 ≤ a ∧ a ≤ 999999999) : NB 0 (a, 1) := ⟨⟨h.1, h.2, show (1 : Int) ≤ 999999999 by decide⟩, show (1 : Int) ≤ 1 by decide, fun _ => rfl, fun z => absurd z (by decide), fun z => absurd z (by decide)⟩
theorem ediv_b {a b : Int} (ha : -999999999 ≤ a ∧ a ≤ 999999999) (hb : 0 < b) : -999999999 ≤ a / b ∧ a / b ≤ 999999999 := by
  have t := Int.mul_ediv_add_emod a b
  have m0 := Int.emod_nonneg a (show b ≠ 0 by omega)
  have m1 := Int.emod_lt_of_pos a hb
  refine ⟨?_, ?_⟩
  · exact Int.le_ediv_of_mul_le hb (by have := Int.mul_le_mul_of_nonneg_left (show (1 : Int) ≤ b by omega) (show (0 : Int) ≤ 999999999 by decide); omega)
  · have : a / b < 1000000000 := Int.ediv_lt_of_lt_mul hb (by have := Int.mul_le_mul_of_nonneg_left (show (1 : Int) ≤ b by omega) (show (0 : Int) ≤ 1000000000 by decide); omega)
    omega
theorem quo_b {a b : Int} (ha : -999999999 ≤ a ∧ a ≤ 999999999) (hb : b ≠ 0) : -999999999 ≤ (if 0 < b then a / b else -(a / (-b))) ∧ (if 0 < b then a / b else -(a / (-b))) ≤ 999999999 := by
  split
  case isTrue c => exact ediv_b ha c
  case isFalse c =>
    have := ediv_b (b := -b) ha (by omega)
    omega
theorem quoZ_NN {qf a b : Int} {U : VV} (ha : -999999999 ≤ a ∧ a ≤ 999999999) (hb : -999999999 ≤ b ∧ b ≤ 999999999) (h : quoZ qf a b = .ok U) : NN 0 0 0 U := by
  unfold quoZ at h
  split at h
  · cases h
  case isFalse c =>
    cases h
    refine numV_NN (by decide) (NB_Z1 ?_)
    split
    · have m0 := Int.emod_nonneg a (show (b.natAbs : Int) ≠ 0 by omega)
      have m1 := Int.emod_lt_of_pos a (show 0 < (b.natAbs : Int) by omega)
      omega
    · exact quo_b ha c
theorem restP_NN {qf mu : Int} {u v : Int → PP} {U : VV} (hM : MU mu) (nu : NR mu 7 u) (nv : NR mu 7 v) (h : restP qf mu u v = .ok U) : NN mu 1 0 U := by
  unfold restP at h
  split at h
  case h_1 => cases h
  case h_2 q w hq =>
    cases h
    obtain ⟨nq, nw⟩ := dvP_NR hM nu nv hq
    refine rvv_NN hM ?_
    rw [cof1]
    split
    · exact nw
    · exact nq
section REST2
variable {Q : Int → MM → Prop} {r b base mu x y qf : Int} {u v : Int → PP} {V W : VV}
theorem c_X6_restZ {m : MM} (hR : RG r b 0 0) (hq : qf = 0 ∨ qf = 1) (bx : 0 ≤ x ∧ x + 2 ≤ 1155420) (by_ : 0 ≤ y ∧ y + 2 ≤ 1155420) (he : m 378 2 = 0) (vx : VC (m 379) x 0 0 V) (vy : VC (m 379) y 0 0 W) (nV : NN 0 0 0 V) (nW : NN 0 0 0 W) (h : OutV (fun q => 1155420 ≤ q) m (quoZ qf (V 0 0 0).1 (W 0 0 0).1) 1155420 0 0 Q) : P_X6_rest qf r x y m Q := by
  have rx := vx.row0 0 (by decide) (by decide)
  have ry := vy.row0 0 (by decide) (by decide)
  rw [show x + 2 * 0 = x by omega] at rx
  rw [show y + 2 * 0 = y by omega] at ry
  have p1 := (nV.1 0 0 0).p1
  have p2 := (nW.1 0 0 0).p1
  generalize (V 0 0 0).1 = A at *
  generalize (W 0 0 0).1 = B at *
  refine c_depth hR ⟨by decide, ?_⟩
  rw [if_pos (by decide), rx.1, ry.1]
  refine ⟨by omega, by omega, by constructor <;> omega, ?_⟩
  unfold quoZ at h
  by_cases c : B = 0
  · rw [if_pos c]
    rw [if_pos c] at h
    rintro _ rfl
    exact h.2 2 _ rfl Fc.err (up_at ..)
  · rw [if_neg c]
    rw [if_neg c] at h
    have fin : ∀ k, k = (if qf = 0 then A % (B.natAbs : Int) else if 0 < B then A / B else -(A / (-B))) → P_X6_integer k m Q := by
      intro k hk
      refine c_integer (fun m' f e v => h.1 _ m' rfl (f.mono (fun q z => by omega)) (by rw [e, he]) ?_)
      rw [← hk]
      exact v
    have l101 : ∀ s0, s0 = (if 0 < B then A / B else -(A / (-B))) → P_X6_rest_101 Q qf A B s0 m := by
      intro s0 hs
      refine ⟨by constructor <;> omega, ?_⟩
      rcases hq with q0 | q0
      · rw [if_pos q0]
        refine c_absI (by constructor <;> omega) (c_floorModI (by constructor <;> omega) (by constructor <;> omega) (by omega) ?_)
        exact fin _ (by rw [if_pos q0])
      · rw [if_neg (by omega)]
        exact fin _ (by rw [if_neg (by omega)]; exact hs)
    by_cases cb : B ≤ 0
    · rw [if_pos cb]
      exact c_floorDivI (by constructor <;> omega) (by constructor <;> omega) (by omega) (l101 _ (by rw [if_neg (by omega)]))
    · rw [if_neg cb]
      exact c_floorDivI (by constructor <;> omega) (by constructor <;> omega) (by omega) (l101 _ (by rw [if_pos (by omega)]))
theorem c_X6_restP {m : MM} (hR : RG r b 1 0) (hq : qf = 0 ∨ qf = 1) (hmu : muC m b = mu) (hM : MU mu) (hf : FD mu) (he : m 378 2 = 0) (bx : 0 ≤ x ∧ x + 14 ≤ 1155420) (by_ : 0 ≤ y ∧ y + 14 ≤ 1155420) (rx : Rw (m 379) x u 7) (ry : Rw (m 379) y v 7) (nu : NR mu 7 u) (nv : NR mu 7 v) (h : OutV (fun q => 1155420 ≤ q) m (restP qf mu u v) 1155420 1 0 Q) : P_X6_rest qf r x y m Q := by
  obtain ⟨-, hb, hd, hs⟩ := id hR
  refine c_depth hR ⟨by decide, ?_⟩
  rw [if_neg (by decide)]
  unfold restP at h
  refine c_base hR (c_X8_divide (by constructor <;> omega) hmu hM hf he (by omega) (by omega) (by omega) rx ry nu nv ⟨fun q w m1 h1 f1 e1 rq rw_ => ?_, fun z m1 h1 f1 e1 => ?_⟩)
  · rw [h1] at h
    simp only at h
    have f1' : Fc (fun q => 1155420 ≤ q) m m1 := f1.mono (fun q z => by unfold SDc at z; omega)
    refine ⟨by constructor <;> omega, c_X8_copy (by decide) (by split <;> decide) (by decide) (fun m2 f2 e2 cp => ?_)⟩
    refine h.1 _ m2 rfl (f1'.trans (f2.mono (fun q z => by omega))) (by rw [e2, e1]) (VC_row ?_)
    rw [cof1]
    by_cases c : qf = 0
    · rw [if_pos c] at cp ⊢
      exact rw_.cp cp
    · rw [if_neg c] at cp ⊢
      exact rq.cp cp
  · rw [h1] at h
    have f1' : Fc (fun q => 1155420 ≤ q) m m1 := f1.mono (fun q z => by unfold SDc at z; omega)
    refine ⟨by constructor <;> omega, c_X8_copy (by decide) (by split <;> decide) (by decide) (fun m2 f2 e2 cp => ?_)⟩
    exact h.2 z m2 rfl (f1'.trans (f2.mono (fun q z => by omega))) (by rw [e2, e1])
/-! the model -/
theorem numV_chg {m m' : MM} {p a c : Int} (h : VM (m 635) p (numV c)) (hm : m' = pt m 635 p (a, 1)) : VM (m' 635) p (numV a) := by
  subst hm
  refine VM.chg (c := 1) h (Fm.ofPt (S := fun q => p ≤ q ∧ q < p + 2) (by omega) (by omega)) (fun q q0 q1 z => by omega) (fun j j0 j1 => ?_) (by decide) (fun k hk => ?_) (fun k hk => ?_) (by decide)
  · have : j = 0 := by omega
    subst this
    have q := pt_at (m := m) (a := 635) (x := p) (p := (a, 1))
    rw [show p + 2 * 0 = p by omega]
    exact ⟨congrArg Prod.fst q, congrArg Prod.snd q⟩
  · unfold numR
    rw [if_neg (by omega)]
  · unfold numR
    rw [if_neg (by omega)]
theorem numV_of {V : VV} (h : NN 0 0 0 V) : ∀ i j k, 0 ≤ k → V i j k = numV (V 0 0 0).1 i j k := by
  intro i j k k0
  unfold numV
  by_cases c : i = 0 ∧ j = 0
  · rw [c.1, c.2, rvv_at]
    unfold numR
    by_cases ck : k = 0
    · rw [if_pos ck, ck]
      have := (h.1 0 0 0).2.2.1 (by decide)
      exact Prod.ext rfl this
    · rw [if_neg ck]
      exact h.2 0 0 k (by rw [cof0]; omega)
  · rw [rvv_ne c]
    have r0 : rws 0 = 1 := rfl
    exact h.2 i j k (by omega)
theorem VM.num {g : Int → Int} {x : Int} {V : VV} (h : VM g x V) (n : NN 0 0 0 V) : VM g x (numV (V 0 0 0).1) := by
  intro i j hi hj k k0 k1
  rw [← numV_of n i j k k0]
  exact h i j hi hj k k0 k1
theorem c_X10_divideZ {m : MM} (he : m 582 84 = 0) (bx : 0 ≤ x ∧ x + 882 ≤ 1590000) (by_ : 0 ≤ y ∧ y + 882 ≤ 1590000) (vx : VM (m 635) x V) (vy : VM (m 635) y W) (nV : NN 0 0 0 V) (nW : NN 0 0 0 W) (ok : (W 0 0 0).1 ≠ 0 → ∀ m', Fm SDM m m' → m' 582 84 = 0 → VM (m' 635) 1592000 (numV (if 0 < (W 0 0 0).1 then (V 0 0 0).1 / (W 0 0 0).1 else -((V 0 0 0).1 / (-(W 0 0 0).1)))) → VM (m' 635) 1593000 (numV ((V 0 0 0).1 % ((W 0 0 0).1.natAbs : Int))) → Q 0 m') (er : (W 0 0 0).1 = 0 → ∀ m', Fm SDM m m' → m' 582 84 = 2 → Q 0 m') : P_X10_divide x y 0 0 m Q := by
  have wx := vx.num nV
  have wy := vy.num nW
  have p1 := (nV.1 0 0 0).p1
  have p2 := (nW.1 0 0 0).p1
  generalize (V 0 0 0).1 = A at *
  generalize (W 0 0 0).1 = B at *
  refine c_clear (n := 441) (by decide) (by decide) (fun m1 f1 e1 r1 => ?_)
  have f1' : Fm SDM m m1 := f1.mono (fun q z => by have z1 : 1592000 ≤ q ∧ q < 1592000 + 2 * 441 := z; unfold SDM; omega)
  have n0 : numV 0 = zV := by
    funext i j k
    unfold numV
    by_cases c : i = 0 ∧ j = 0
    · rw [c.1, c.2, rvv_at]
      unfold numR zV zr
      split <;> rfl
    · rw [rvv_ne c]; rfl
  have v1 : VM (m1 635) 1592000 (numV 0) := by rw [n0]; exact VM_clear r1
  refine c_copy (n := 882) (by omega) (by decide) (Or.inr (by omega)) (fun m2 f2 e2 cp => ?_)
  have f2' : Fm SDM m m2 := f1'.trans (f2.mono (fun q z => by have z1 : 1593000 ≤ q ∧ q < 1593000 + 882 := z; unfold SDM; omega))
  have e2' : m2 582 84 = 0 := by rw [e2, e1, he]
  have vu : VM (m2 635) 1593000 (numV A) := (wx.fm f1' (fun q q0 q1 z => by unfold SDM at z; omega)).cpy cp
  have vq : VM (m2 635) 1592000 (numV 0) := v1.fm f2 (fun q q0 q1 z => by have z1 : 1593000 ≤ q ∧ q < 1593000 + 882 := z; omega)
  have wx2 : VM (m2 635) x (numV A) := wx.fm f2' (fun q q0 q1 z => by unfold SDM at z; omega)
  have wy2 : VM (m2 635) y (numV B) := wy.fm f2' (fun q q0 q1 z => by unfold SDM at z; omega)
  have ax := wx2.row 0 (by decide) (by decide)
  have ay := wy2.row 0 (by decide) (by decide)
  rw [show x + 2 * 0 = x by omega] at ax
  rw [show y + 2 * 0 = y by omega] at ay
  have ax1 : m2 635 x = A := ax.1
  have ay1 : m2 635 y = B := ay.1
  refine c_isZero (n := 7) (u := numR B) (by omega) (by omega) (wy2.row.le (by decide)) (fun k _ _ => ?_) ?_
  · unfold numR
    split
    · show RL B; constructor <;> omega
    · show RL 0; decide
  have zB : allZ (numR B) 7 0 = true ↔ B = 0 := by
    rw [allZ_iff]
    constructor
    · intro z
      exact z 0 (by decide) (by decide)
    · intro z j j0 j1
      unfold numR
      split
      · exact z
      · rfl
  by_cases c : B = 0
  · rw [if_pos (zB.2 c)]
    refine ⟨by decide, ?_⟩
    rw [if_neg (by decide)]
    rintro _ rfl
    exact er c _ (f2'.trans Fm.err) (up_at ..)
  · rw [if_neg (fun z => c (zB.1 z))]
    refine ⟨by decide, ?_⟩
    rw [if_pos rfl]
    refine ⟨by decide, ?_⟩
    rw [if_pos rfl, ax1, ay1]
    refine ⟨by omega, by omega, by constructor <;> omega, ?_⟩
    have ab : (if 0 ≤ B then B else -B : Int) = (B.natAbs : Int) := by split <;> omega
    rw [ab]
    have m0 := Int.emod_nonneg A (show (B.natAbs : Int) ≠ 0 by omega)
    have mB := Int.emod_lt_of_pos A (show 0 < (B.natAbs : Int) by omega)
    have t := Int.mul_ediv_add_emod A (B.natAbs : Int)
    have qb := quo_b p1 c
    have qe : Int.tdiv (A - A % (B.natAbs : Int)) B = (if 0 < B then A / B else -(A / (-B))) := by
      by_cases cp : 0 < B
      · rw [if_pos cp]
        rw [show (B.natAbs : Int) = B by omega] at t ⊢
        rw [show A - A % B = B * (A / B) by omega, Int.mul_tdiv_cancel_left _ c]
      · rw [if_neg cp]
        rw [show (B.natAbs : Int) = -B by omega] at t ⊢
        rw [show A - A % (-B) = -B * (A / (-B)) by omega, Int.neg_mul, ← Int.mul_neg, Int.mul_tdiv_cancel_left _ c]
    refine c_floorModL (by constructor <;> omega) (by constructor <;> omega) (by omega) ?_
    refine ⟨by constructor <;> omega, by constructor <;> omega, c, ?_⟩
    rw [qe]
    generalize (if 0 < B then A / B else -(A / (-B))) = K at *
    have hB0 : BM m2 0 0 := ⟨by decide, by decide, rfl, by decide, fun z => absurd z (by decide)⟩
    refine c_X10_number (mu := 0) e2' (by decide) (by decide) rfl (by decide) (fun z => absurd z (by decide)) (by constructor <;> omega) (by decide) (by decide) (fun m3 mn => ?_)
    have nk : nmS 0 K 1 = .ok (K, 1) := by
      unfold nmS nmV
      rw [if_pos rfl, if_pos ⟨by show -999999999 ≤ K; omega, by show K ≤ 999999999; omega, by show (1 : Int) ≤ 999999999; decide⟩]
    obtain ⟨e3, k1, k2⟩ := mn.2.1 _ nk
    have f3 : Fm SDM m m3 := f2'.trans (Fm.ofMN mn)
    have fz : Fm (fun _ => False) m2 m3 := Fm.ofMN mn
    refine c_set (by decide) (c_set (by decide) ?_)
    rw [k1]
    have vq3 : VM (m3 635) 1592000 (numV 0) := vq.fm fz (fun _ _ _ z => z)
    have vu3 : VM (m3 635) 1593000 (numV A) := vu.fm fz (fun _ _ _ z => z)
    have vq4 := numV_chg (a := K) vq3 rfl
    have vu4 : VM (pt m3 635 1592000 (K, 1) 635) 1593000 (numV A) := vu3.fm (Fm.ofPt (S := fun q => 1592000 ≤ q ∧ q < 1592002) (by decide) (by decide)) (fun q q0 q1 z => by omega)
    refine ok c _ ((f3.trans (Fm.ofPt (Or.inl (by decide)) (Or.inl (by decide)))).trans (Fm.ofPt (Or.inr (Or.inl (by decide))) (Or.inr (Or.inl (by decide))))) (by rw [pt_oth (by decide), pt_oth (by decide), e3]) (vq4.fm (Fm.ofPt (S := fun q => 1593000 ≤ q ∧ q < 1593002) (by decide) (by decide)) (fun q q0 q1 z => by omega)) (numV_chg vu4 rfl)
end REST2
