set_option maxRecDepth 100000
/-! the model's parser: levels with loops -/
abbrev PLprod : PLo := fun rec Q T n x m => P_X10_readProduct_18 rec Q T n x 1 m
abbrev PLbeh : PLo := fun rec Q T n x m => P_X10_readBehind_18 rec Q T n x 1 m
section LOOPM
variable {T : MM → Prop} {tk : Int → TK} {N : Int} {f dep n : Nat} {m0 m : MM} {p o lo p0 x k w : Int} {a : PT} {Q K : Int → MM → Prop}
theorem c_orM (hE : ExM tk N T f 2 0 11) (hL : LoM tk N T f 11 11 P_X10_readOr_5) : LoM tk N T (f + 1) 11 11 P_X10_readOr_5 := by
  intro dep n p o lo p0 x k a m0 m Q hf hn hd hP fr hA hs h1 h0
  obtain ⟨n', rfl⟩ : ∃ n', n = n' + 1 := ⟨n - 1, by omega⟩
  have E : pS tk (f + 1) 11 a p o = bLoop tk (pS tk f) (if isKy tk 4 p then 9 else -1) 2 11 a p o := rfl
  refine c_isKeyM (c := 4) rfl (by decide) hP (fun y => ⟨by decide, ?_⟩) (fun y => ⟨by decide, ?_⟩)
  · rw [if_neg (by decide)]
    rw [if_pos y] at E
    exact c_loopM hE fe_and (by decide) hL fl_or (by decide) (by decide) E (by decide) (by decide) (ky_kd y) hf (by omega) hd hP fr hA hs h1 h0
  · rw [if_pos rfl]
    rw [if_neg y] at E
    exact h1 [[a]] p (by rw [E]; rfl) x m k hP fr hA hs.2.1
theorem c_andM (hE : ExM tk N T f 3 6 10) (hL : LoM tk N T f 12 10 P_X10_readAnd_5) : LoM tk N T (f + 1) 12 10 P_X10_readAnd_5 := by
  intro dep n p o lo p0 x k a m0 m Q hf hn hd hP fr hA hs h1 h0
  obtain ⟨n', rfl⟩ : ∃ n', n = n' + 1 := ⟨n - 1, by omega⟩
  have E : pS tk (f + 1) 12 a p o = bLoop tk (pS tk f) (if isKy tk 3 p then 10 else -1) 3 12 a p o := rfl
  refine c_isKeyM (c := 3) rfl (by decide) hP (fun y => ⟨by decide, ?_⟩) (fun y => ⟨by decide, ?_⟩)
  · rw [if_neg (by decide)]
    rw [if_pos y] at E
    exact c_loopM hE fe_not (by decide) hL fl_and (by decide) (by decide) E (by decide) (by decide) (ky_kd y) hf (by omega) hd hP fr hA hs h1 h0
  · rw [if_pos rfl]
    rw [if_neg y] at E
    exact h1 [[a]] p (by rw [E]; rfl) x m k hP fr hA hs.2.1
theorem c_sumM (hE : ExM tk N T f 6 8 7) (hL : LoM tk N T f 15 7 P_X10_readSum_5) : LoM tk N T (f + 1) 15 7 P_X10_readSum_5 := by
  intro dep n p o lo p0 x k a m0 m Q hf hn hd hP fr hA hs h1 h0
  obtain ⟨n', rfl⟩ : ∃ n', n = n' + 1 := ⟨n - 1, by omega⟩
  have E : pS tk (f + 1) 15 a p o = bLoop tk (pS tk f) (smK tk p) 6 15 a p o := rfl
  refine c_isSignM (c := 43) rfl (by decide) (by decide) hP (fun y => ⟨by decide, ?_⟩) (fun y => ⟨by decide, ?_⟩)
  · rw [if_neg (by decide)]
    have e : smK tk p = 16 := by unfold smK; rw [if_pos y]
    rw [e] at E
    refine c_isSignM (c := 43) rfl (by decide) (by decide) hP (fun _ => ⟨by decide, ?_⟩) (fun z => absurd y z)
    rw [if_neg (by decide)]
    exact c_loopM hE fe_product (by decide) hL fl_sum (by decide) (by decide) E (by decide) (by decide) (sg_kd y) hf (by omega) hd hP fr hA hs h1 h0
  · rw [if_pos rfl]
    refine c_isSignM (c := 45) rfl (by decide) (by decide) hP (fun y1 => ⟨by decide, ?_⟩) (fun y1 => ⟨by decide, ?_⟩)
    · rw [if_neg (by decide)]
      have e : smK tk p = 17 := by unfold smK; rw [if_neg y, if_pos y1]
      rw [e] at E
      refine c_isSignM (c := 43) rfl (by decide) (by decide) hP (fun z => absurd z y) (fun _ => ⟨by decide, ?_⟩)
      rw [if_pos rfl]
      exact c_loopM hE fe_product (by decide) hL fl_sum (by decide) (by decide) E (by decide) (by decide) (sg_kd y1) hf (by omega) hd hP fr hA hs h1 h0
    · rw [if_pos rfl]
      have e : smK tk p = -1 := by unfold smK; rw [if_neg y, if_neg y1]
      rw [e] at E
      exact h1 [[a]] p (by rw [E]; rfl) x m k hP fr hA hs.2.1
theorem c_prodM (hE : ExM tk N T f 7 10 6) (hL : LoM tk N T f 16 6 PLprod) : LoM tk N T (f + 1) 16 6 PLprod := by
  intro dep n p o lo p0 x k a m0 m Q hf hn hd hP fr hA hs h1 h0
  obtain ⟨n', rfl⟩ : ∃ n', n = n' + 1 := ⟨n - 1, by omega⟩
  have pb := hP.2.1
  have E : pS tk (f + 1) 16 a p o = bLoop tk (pS tk f) (prK tk p) 7 16 a p o := rfl
  have go : ∀ ks kd, prK tk p = ks → 12 ≤ ks ∧ ks ≤ 21 → kd = kM ks → 0 ≤ kd ∧ kd ≤ 30 → 1 ≤ (tk p).1 ∧ (tk p).1 ≤ 5 → P_X10_readProduct_81 (R_X10_readE dep) Q T (fun z0 z1 z2 => P_X10_readProduct_18 (R_X10_readE dep) Q T n' z0 z1 z2) x kd m := by
    intro ks kd e k1 k2 k4 k3
    rw [e] at E
    refine ⟨by constructor <;> omega, by rw [if_neg (by omega)]; decide, ?_⟩
    have ei : (if kd < 0 then (0 : Int) else 1) = 1 := by rw [if_neg (by omega)]
    rw [ei, if_neg (by decide)]
    exact c_loopM (P := PLprod) hE fe_unary (by decide) hL fl_prod (by decide) (by decide) E (by omega) k2 k3 hf (by omega) hd hP fr hA hs h1 h0
  refine ⟨by decide, ?_⟩
  rw [if_neg (by decide)]
  refine c_isSignM (c := 42) rfl (by decide) (by decide) hP (fun y => ⟨by decide, ?_⟩) (fun y => ⟨by decide, ?_⟩)
  · rw [if_neg (by decide)]; exact go 18 19 (by unfold prK; rw [if_pos y]) (by decide) (by decide) (by decide) (sg_kd y)
  rw [if_pos rfl]
  refine c_isSignM (c := 47) rfl (by decide) (by decide) hP (fun y1 => ⟨by decide, ?_⟩) (fun y1 => ⟨by decide, ?_⟩)
  · rw [if_neg (by decide)]; exact go 19 20 (by unfold prK; rw [if_neg y, if_pos y1]) (by decide) (by decide) (by decide) (sg_kd y1)
  rw [if_pos rfl]
  refine c_isKeyM (c := 6) rfl (by decide) hP (fun y2 => ⟨by decide, ?_⟩) (fun y2 => ⟨by decide, ?_⟩)
  · rw [if_neg (by decide)]; exact go 20 21 (by unfold prK; rw [if_neg y, if_neg y1, if_pos y2]) (by decide) (by decide) (by decide) (ky_kd y2)
  rw [if_pos rfl]
  refine c_isKeyM (c := 7) rfl (by decide) hP (fun y3 => ⟨by decide, ?_⟩) (fun y3 => ⟨by decide, ?_⟩)
  · rw [if_neg (by decide)]; exact go 21 22 (by unfold prK; rw [if_neg y, if_neg y1, if_neg y2, if_pos y3]) (by decide) (by decide) (by decide) (ky_kd y3)
  rw [if_pos rfl]
  refine ⟨by decide, by decide, ?_⟩
  rw [if_pos (by decide)]
  have e : prK tk p = -1 := by unfold prK; rw [if_neg y, if_neg y1, if_neg y2, if_neg y3]
  rw [e] at E
  obtain ⟨n2, rfl⟩ : ∃ n2, n' = n2 + 1 := ⟨n' - 1, by omega⟩
  exact fl_prod0 (h1 [[a]] p (by rw [E]; rfl) x m k hP fr hA hs.2.1)
theorem c_relM (hE : ExM tk N T f 5 9 8) : ExM tk N T (f + 1) 4 3 9 := by
  intro dep p o k0 m Q hf hd hP hb h1 h0
  have ob := hP.2.2.2.1.2
  have pb := hP.2.1
  have kb := hP.2.2.2.2
  obtain ⟨d, rfl⟩ : ∃ d, dep = d + 1 := ⟨dep - 1, by omega⟩
  have E : pS tk (f + 1) 4 acc0 p o = bRel tk (pS tk f) p o := rfl
  unfold bRel at E
  have G : ∀ {rs q}, pS tk f 5 acc0 p o = .ok (rs, q) → pS tk (f + 1) 4 acc0 p o = (if rlK tk q = -1 then oneR (fstP rs) q else (goS tk q >>= fun q1' => pS tk f 5 acc0 q1' o >>= fun x => oneR ((rlK tk q, plS tk q, 0, 0), chT [fstP rs, fstP x.1]) x.2)) := by
    intro rs q hq
    rw [E, hq]; rfl
  show W_X10_readCompare (R_X10_readE d) m Q T
  refine hE d p o k0 m _ (by omega) (by omega) hP hb (fun rs q hq r m1 k1 P1 F1 T1 n1 => ?_) (fun e z r m1 q k1 P1 F1 hq k1a k1b => ?_)
  · have lt := (pS_lt hq).2 (by omega)
    have E := G hq
    have fin : ∀ ks kd, rlK tk q = ks → 12 ≤ ks ∧ ks ≤ 21 → kd = kM ks → 0 ≤ kd ∧ kd ≤ 30 → 1 ≤ (tk q).1 ∧ (tk q).1 ≤ 5 → P_X10_readCompare_63 (R_X10_readE d) Q T r kd m1 := by
      intro ks kd e k1' k2 k4 k3
      rw [e, if_neg (by omega)] at E
      refine ⟨by constructor <;> omega, ?_⟩
      rw [if_pos (by omega)]
      refine c_pairM hE fe_sum (by decide) (by omega) (by omega) (by decide) P1 k3 F1 T1 ⟨by omega, n1, hb⟩ (.inr (.inr k1')) k2 (fun rs2 q2 ag hq2 r2 m2 k2' P2 F2 T2 n2 => ?_) (fun e z => h0 e (by rw [E, z]; rfl)) (fun e ag z => h0 e (by rw [E, ag]; show (pS tk f 5 acc0 (q + 1) o >>= _) = _; rw [z]; rfl))
      exact h1 [[((ks, plS tk q, 0, 0), chT [fstP rs, fstP rs2])]] q2 (by rw [E, ag]; show (pS tk f 5 acc0 (q + 1) o >>= _) = _; rw [hq2]; rfl) r2 m2 k2' P2 F2 T2 n2
    refine c_isSignM (c := 61) rfl (by decide) (by decide) P1 (fun y => ⟨by decide, ?_⟩) (fun y => ⟨by decide, ?_⟩)
    · rw [if_neg (by decide)]; exact fin 12 13 (by unfold rlK; rw [if_pos y]) (by decide) (by decide) (by decide) (sg_kd y)
    rw [if_pos rfl]
    refine c_isSignM (c := 35) rfl (by decide) (by decide) P1 (fun y1 => ⟨by decide, ?_⟩) (fun y1 => ⟨by decide, ?_⟩)
    · rw [if_neg (by decide)]; exact fin 13 14 (by unfold rlK; rw [if_neg y, if_pos y1]) (by decide) (by decide) (by decide) (sg_kd y1)
    rw [if_pos rfl]
    refine c_isSignM (c := 60) rfl (by decide) (by decide) P1 (fun y2 => ⟨by decide, ?_⟩) (fun y2 => ⟨by decide, ?_⟩)
    · rw [if_neg (by decide)]; exact fin 14 15 (by unfold rlK; rw [if_neg y, if_neg y1, if_pos y2]) (by decide) (by decide) (by decide) (sg_kd y2)
    rw [if_pos rfl]
    refine c_isSignM (c := 131) rfl (by decide) (by decide) P1 (fun y3 => ⟨by decide, ?_⟩) (fun y3 => ⟨by decide, ?_⟩)
    · rw [if_neg (by decide)]; exact fin 15 16 (by unfold rlK; rw [if_neg y, if_neg y1, if_neg y2, if_pos y3]) (by decide) (by decide) (by decide) (sg_kd y3)
    rw [if_pos rfl]
    refine ⟨by decide, ?_⟩
    rw [if_neg (by decide)]
    have e : rlK tk q = -1 := by unfold rlK; rw [if_neg y, if_neg y1, if_neg y2, if_neg y3]
    rw [e, if_pos rfl] at E
    exact h1 [[fstP rs]] q (by rw [E]; rfl) r m1 k1 P1 F1 T1 n1
  · have hQ := h0 e (by rw [E, z]; rfl) r m1 q k1 P1 F1 hq k1a k1b
    refine f_isSign P1 ⟨by decide, ?_⟩
    rw [if_pos rfl]
    refine f_isSign P1 ⟨by decide, ?_⟩
    rw [if_pos rfl]
    refine f_isSign P1 ⟨by decide, ?_⟩
    rw [if_pos rfl]
    refine f_isSign P1 ⟨by decide, ?_⟩
    rw [if_pos rfl]
    refine ⟨by decide, ?_⟩
    rw [if_neg (by decide)]; exact hQ
end LOOPM
