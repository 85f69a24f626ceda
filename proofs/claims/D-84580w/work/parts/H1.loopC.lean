set_option maxRecDepth 100000
/-! the component's parser: levels with loops -/
section LOOPC
variable {T : MM → Prop} {tk : Int → TK} {N b : Int} {f dep n : Nat} {m0 m : MM} {p o lo s x w kd : Int} {a : PT} {Q K : Int → MM → Prop}
theorem c_loopC {lp md id : Nat} {l k : Int} {P : PLo} (hE : ExC tk N b T f md id l) (hL : LoC tk N b T f lp l P) (hmd : md < 10) (hl : l ≤ 20) (E : pS tk (f + 1) lp a p o = bLoop tk (pS tk f) k md lp a p o) (hk1 : k ≠ -1) (hkd : ¬ (k = 4 ∨ k = 5 ∨ k = 33 ∨ k = 35)) (hkk : 1 ≤ (tk p).1 ∧ (tk p).1 ≤ 5) (hf : 20 * (151 - p) + 3 < (f + 1 : Nat)) (hn : f ≤ n) (hd : 13 * (12 - o) + l ≤ dep + 1) (hP : PC m tk N b p o) (fr : Fnw b lo m0 m) (hA : TNs m b a lo (m b 0) x) (hs : 0 ≤ s ∧ m b 0 + s ≤ p) (h1 : ∀ rs q, pS tk (f + 1) lp a p o = .ok (rs, q) → ExOk tk N b lo s Q m0 o rs q) (h0 : ∀ e, pS tk (f + 1) lp a p o = .error e → PEr T b m0 e) : P_X3_go m (fun _ m1 => R_X3_expression dep id [] m1 (fun r2 m2 => isTx (m1 365 1) ∧ P_X2_add_2 (m1 365 1) k (plS tk p) x r2 m2 (fun r5 m5 => P (R_X3_expression dep) Q T n r5 m5)) T) T := by
  unfold bLoop at E
  rw [if_neg hk1] at E
  refine c_pairC hE (by omega) hd hP hkk fr hA hs hkd (fun rs q ag hq r m' P' F' T' n' => ?_) (fun e z => h0 e (by rw [E, z]; rfl)) (fun e ag z => h0 e (by rw [E, ag]; show (pS tk f md acc0 (p + 1) o >>= _) = _; rw [z]; rfl))
  have := (pS_lt hq).2 (.inl hmd)
  refine hL dep n q o lo s r _ m0 m' Q (by omega) hn hd P' F' T' ⟨hs.1, n'⟩ (fun rs' q' z => h1 rs' q' ?_) (fun e z => h0 e ?_)
  · rw [E, ag]; show (pS tk f md acc0 (p + 1) o >>= _) = _; rw [hq]; exact z
  · rw [E, ag]; show (pS tk f md acc0 (p + 1) o >>= _) = _; rw [hq]; exact z
theorem c_eitherC (hE : ExC tk N b T f 2 3 11) (hL : LoC tk N b T f 11 11 P_X3_either_5) : LoC tk N b T (f + 1) 11 11 P_X3_either_5 := by
  intro dep n p o lo s x a m0 m Q hf hn hd hP fr hA hs h1 h0
  obtain ⟨n', rfl⟩ : ∃ n', n = n' + 1 := ⟨n - 1, by omega⟩
  have E : pS tk (f + 1) 11 a p o = bLoop tk (pS tk f) (if isKy tk 4 p then 9 else -1) 2 11 a p o := rfl
  refine c_keyP (by decide) hP (fun y => ⟨by decide, ?_⟩) (fun y => ⟨by decide, ?_⟩)
  · rw [if_neg (by decide)]
    rw [if_pos y] at E
    refine c_hereP hP ?_
    exact c_loopC hE hL (by decide) (by decide) E (by decide) (by decide) (ky_kd y) hf (by omega) hd hP fr hA hs h1 h0
  · rw [if_pos rfl]
    rw [if_neg y] at E
    exact h1 [[a]] p (by rw [E]; rfl) x m hP fr hA hs.2
theorem c_bothC (hE : ExC tk N b T f 3 8 10) (hL : LoC tk N b T f 12 10 P_X3_both_5) : LoC tk N b T (f + 1) 12 10 P_X3_both_5 := by
  intro dep n p o lo s x a m0 m Q hf hn hd hP fr hA hs h1 h0
  obtain ⟨n', rfl⟩ : ∃ n', n = n' + 1 := ⟨n - 1, by omega⟩
  have E : pS tk (f + 1) 12 a p o = bLoop tk (pS tk f) (if isKy tk 3 p then 10 else -1) 3 12 a p o := rfl
  refine c_keyP (by decide) hP (fun y => ⟨by decide, ?_⟩) (fun y => ⟨by decide, ?_⟩)
  · rw [if_neg (by decide)]
    rw [if_pos y] at E
    refine c_hereP hP ?_
    exact c_loopC hE hL (by decide) (by decide) E (by decide) (by decide) (ky_kd y) hf (by omega) hd hP fr hA hs h1 h0
  · rw [if_pos rfl]
    rw [if_neg y] at E
    exact h1 [[a]] p (by rw [E]; rfl) x m hP fr hA hs.2
theorem c_sumC (hE : ExC tk N b T f 6 9 7) (hL : LoC tk N b T f 15 7 P_X3_sum_5) : LoC tk N b T (f + 1) 15 7 P_X3_sum_5 := by
  intro dep n p o lo s x a m0 m Q hf hn hd hP fr hA hs h1 h0
  obtain ⟨n', rfl⟩ : ∃ n', n = n' + 1 := ⟨n - 1, by omega⟩
  have E : pS tk (f + 1) 15 a p o = bLoop tk (pS tk f) (smK tk p) 6 15 a p o := rfl
  refine c_signP (by decide) hP (fun y => ⟨by decide, ?_⟩) (fun y => ⟨by decide, ?_⟩)
  · rw [if_neg (by decide)]
    have e : smK tk p = 16 := by unfold smK; rw [if_pos y]
    rw [e] at E
    refine c_hereP hP (c_signP (by decide) hP (fun _ => ⟨by decide, ?_⟩) (fun z => absurd y z))
    rw [if_neg (by decide)]
    exact c_loopC hE hL (by decide) (by decide) E (by decide) (by decide) (sg_kd y) hf (by omega) hd hP fr hA hs h1 h0
  · rw [if_pos rfl]
    refine c_signP (by decide) hP (fun y1 => ⟨by decide, ?_⟩) (fun y1 => ⟨by decide, ?_⟩)
    · rw [if_neg (by decide)]
      have e : smK tk p = 17 := by unfold smK; rw [if_neg y, if_pos y1]
      rw [e] at E
      refine c_hereP hP (c_signP (by decide) hP (fun z => absurd z y) (fun _ => ⟨by decide, ?_⟩))
      rw [if_pos rfl]
      exact c_loopC hE hL (by decide) (by decide) E (by decide) (by decide) (sg_kd y1) hf (by omega) hd hP fr hA hs h1 h0
    · rw [if_pos rfl]
      have e : smK tk p = -1 := by unfold smK; rw [if_neg y, if_neg y1]
      rw [e] at E
      exact h1 [[a]] p (by rw [E]; rfl) x m hP fr hA hs.2
theorem c_prodC (hE : ExC tk N b T f 7 7 6) (hL : LoC tk N b T f 16 6 P_X3_product_5) : LoC tk N b T (f + 1) 16 6 P_X3_product_5 := by
  intro dep n p o lo s x a m0 m Q hf hn hd hP fr hA hs h1 h0
  obtain ⟨n', rfl⟩ : ∃ n', n = n' + 1 := ⟨n - 1, by omega⟩
  have E : pS tk (f + 1) 16 a p o = bLoop tk (pS tk f) (prK tk p) 7 16 a p o := rfl
  have go : ∀ k, prK tk p = k → k ≠ -1 → ¬ (k = 4 ∨ k = 5 ∨ k = 33 ∨ k = 35) → 1 ≤ (tk p).1 ∧ (tk p).1 ≤ 5 → P_X3_product_90 (R_X3_expression dep) Q T (fun z0 z1 => P_X3_product_5 (R_X3_expression dep) Q T n' z0 z1) x (plS tk p) k m := by
    intro k e k1 k2 k3
    rw [e] at E
    exact c_loopC hE hL (by decide) (by decide) E k1 k2 k3 hf (by omega) hd hP fr hA hs h1 h0
  have g41 : prK tk p ≠ -1 → P_X3_product_41 (R_X3_expression dep) Q T (fun z0 z1 => P_X3_product_5 (R_X3_expression dep) Q T n' z0 z1) x m := by
    intro nz
    refine c_hereP hP (c_signP (by decide) hP (fun y => ⟨by decide, ?_⟩) (fun y => ⟨by decide, ?_⟩))
    · rw [if_neg (by decide)]
      exact go 18 (by unfold prK; rw [if_pos y]) (by decide) (by decide) (sg_kd y)
    · rw [if_pos rfl]
      refine c_signP (by decide) hP (fun y1 => ⟨by decide, ?_⟩) (fun y1 => ⟨by decide, ?_⟩)
      · rw [if_neg (by decide)]
        exact go 19 (by unfold prK; rw [if_neg y, if_pos y1]) (by decide) (by decide) (sg_kd y1)
      · rw [if_pos rfl]
        refine c_keyP (by decide) hP (fun y2 => ⟨by decide, ?_⟩) (fun y2 => ⟨by decide, ?_⟩)
        · rw [if_neg (by decide)]
          exact go 20 (by unfold prK; rw [if_neg y, if_neg y1, if_pos y2]) (by decide) (by decide) (ky_kd y2)
        · rw [if_pos rfl]
          rcases pr_K nz with ⟨-, z⟩ | ⟨-, z⟩ | ⟨-, z⟩ | ⟨e, z⟩
          · exact absurd z y
          · exact absurd z y1
          · exact absurd z y2
          · exact go 21 e (by decide) (by decide) (ky_kd z)
  have nz : ∀ k, prK tk p = k → k ≠ -1 → prK tk p ≠ -1 := fun k e z => by rw [e]; exact z
  refine c_signP (by decide) hP (fun y => ⟨by decide, ?_⟩) (fun y => ⟨by decide, ?_⟩)
  · rw [if_neg (by decide)]; exact g41 (nz 18 (by unfold prK; rw [if_pos y]) (by decide))
  rw [if_pos rfl]
  refine c_signP (by decide) hP (fun y1 => ⟨by decide, ?_⟩) (fun y1 => ⟨by decide, ?_⟩)
  · rw [if_neg (by decide)]; exact g41 (nz 19 (by unfold prK; rw [if_neg y, if_pos y1]) (by decide))
  rw [if_pos rfl]
  refine c_keyP (by decide) hP (fun y2 => ⟨by decide, ?_⟩) (fun y2 => ⟨by decide, ?_⟩)
  · rw [if_neg (by decide)]; exact g41 (nz 20 (by unfold prK; rw [if_neg y, if_neg y1, if_pos y2]) (by decide))
  rw [if_pos rfl]
  refine c_keyP (by decide) hP (fun y3 => ⟨by decide, ?_⟩) (fun y3 => ⟨by decide, ?_⟩)
  · rw [if_neg (by decide)]; exact g41 (nz 21 (by unfold prK; rw [if_neg y, if_neg y1, if_neg y2, if_pos y3]) (by decide))
  rw [if_pos rfl]
  have e : prK tk p = -1 := by unfold prK; rw [if_neg y, if_neg y1, if_neg y2, if_neg y3]
  rw [e] at E
  exact h1 [[a]] p (by rw [E]; rfl) x m hP fr hA hs.2
/-- a relation -/
theorem c_relC (hE : ExC tk N b T f 5 12 8) : ExC tk N b T (f + 1) 4 10 9 := by
  intro dep p o k0 s m Q hf hd hP hn hs h1 h0
  obtain ⟨d, rfl⟩ : ∃ d, dep = d + 1 := ⟨dep - 1, by have := hP.2.2.2.2; omega⟩
  have E : pS tk (f + 1) 4 acc0 p o = bRel tk (pS tk f) p o := rfl
  unfold bRel at E
  have G : ∀ {rs q}, pS tk f 5 acc0 p o = .ok (rs, q) → pS tk (f + 1) 4 acc0 p o = (if rlK tk q = -1 then oneR (fstP rs) q else (goS tk q >>= fun q1' => pS tk f 5 acc0 q1' o >>= fun x => oneR ((rlK tk q, plS tk q, 0, 0), chT [fstP rs, fstP x.1]) x.2)) := by
    intro rs q hq
    rw [E, hq]; rfl
  show W_X3_relation (R_X3_expression d) m Q T
  refine hE d p o k0 s m _ (by omega) (by omega) hP hn hs (fun rs q hq r m1 P1 F1 T1 n1 => ?_) (fun e z => h0 e (by rw [E, z]; rfl))
  have lt := (pS_lt hq).2 (by omega)
  have E := G hq
  have fin : ∀ k, rlK tk q = k → k ≠ -1 → ¬ (k = 4 ∨ k = 5 ∨ k = 33 ∨ k = 35) → RI k → 1 ≤ (tk q).1 ∧ (tk q).1 ≤ 5 → P_X3_relation_63 (R_X3_expression d) Q T r k m1 := by
    intro k e k1 k2 k4 k3
    rw [e, if_neg k1] at E
    refine ⟨k4, ?_⟩
    rw [if_neg k1]
    refine c_hereP P1 (c_pairC hE (by omega) (by omega) P1 k3 F1 T1 ⟨hs.2.1, n1⟩ k2 (fun rs2 q2 ag hq2 r2 m2 P2 F2 T2 n2 => ?_) (fun e z => h0 e (by rw [E, z]; rfl)) (fun e ag z => h0 e (by rw [E, ag]; show (pS tk f 5 acc0 (q + 1) o >>= _) = _; rw [z]; rfl)))
    exact h1 [[((k, plS tk q, 0, 0), chT [fstP rs, fstP rs2])]] q2 (by rw [E, ag]; show (pS tk f 5 acc0 (q + 1) o >>= _) = _; rw [hq2]; rfl) r2 m2 P2 F2 T2 n2
  refine c_signP (by decide) P1 (fun y => ⟨by decide, ?_⟩) (fun y => ⟨by decide, ?_⟩)
  · rw [if_neg (by decide)]; exact fin 12 (by unfold rlK; rw [if_pos y]) (by decide) (by decide) (by decide) (sg_kd y)
  rw [if_pos rfl]
  refine c_signP (by decide) P1 (fun y1 => ⟨by decide, ?_⟩) (fun y1 => ⟨by decide, ?_⟩)
  · rw [if_neg (by decide)]; exact fin 13 (by unfold rlK; rw [if_neg y, if_pos y1]) (by decide) (by decide) (by decide) (sg_kd y1)
  rw [if_pos rfl]
  refine c_signP (by decide) P1 (fun y2 => ⟨by decide, ?_⟩) (fun y2 => ⟨by decide, ?_⟩)
  · rw [if_neg (by decide)]; exact fin 14 (by unfold rlK; rw [if_neg y, if_neg y1, if_pos y2]) (by decide) (by decide) (by decide) (sg_kd y2)
  rw [if_pos rfl]
  refine c_signP (by decide) P1 (fun y3 => ⟨by decide, ?_⟩) (fun y3 => ⟨by decide, ?_⟩)
  · rw [if_neg (by decide)]; exact fin 15 (by unfold rlK; rw [if_neg y, if_neg y1, if_neg y2, if_pos y3]) (by decide) (by decide) (by decide) (sg_kd y3)
  rw [if_pos rfl]
  refine ⟨by decide, ?_⟩
  rw [if_pos rfl]
  have e : rlK tk q = -1 := by unfold rlK; rw [if_neg y, if_neg y1, if_neg y2, if_neg y3]
  rw [e, if_pos rfl] at E
  exact h1 [[fstP rs]] q (by rw [E]; rfl) r m1 P1 F1 T1 n1
end LOOPC
