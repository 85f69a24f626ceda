set_option maxRecDepth 100000
/-! the component's parser: a line, whole -/
/-- what was read of a line lies in a text -/
def LnC (m : MM) (b : Int) (r : LnR) : Prop := match r with
  | .inl (so, nm, x) => m b 1 = so ∧ (so = 1 → m b 16 = nm) ∧ ∃ lo hi, TN m b x.1 x.2 lo hi (m b 2)
  | .inr D => DFc m b D
section LINE2C
variable {T : MM → Prop} {tk : Int → TK} {N b : Int} {f n : Nat} {m0 m m' : MM} {p o lo s x w kd c i v : Int} {a : PT} {Q K : Int → MM → Prop} {e : Int × Int}
theorem c_is1 {k : Int} (hP : PC m tk N b p o) (hN : m 366 2 = N) (hw : ∀ i, N ≤ i → (tk i).1 = 6) (hk : 0 ≤ k ∧ k ≤ 3) (h6 : kd ≠ 6) (rk : RI kd) (h1 : kdS tk k = kd → Q 1 m) (h0 : kdS tk k ≠ kd → Q 0 m) : P_X3_is k kd (-1) m Q := by
  obtain ⟨tN, tt⟩ := hP.1.2.1
  refine ⟨by constructor <;> omega, by rw [hN]; constructor <;> omega, ?_⟩
  rw [hN]
  by_cases y : N ≤ k
  · rw [if_pos y]
    exact h0 (by have z : kdS tk k = 6 := hw k y; omega)
  · rw [if_neg y]
    have t := tt k hk.1 (by omega)
    rw [t.1]
    refine ⟨by omega, t.2.2.2.2.1, rk, ?_⟩
    by_cases y1 : (tk k).1 = kd
    · rw [if_pos y1]
      refine ⟨by decide, ?_⟩
      rw [if_pos rfl]; exact h1 y1
    · rw [if_neg y1]; exact h0 y1
theorem c_is2 {k : Int} (hP : PC m tk N b p o) (hN : m 366 2 = N) (hw : ∀ i, N ≤ i → (tk i).1 = 6) (hk : 0 ≤ k ∧ k ≤ 3) (rv : RI v) (hv : v ≠ -1) (h1 : isSg tk v k → Q 1 m) (h0 : ¬ isSg tk v k → Q 0 m) : P_X3_is k 5 v m Q := by
  obtain ⟨tN, tt⟩ := hP.1.2.1
  refine ⟨by constructor <;> omega, by rw [hN]; constructor <;> omega, ?_⟩
  rw [hN]
  by_cases y : N ≤ k
  · rw [if_pos y]
    exact h0 (fun w => by have z : kdS tk k = 6 := hw k y; have z' := w.1; omega)
  · rw [if_neg y]
    have t := tt k hk.1 (by omega)
    rw [t.1, t.2.1]
    refine ⟨by omega, t.2.2.2.2.1, by decide, ?_⟩
    by_cases y1 : (tk k).1 = 5
    · rw [if_pos y1]
      refine ⟨rv, ?_⟩
      rw [if_neg hv]
      refine ⟨t.2.2.2.2.2.1, ?_⟩
      by_cases y2 : (tk k).2.1 = v
      · rw [if_pos y2]; exact h1 ⟨y1, y2⟩
      · rw [if_neg y2]; exact h0 (fun w => y2 w.2)
    · rw [if_neg y1]; exact h0 (fun w => y1 w.1)
theorem c_110C {r : LnR} (hP : PC m tk N b p o) (fr : Ftx b m0 m) (h1 : pEnd tk r p = .ok r → Q 0 m) (h0 : ∀ e, pEnd tk r p = .error e → PE2 T b m0 e) : P_X3_line_110 Q T m := by
  unfold pEnd at h1 h0
  obtain ⟨⟨t1, t2, t5⟩, t3, t4⟩ := hP.tok
  unfold P_X3_line_110
  rw [hP.2.2.1.1, t1]
  refine ⟨t4, t3, ?_⟩
  by_cases y : kdS tk p = 0
  · rw [if_pos y] at h1 ⊢; exact h1 rfl
  · rw [if_neg y] at h0 ⊢
    exact c_synP hP ((h0 _ rfl).per fr)
theorem ln_eq : pLine tk = (if kdS tk 0 = 2 ∧ isSg tk 40 1 ∧ kdS tk 2 = 2 ∧ isSg tk 58 3 then (pTold tk >>= fun x => pEnd tk (.inr x.1) x.2) else if kdS tk 0 = 2 ∧ isSg tk 128 1 then (goS tk 0 >>= fun q => goS tk q >>= fun q1 => pEx tk q1 >>= fun x => pEnd tk (.inl (1, nmS' tk 0, x.1)) x.2) else (pEx tk 0 >>= fun x => pEnd tk (.inl (0, 0, x.1)) x.2)) := rfl
/-- an expression, then the end -/
theorem c_99C {so nm : Int} (hP : PC m tk N b p 0) (hs : 0 ≤ m b 0 ∧ m b 0 ≤ p) (fr : Ftx b m0 m) (hso : m b 1 = so ∧ (so = 1 → m b 16 = nm)) {G : Except (Int × Int) LnR} (E : G = (pEx tk p >>= fun x => pEnd tk (.inl (so, nm, x.1)) x.2)) (h1 : ∀ r, G = .ok r → ∀ m', Ftx b m0 m' → m' 365 1 = b → LnC m' b r → Q 0 m') (h0 : ∀ e, G = .error e → PE2 T b m0 e) : P_X3_line_99 Q T m := by
  have hb := hP.1.1
  have hb' := tx_b hb
  unfold P_X3_line_99
  rw [hP.2.1]
  refine c_pexC hP hs fr (fun x q hq r m1 P1 F1 T1 => ⟨hb, ?_⟩) (fun e z => h0 e (by rw [E, z]; rfl))
  rw [hq] at E
  have E1 : G = pEnd tk (.inl (so, nm, x)) q := E
  rintro m2 rfl
  have P2 := P1.tx2 (c := b) (i := 2) (v := r) (by omega)
  have f2 : Ftx b m0 (up m1 b 2 r) := (fr.nw F1).tx (by omega)
  refine c_110C (r := .inl (so, nm, x)) P2 f2 (fun z => h1 _ (E1.trans z) _ f2 P2.2.1 ⟨?_, fun z => ?_, m b 0, m1 b 0, ?_⟩) (fun e z => h0 e (E1.trans z))
  · rw [up_ne (by omega), F1 _ _ (by omega) (by omega) (by omega)]; exact hso.1
  · rw [up_ne (by omega), F1 _ _ (by omega) (by omega) (by omega)]; exact hso.2 z
  · rw [up_at]; exact (T1.fr (fun c i z z1 z2 => up_ne (by omega))).1
theorem c_lineC (hP : PC m tk N b 0 0) (hN : m 366 2 = N) (hw : ∀ i, N ≤ i → (tk i).1 = 6) (h00 : m b 0 = 0 ∧ m b 5 = 0 ∧ m b 1 = 0) (h1 : ∀ r, pLine tk = .ok r → ∀ m', Ftx b m m' → m' 365 1 = b → LnC m' b r → Q 0 m') (h0 : ∀ e, pLine tk = .error e → PE2 T b m e) : P_X3_line m Q T := by
  have hb := hP.1.1
  have hb' := tx_b hb
  have E := ln_eq (tk := tk)
  have g51 : ¬ (kdS tk 0 = 2 ∧ isSg tk 40 1 ∧ kdS tk 2 = 2 ∧ isSg tk 58 3) → ∀ r, (r = 1 ∧ kdS tk 0 = 2 ∨ r = 0 ∧ kdS tk 0 ≠ 2) → P_X3_line_51 Q T r m := by
    intro z r hr
    rw [if_neg z] at E
    refine ⟨by constructor <;> omega, ?_⟩
    have no : ¬ (kdS tk 0 = 2 ∧ isSg tk 128 1) → P_X3_line_99 Q T m := fun y => by
      rw [if_neg y] at E
      exact c_99C (so := 0) (nm := 0) hP (by omega) Ftx.refl ⟨h00.2.2, fun z => by omega⟩ E h1 h0
    by_cases y : r = 0
    · rw [if_pos y]; exact no (fun w => by omega)
    · rw [if_neg y]
      have k2 : kdS tk 0 = 2 := by omega
      refine c_is2 hP hN hw (by decide) (by decide) (by decide) (fun y1 => ⟨by decide, ?_⟩) (fun y1 => ⟨by decide, ?_⟩)
      · rw [if_neg (by decide)]
        rw [if_pos ⟨k2, y1⟩] at E
        rw [hP.2.1]
        refine ⟨hb, ?_⟩
        rintro m2 rfl
        have P2 := hP.tx2 (c := b) (i := 1) (v := 1) (by omega)
        obtain ⟨⟨t1, t2, t5⟩, t3, t4⟩ := P2.tok
        rw [P2.2.1, t5 k2]
        refine ⟨hb, ?_⟩
        rintro m3 rfl
        have P3 := P2.tx2 (c := b) (i := 16) (v := nmS' tk 0) (by omega)
        have f3 : Ftx b m (up (up m b 1 1) b 16 (nmS' tk 0)) := (Ftx.refl.tx (by omega)).tx (by omega)
        refine c_goP P3 (by have z : (tk 0).1 = 2 := k2; omega) (fun m4 a4 g4 P4 => ?_) (fun e z => (h0 e (by rw [E, z]; rfl)).per f3)
        rw [a4] at E
        have E1 : pLine tk = (goS tk (0 + 1) >>= fun q1 => pEx tk q1 >>= fun x => pEnd tk (.inl (1, nmS' tk 0, x.1)) x.2) := E
        have f4 := f3.s2 g4
        refine c_goP P4 (sg_kd y1) (fun m5 a5 g5 P5 => ?_) (fun e z => (h0 e (by rw [E1, z]; rfl)).per f4)
        rw [a5] at E1
        have E2 : pLine tk = (pEx tk (0 + 1 + 1) >>= fun x => pEnd tk (.inl (1, nmS' tk 0, x.1)) x.2) := E1
        have ag : ∀ i, m5 b i = up (up m b 1 1) b 16 (nmS' tk 0) b i := fun i => by rw [g5 _ _ (by omega), g4 _ _ (by omega)]
        have n5 : m5 b 0 = 0 := by rw [ag, up_ne (by omega), up_ne (by omega)]; exact h00.1
        refine c_99C (so := 1) (nm := nmS' tk 0) P5 (by omega) (f4.s2 g5) ⟨?_, fun _ => ?_⟩ E2 h1 h0
        · rw [ag, up_ne (by omega), up_at]
        · rw [ag, up_at]
      · rw [if_pos rfl]; exact no (fun w => y1 w.2)
  refine c_is1 hP hN hw (by decide) (by decide) (by decide) (fun y => ⟨by decide, ?_⟩) (fun y => ⟨by decide, ?_⟩)
  · rw [if_neg (by decide)]
    refine c_is2 hP hN hw (by decide) (by decide) (by decide) (fun y1 => ⟨by decide, ?_⟩) (fun y1 => ⟨by decide, ?_⟩)
    · rw [if_neg (by decide)]
      refine c_is1 hP hN hw (by decide) (by decide) (by decide) (fun y2 => ⟨by decide, ?_⟩) (fun y2 => ⟨by decide, ?_⟩)
      · rw [if_neg (by decide)]
        refine c_is2 hP hN hw (by decide) (by decide) (by decide) (fun y3 => ⟨by decide, ?_⟩) (fun y3 => ⟨by decide, ?_⟩)
        · rw [if_neg (by decide)]
          rw [if_pos ⟨y, y1, y2, y3⟩] at E
          refine c_toldC hP y y1 ⟨h00.1, h00.2.1⟩ (fun D q hq m' P' F' D' => ?_) (fun e z => h0 e (by rw [E, z]; rfl))
          rw [hq] at E
          have E1 : pLine tk = pEnd tk (.inr D) q := E
          exact c_110C (r := .inr D) P' F' (fun z => h1 _ (E1.trans z) m' F' P'.2.1 D') (fun e z => h0 e (E1.trans z))
        · rw [if_pos rfl]; exact g51 (fun w => y3 w.2.2.2) 1 (.inl ⟨rfl, y⟩)
      · rw [if_pos rfl]; exact g51 (fun w => y2 w.2.2.1) 1 (.inl ⟨rfl, y⟩)
    · rw [if_pos rfl]; exact g51 (fun w => y1 w.2.1) 1 (.inl ⟨rfl, y⟩)
  · rw [if_pos rfl]; exact g51 (fun w => y w.1) 0 (.inr ⟨rfl, y⟩)
end LINE2C
