set_option maxRecDepth 100000
/-! both houses: what a function is -/
def fnW (f : FnR) (k r : Int) : Int := if r = 0 then f.2.2.2.2.1 k else if r = 1 then (f.2.2.2.2.2.1 k).1 else if r = 2 then (f.2.2.2.2.2.1 k).2.1 else if r = 3 then (f.2.2.2.2.2.1 k).2.2 else if (f.2.2.2.2.2.1 k).1 = -2 then 1 else 0
def fnQ (F : Int → FnR) (n x w : Int) : Int := if ¬ (0 ≤ x ∧ x < n) ∨ w < 0 then -1 else if w = 0 then (F x).2.1 else if w = 1 then (F x).2.2.1 else if (F x).2.1 < (w - 2) / 5 then -1 else fnW (F x) ((w - 2) / 5) ((w - 2) % 5)
section HSC
variable {Q : Int → Int → MM → Prop} {Q1 : Int → MM → Prop} {m m' : MM} {F : Int → FnR} {n nr nv sz x w : Int} {rR vR : Int → R3} {resV varV : Int → VV} {vN tx : Int → Int} {A : HA}
theorem tdm (h : 2 ≤ w) : Int.tdiv (w - 2) 5 = (w - 2) / 5 ∧ Int.tmod (w - 2) 5 = (w - 2) % 5 := ⟨Int.tdiv_eq_ediv_of_nonneg (by omega), Int.tmod_eq_emod_of_nonneg (by omega)⟩
theorem c_functionC (hx : RI x) (hw : RI w) (h1 : m 3 1 = n) (hB : BKh m F n) (hn : n ≤ 20) (fb : FBs F n) (K : Q1 (fnQ F n x w) m) : P_X0_function x w m Q1 := by
  unfold fnQ at K
  unfold P_X0_function
  refine ⟨hx, ?_⟩
  by_cases x0 : x < 0
  · rw [if_pos (by omega)] at K
    rw [if_pos x0]; exact K
  rw [if_neg x0, h1]
  have hn0 := hB.1
  refine ⟨by constructor <;> omega, ?_⟩
  by_cases x1 : n ≤ x
  · rw [if_pos (by omega)] at K
    rw [if_pos x1]; exact K
  rw [if_neg x1]
  refine ⟨hw, ?_⟩
  by_cases w0 : 0 ≤ w
  case neg =>
    rw [if_pos (by omega)] at K
    rw [if_neg w0]; exact K
  rw [if_neg (by omega)] at K
  rw [if_pos w0]
  refine ⟨by omega, ?_⟩
  obtain ⟨ok, t16, t5, t22, tk, -⟩ := hB.2 x (by omega) (by omega)
  have tx : isTx (8 + 17 * x) := isTx_k (by omega)
  obtain ⟨ok1, ok2, -, ok4, -⟩ := ok
  by_cases w2 : 2 ≤ w
  case neg =>
    rw [if_neg w2]
    by_cases c0 : w = 0
    · rw [if_pos c0] at K
      rw [if_pos c0, t5]; exact ⟨tx, K⟩
    · rw [if_neg c0, if_pos (by omega)] at K
      rw [if_neg c0, t22]; exact ⟨tx, K⟩
  rw [if_neg (by omega), if_neg (by omega)] at K
  rw [if_pos w2, (tdm w2).1, (tdm w2).2]
  have kb : 0 ≤ (w - 2) / 5 := by omega
  have kr : RI ((w - 2) / 5) := by constructor <;> omega
  have mr : RI ((w - 2) % 5) := by constructor <;> omega
  refine ⟨by constructor <;> omega, tx, kr, by rw [t5]; constructor <;> omega, ?_⟩
  rw [t5]
  by_cases kp : (w - 2) / 5 ≤ (F x).2.1
  case neg =>
    rw [if_pos (by omega)] at K
    rw [if_neg kp]; exact K
  rw [if_neg (by omega)] at K
  rw [if_pos kp]
  obtain ⟨g1, g2, g3⟩ := tk _ kb kp
  obtain ⟨o1, o2, o3, -⟩ := ok4 _ kb kp
  have lt := (fb x (by omega) (by omega)).2 _ kb kp
  generalize (w - 2) / 5 = k at *
  generalize (w - 2) % 5 = r at *
  refine ⟨by omega, mr, ?_⟩
  have hri : RI ((F x).2.2.2.2.1 k) := by constructor <;> omega
  unfold fnW at K
  rw [g1, g2]
  by_cases r0 : r = 0
  · rw [if_pos r0] at K ⊢
    refine ⟨hri, ?_⟩
    by_cases z : (F x).2.2.2.2.1 k = 0
    · rw [if_pos z]; rw [z] at K; exact K
    · rw [if_neg z]; rw [show (F x).2.2.2.2.1 k = 1 by omega] at K; exact K
  rw [if_neg r0] at K ⊢
  by_cases r1 : r = 1
  · rw [if_pos r1] at K ⊢
    refine ⟨hri, ?_⟩
    by_cases z : (F x).2.2.2.2.1 k = 0
    · rw [if_pos z]; exact c_shown (by decide) o1 K
    · rw [if_neg z]; rw [o3 z] at K; exact K
  rw [if_neg r1] at K ⊢
  by_cases r2 : r = 2
  · rw [if_pos r2] at K ⊢
    refine ⟨hri, ?_⟩
    by_cases z : (F x).2.2.2.2.1 k = 0
    · rw [if_pos z]; exact c_shown (by decide) o1 K
    · rw [if_neg z, (g3 z).1]; exact K
  rw [if_neg r2] at K ⊢
  by_cases r3 : r = 3
  · rw [if_pos r3] at K ⊢
    refine ⟨hri, ?_⟩
    by_cases z : (F x).2.2.2.2.1 k = 0
    · rw [if_pos z]; exact c_shown (by decide) o1 K
    · rw [if_neg z, (g3 z).2]; exact K
  rw [if_neg r3] at K ⊢
  obtain ⟨e1, e2, e3⟩ := encC_bd o1
  refine ⟨e1, ?_⟩
  by_cases b : ((F x).2.2.2.2.2.1 k).1 = -2
  · rw [if_pos b] at K
    rw [if_pos (e2 b)]; exact K
  · rw [if_neg b] at K
    rw [if_neg (by have := e3 b; omega)]; exact K
theorem c_functionM (hx : RI x) (hw : RI w) (h1 : m 582 32 = n) (hB : BKm m F n) (hn : n ≤ 20) (fb : FBs F n) (K : Q1 (fnQ F n x w) m) : P_X10_function x w m Q1 := by
  unfold fnQ at K
  unfold P_X10_function
  refine ⟨hx, ?_⟩
  by_cases x0 : x < 0
  · rw [if_pos (by omega)] at K
    rw [if_pos x0]; exact K
  rw [if_neg x0, h1]
  have hn0 := hB.1
  refine ⟨by constructor <;> omega, ?_⟩
  by_cases x1 : n ≤ x
  · rw [if_pos (by omega)] at K
    rw [if_pos x1]; exact K
  rw [if_neg x1]
  refine ⟨hw, ?_⟩
  by_cases w0 : w < 0
  · rw [if_pos (by omega)] at K
    rw [if_pos w0]; exact K
  rw [if_neg (by omega)] at K
  rw [if_neg w0]
  obtain ⟨ok, t16, t5, t22, tk0, tk⟩ := hB.2 x (by omega) (by omega)
  obtain ⟨ok1, ok2, -, ok4, -⟩ := ok
  rw [t5]
  refine ⟨by omega, by constructor <;> omega, ?_⟩
  by_cases w5 : w < 2 + 5 * ((F x).2.1 + 1)
  case neg =>
    rw [if_neg (by omega), if_neg (by omega), if_pos (by omega)] at K
    rw [if_neg w5]; exact K
  rw [if_pos w5]
  by_cases c0 : w = 0
  · rw [if_pos c0] at K ⊢; exact K
  rw [if_neg c0] at K ⊢
  by_cases c1 : w = 1
  · rw [if_pos c1] at K ⊢
    rw [t22]; exact K
  rw [if_neg c1, if_neg (by omega)] at K
  rw [if_neg c1, (tdm (by omega)).1, (tdm (by omega)).2]
  have kb : 0 ≤ (w - 2) / 5 ∧ (w - 2) / 5 ≤ (F x).2.1 := by omega
  have mr : RI ((w - 2) % 5) := by constructor <;> omega
  have rw2 : RI (w - 2) := by constructor <;> omega
  obtain ⟨o1, o2, o3, -⟩ := ok4 _ kb.1 kb.2
  have lt := (fb x (by omega) (by omega)).2 _ kb.1 kb.2
  generalize (w - 2) / 5 = k at *
  generalize (w - 2) % 5 = r at *
  have kr : RI k := by constructor <;> omega
  have g : (if k = 0 then m 621 x else m 622 (3 * x + k - 1)) = (F x).2.2.2.2.1 k ∧ (if k = 0 then m 612 x else m 615 (3 * x + k - 1)) = ((F x).2.2.2.2.2.1 k).1 := by
    by_cases z : k = 0
    · rw [if_pos z, if_pos z, tk0.1, tk0.2.1, z]
      refine ⟨rfl, bM_lt (by rw [z] at lt; exact lt)⟩
    · obtain ⟨-, q2, q3, -⟩ := tk k (by omega) kb.2
      rw [if_neg z, if_neg z, show 3 * x + k - 1 = 3 * x + (k - 1) by omega, q2, q3]
      exact ⟨rfl, bM_lt lt⟩
  refine ⟨rw2, ⟨kr, ?_⟩, ⟨kr, ?_⟩, mr, ?_⟩
  · by_cases z : k = 0
    · rw [if_pos z]; trivial
    · rw [if_neg z]; omega
  · by_cases z : k = 0
    · rw [if_pos z]; trivial
    · rw [if_neg z]; omega
  rw [g.1, g.2]
  have hri : RI ((F x).2.2.2.2.1 k) := by constructor <;> omega
  unfold fnW at K
  by_cases r0 : r = 0
  · rw [if_pos r0] at K ⊢
    refine ⟨hri, ?_⟩
    by_cases z : (F x).2.2.2.2.1 k = 0
    · rw [if_pos z]; rw [z] at K; exact K
    · rw [if_neg z]; rw [show (F x).2.2.2.2.1 k = 1 by omega] at K; exact K
  rw [if_neg r0] at K ⊢
  by_cases r1 : r = 1
  · rw [if_pos r1] at K ⊢
    refine ⟨hri, ?_⟩
    by_cases z : (F x).2.2.2.2.1 k = 0
    · rw [if_pos z]; exact K
    · rw [if_neg z]; rw [o3 z] at K; exact K
  rw [if_neg r1] at K ⊢
  by_cases r2 : r = 2
  · rw [if_pos r2] at K ⊢
    refine ⟨kr, ?_⟩
    by_cases z : k = 0
    · rw [if_pos z, tk0.2.2.1]; rw [z] at K; exact K
    · rw [if_neg z, show 3 * x + k - 1 = 3 * x + (k - 1) by omega, (tk k (by omega) kb.2).2.2.2.1]
      exact ⟨by omega, K⟩
  rw [if_neg r2] at K ⊢
  by_cases r3 : r = 3
  · rw [if_pos r3] at K ⊢
    refine ⟨kr, ?_⟩
    by_cases z : k = 0
    · rw [if_pos z, tk0.2.2.2]; rw [z] at K; exact K
    · rw [if_neg z, show 3 * x + k - 1 = 3 * x + (k - 1) by omega, (tk k (by omega) kb.2).2.2.2.2]
      exact ⟨by omega, K⟩
  rw [if_neg r3] at K ⊢
  refine ⟨by unfold ok3 at o1; constructor <;> omega, ?_⟩
  by_cases b : ((F x).2.2.2.2.2.1 k).1 = -2
  · rw [if_pos b] at K ⊢; exact K
  · rw [if_neg b] at K ⊢; exact K
theorem fnQ_ri (hB : BKh m F n) : RI (fnQ F n x w) := by
  unfold fnQ
  by_cases c : ¬ (0 ≤ x ∧ x < n) ∨ w < 0
  · rw [if_pos c]; decide
  rw [if_neg c]
  obtain ⟨⟨ok1, ok2, -, ok4, -⟩, -⟩ := hB.2 x (by omega) (by omega)
  by_cases c0 : w = 0
  · rw [if_pos c0]; constructor <;> omega
  rw [if_neg c0]
  by_cases c1 : w = 1
  · rw [if_pos c1]; constructor <;> omega
  rw [if_neg c1]
  by_cases c2 : (F x).2.1 < (w - 2) / 5
  · rw [if_pos c2]; decide
  rw [if_neg c2]
  obtain ⟨o1, o2, o3, -⟩ := ok4 ((w - 2) / 5) (by omega) (by omega)
  generalize (w - 2) / 5 = k at *
  generalize (w - 2) % 5 = r at *
  have ds := ok3_ds o1
  unfold ok3 at o1
  unfold fnW
  by_cases r0 : r = 0
  · rw [if_pos r0]; constructor <;> omega
  rw [if_neg r0]
  by_cases r1 : r = 1
  · rw [if_pos r1]; constructor <;> omega
  rw [if_neg r1]
  by_cases r2 : r = 2
  · rw [if_pos r2]; constructor <;> omega
  rw [if_neg r2]
  by_cases r3 : r = 3
  · rw [if_pos r3]; constructor <;> omega
  rw [if_neg r3]
  by_cases b : ((F x).2.2.2.2.2.1 k).1 = -2
  · rw [if_pos b]; decide
  · rw [if_neg b]; decide
theorem h_function (hx : RI x) (hw : RI w) (H : Hs m F n nr rR resV nv vN vR varV A tx sz) (K : ∀ r, RI r → Q r r m) : P_X0_function x w m (fun r1 m1 => P_X10_function x w m1 (fun r2 m2 => Q r1 r2 m2)) := by
  have hB := H.1.1.2.2.2.2.2.1
  have fb := H.2.2.2.1.1.1
  exact c_functionC hx hw H.1.2.1 hB.2.1 hB.1.2 fb (c_functionM hx hw H.2.1.2.1.1 H.2.1.1.1 hB.1.2 fb (K _ (fnQ_ri hB.2.1)))
end HSC
