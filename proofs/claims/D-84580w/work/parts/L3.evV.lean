set_option maxRecDepth 100000
/-! what parts come to: values are of their rings -/
section EVV
variable {mo : Int} {V W U : VV}
theorem NB0 {v : Int} (h : -999999999 ≤ v ∧ v ≤ 999999999) : NB 0 (v, 1) := by
  refine ⟨⟨h.1, h.2, ?_⟩, ?_, fun _ => rfl, fun z => absurd z (by decide), fun z => absurd z (by decide)⟩
  · show (1 : Int) ≤ 999999999; decide
  · show (1 : Int) ≤ 1; decide
theorem VR_num {v : Int} (h : -999999999 ≤ v ∧ v ≤ 999999999) : VR mo (0, 0, 0) (numV v) := by
  refine ⟨?_, fun z => ?_⟩
  · have e : muR ((0, 0, 0) : R3).1 mo = 0 := by show (if (0 : Int) = -2 then 0 else if (0 : Int) < 20000 then 0 else mo) = 0; rw [if_neg (by decide), if_pos (by decide)]
    rw [e]; exact numV_NN (by decide) (NB0 h)
  · exfalso; have z' : (0 : Int) = -2 := z; omega
theorem numV_0 {v : Int} : numV v 0 0 0 = (v, 1) := rfl
theorem VR_bool {v : Int} (h : v = 0 ∨ v = 1) : VR mo (-2, 0, 0) (numV v) := by
  refine ⟨?_, fun _ => ?_⟩
  · have e : muR ((-2, 0, 0) : R3).1 mo = 0 := if_pos rfl
    rw [e]; exact numV_NN (by decide) (NB0 (by omega))
  · rcases h with rfl | rfl
    · exact .inl rfl
    · exact .inr rfl
theorem VR_bit {x : R3} (h : VR mo x V) (hb : x.1 = -2) : (V 0 0 0).1 = 0 ∨ (V 0 0 0).1 = 1 := by
  rcases h.2 hb with e | e <;> rw [e]
  · exact .inl rfl
  · exact .inr rfl
theorem ok3_ds {x : R3} (h : ok3 x) : (0 ≤ x.2.1 ∧ x.2.1 ≤ 2) ∧ (0 ≤ x.2.2 ∧ x.2.2 ≤ 3) := by unfold ok3 at h; omega
theorem sameN_01 : sameN V W = 0 ∨ sameN V W = 1 := by
  unfold sameN
  by_cases c : ∀ i j k, in3 i → in3 j → (0 ≤ k ∧ k < 49) → V i j k = W i j k
  · rw [if_pos c]; exact .inr rfl
  · rw [if_neg c]; exact .inl rfl
theorem lessN_01 {o : Int} {p q : PP} : lessN o p q = 0 ∨ lessN o p q = 1 := by
  unfold lessN
  split
  · exact .inr rfl
  · split
    · exact .inl rfl
    · split
      · exact .inr rfl
      · exact .inl rfl
theorem binS_VR {op : Int} {z : R3} (hz : ok3 z) (hm : okMo z.1 mo) (hop : opOK op z) (nV : VR mo z V) (nW : VR mo (if op = 22 then (z.1, 0, 0) else z) W) (h : binS op (muR z.1 mo) z.2.1 z.2.2 V W = .ok U) : VR mo (if op ≤ 18 then (-2, 0, 0) else z) U := by
  have hM : MU (muR z.1 mo) := muR_MU (ok3_b hz) hm
  have ds := ok3_ds hz
  have o := hop
  unfold opOK at o
  unfold binS at h
  by_cases c : op = 15
  · rw [if_pos c] at h; injection h with h; rw [← h, if_pos (by omega)]; exact VR_bool sameN_01
  rw [if_neg c] at h
  by_cases c : op = 16
  · rw [if_pos c] at h; injection h with h; rw [← h, if_pos (by omega)]
    exact VR_bool (by rcases sameN_01 (V := V) (W := W) with e | e <;> rw [e] <;> decide)
  rw [if_neg c] at h
  by_cases c : op = 17
  · rw [if_pos c] at h; injection h with h; rw [← h, if_pos (by omega)]; exact VR_bool lessN_01
  rw [if_neg c] at h
  by_cases c : op = 18
  · rw [if_pos c] at h; injection h with h; rw [← h, if_pos (by omega)]; exact VR_bool lessN_01
  rw [if_neg c] at h
  have b : z.1 ≠ -2 := by
    rcases o with o | o | o | o | o
    · omega
    · omega
    · exact o.2
    · have := o.2.1; omega
    · rcases o.2.2 with q | q
      · omega
      · have := q.1; omega
  rw [if_neg (by omega)]
  have fin : NN (muR z.1 mo) z.2.1 z.2.2 U → VR mo z U := fun n => ⟨n, fun q => absurd q b⟩
  by_cases c : op = 19
  · rw [if_pos c] at h; rw [if_neg (by omega)] at nW; exact fin (addV_NN hM ds.1 nV.1.nv nW.1.nv h)
  rw [if_neg c] at h
  by_cases c : op = 20
  · rw [if_pos c] at h; rw [if_neg (by omega)] at nW; exact fin (addV_NN hM ds.1 nV.1.nv nW.1.nv h)
  rw [if_neg c] at h
  by_cases c : op = 21
  · rw [if_pos c] at h; rw [if_neg (by omega)] at nW; exact fin (mulV_NN hM ds.1 nV.1.nv nW.1.nv h)
  rw [if_neg c] at h
  by_cases c : op = 22
  · rw [if_pos c] at h; rw [if_pos c] at nW; exact fin (divV_NN hM nV.1 (nW.1.1 0 0 0) h)
  rw [if_neg c] at h
  rw [if_neg c] at nW
  have o5 : z.2.2 = 0 ∧ (z.1 = 0 ∧ z.2.1 = 0 ∨ okb z.1 ∧ z.2.1 = 1 ∧ isFb z.1) := by
    rcases o with o | o | o | o | o
    · omega
    · omega
    · omega
    · omega
    · exact o.2
  by_cases c : z.2.1 = 0
  · rw [if_pos c] at h
    have z0 : z.1 = 0 := by rcases o5.2 with q | q <;> omega
    have e : muR z.1 mo = 0 := by unfold muR; rw [if_neg b, if_pos (by omega), z0]
    have n := quoZ_NN (nV.1.1 0 0 0).p1 (nW.1.1 0 0 0).p1 h
    refine fin ?_
    rw [e, c, o5.1]; exact n
  · rw [if_neg c] at h
    have z1 : z.2.1 = 1 := by rcases o5.2 with q | q <;> omega
    have nv := nV.1
    have nw := nW.1
    rw [z1, o5.1] at nv nw
    have n := restP_NN hM nv.nr nw.nr h
    refine fin ?_
    rw [z1, o5.1]; exact n
/-! roots -/
theorem rootsN_bd {p : Int} {u : Int → PP} (hp : 1 < p) (nu : ∀ k, 0 ≤ (u k).1 ∧ (u k).1 < p) (hd : 0 ≤ degS u) : 0 ≤ rootsN p (PA (fun k => (u k).1) 7) ∧ rootsN p (PA (fun k => (u k).1) 7) ≤ 6 := by
  by_cases hx : ∃ D, rtD p (PA (fun k => (u k).1) 7) (fun n => mono p n - mono 1 n) D
  · obtain ⟨D, hD⟩ := hx
    rw [rootsN_eq hD]
    obtain ⟨⟨G, g1, g2, g3⟩, hmin⟩ := hD
    refine ⟨?_, ?_⟩
    · by_cases c : 0 ≤ D
      · exact c
      · exfalso
        have w := g1 (fun F => ∀ n, n < 0 → p ∣ F n) ⟨fun F G' hF hc n hn => ?_, fun F G' hF hG n hn => Int.dvd_add (hF n hn) (hG n hn), fun c F hF n hn => Int.dvd_mul_of_dvd_right (hF n hn), fun F hF n hn => hF (n - 1) (by omega)⟩ (fun n hn => ?_) (fun n hn => ?_)
        · exact g2 (w D (by omega))
        · have a := hF n hn
          have b := hc n
          have e : G' n = F n - (F n - G' n) := by omega
          rw [e]; exact Int.dvd_sub a b
        · show p ∣ (if 0 ≤ n ∧ n < 7 then (u n).1 else 0)
          rw [if_neg (by omega)]; exact Int.dvd_zero p
        · have e1 : mono p n = 0 := by unfold mono; rw [if_neg (by omega)]
          have e2 : mono 1 n = 0 := by unfold mono; rw [if_neg (by omega)]
          show p ∣ mono p n - mono 1 n
          rw [e1, e2]; exact Int.dvd_zero p
    · by_cases c : D ≤ 6
      · exact c
      · exfalso
        have w := hmin (PA (fun k => (u k).1) 7) (fun S _ hA _ => hA) (fun n hn => by
          show p ∣ (if 0 ≤ n ∧ n < 7 then (u n).1 else 0)
          rw [if_neg (by omega)]; exact Int.dvd_zero p) (degS u)
        have db := degS_bd u
        have nz : (u (degS u)).1 ≠ 0 := degG_nz 7 hd
        have e : PA (fun k => (u k).1) 7 (degS u) = (u (degS u)).1 := by
          show (if 0 ≤ degS u ∧ degS u < 7 then (u (degS u)).1 else 0) = _
          rw [if_pos (by omega)]
        rw [e] at w
        have nb := nu (degS u)
        have := Int.le_of_dvd (by omega) w
        omega
  · unfold rootsN
    rw [dif_neg hx]
    decide
theorem rtS_bd {p : Int} {u : Int → PP} (hp : 1 < p ∧ p ≤ 9973) (nu : ∀ k, 0 ≤ (u k).1 ∧ (u k).1 < p) : 0 ≤ rtS p u ∧ rtS p u ≤ 9973 := by
  unfold rtS
  by_cases c : degS u < 0
  · rw [if_pos c]; omega
  rw [if_neg c]
  by_cases c1 : degS u < 1
  · rw [if_pos c1]; decide
  · rw [if_neg c1]
    have := rootsN_bd hp.1 nu (by omega)
    omega
end EVV
