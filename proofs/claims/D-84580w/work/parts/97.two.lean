set_option maxRecDepth 100000
/-! the machine: what two values come to -/
def OutS (m : MM) (res : EX VV) (dd ss : Int) (l : List SV) (Q : Int → MM → Prop) : Prop := (∀ U m', res = .ok U → FKm m m' → m' 378 2 = 0 → stG m' ((dd, ss, U) :: l) → m' 376 8 = (l.length : Int) + 1 → Q 0 m') ∧ (∀ e m', res = .error e → FKm m m' → m' 378 2 = e → Q 0 m')
noncomputable def binS (op mu d s : Int) (V W : VV) : EX VV :=
  if op = 15 then .ok (numV (sameN V W)) else if op = 16 then .ok (numV (1 - sameN V W)) else if op = 17 then .ok (numV (lessN 0 (V 0 0 0) (W 0 0 0))) else if op = 18 then .ok (numV (lessN 1 (V 0 0 0) (W 0 0 0))) else if op = 19 then addV mu 0 d s V W else if op = 20 then addV mu 1 d s V W else if op = 21 then mulV mu d s V W else if op = 22 then divV mu d s V (W 0 0 0) else if d = 0 then quoZ (if op = 23 then 1 else 0) (V 0 0 0).1 (W 0 0 0).1 else restP (if op = 23 then 1 else 0) mu (V 0 0) (W 0 0)
section TWO
variable {Q : Int → MM → Prop} {r b d s dw sw mu mv op : Int} {V W : VV} {l : List SV}
/-- two values on top -/
theorem st2 {m : MM} (h : stG m ((dw, sw, W) :: (d, s, V) :: l)) (hl : l.length ≤ 1298) : stG m l ∧ VC (m 379) (m 381 (l.length : Int)) d s V ∧ VC (m 379) (m 381 ((l.length : Int) + 1)) dw sw W ∧ m 381 ((l.length : Int) + 1) = m 381 (l.length : Int) + VS d s ∧ (0 ≤ m 381 (l.length : Int) ∧ m 381 (l.length : Int) + 1764 ≤ 1155420) ∧ (0 ≤ d ∧ d ≤ 2) ∧ (0 ≤ s ∧ s ≤ 3) ∧ (0 ≤ dw ∧ dw ≤ 2) ∧ (0 ≤ sw ∧ sw ≤ 3) := by
  obtain ⟨⟨h1, hd, hs, h4, h5⟩, hdw, hsw, h8, h9⟩ := h
  have a := stG_at h1
  rw [show (((d, s, V) :: l : List SV).length : Int) = (l.length : Int) + 1 from rfl] at h8
  exact ⟨h1, h4, h8, h5, by omega, hd, hs, hdw, hsw⟩
theorem stG.low {m m' : MM} {S : Int → Prop} (h : stG m l) (f : Fc S m m') (hS : ∀ q, S q → m 381 (l.length : Int) ≤ q) : stG m' l := h.fr (fun q hq => f.2 q (fun z => by have := hS q z; omega)) (fun i i0 i1 => f.oth (by decide) (by decide))
/-- the result was made -/
theorem two_fin {m m1 : MM} {S : Int → Prop} {U : VV} {res : EX VV} {below : Int} (hR : RB r d s) (hst : stG m l) (hl : l.length ≤ 1298) (hb : 0 ≤ below) (ht : m 376 8 = (l.length : Int) + below) (ar : AR (m 376 19) (m 376 20)) (f : Fc S m m1) (hS : ∀ q, S q → m 381 (l.length : Int) ≤ q) (e : m1 378 2 = 0) (v : VC (m1 379) 1155420 d s U) (hres : res = .ok U) (h : OutS m res d s l Q) : P_X6_made r below m1 (fun _ m2 => Q 0 m2) := by
  have ar1 : AR (m1 376 19) (m1 376 20) := by rw [f.oth (by decide) (by decide), f.oth (by decide) (by decide)]; exact ar
  exact c_made hR (hst.low f hS) ar1 hb (by omega) (by rw [f.oth (by decide) (by decide)]; exact ht) v (fun m2 f2 e2 s2 t2 => h.1 U m2 hres ((f.fk ar).trans f2) (by rw [e2, e]) s2 t2)
theorem two_331 {m m1 : MM} {S : Int → Prop} {U : VV} {res : EX VV} (hR : RB r d s) (hst : stG m l) (hl : l.length ≤ 1298) (ht : m 376 8 = (l.length : Int) + 2) (ar : AR (m 376 19) (m 376 20)) (f : Fc S m m1) (hS : ∀ q, S q → m 381 (l.length : Int) ≤ q) (e : m1 378 2 = 0) (v : VC (m1 379) 1155420 d s U) (hres : res = .ok U) (h : OutS m res d s l Q) : P_X6_two_331 Q r m1 := by
  refine ⟨by rw [e]; decide, ?_⟩
  rw [if_pos e]
  exact two_fin hR hst hl (by decide) ht ar f hS e v hres h
theorem two_331e {m m1 : MM} {S : Int → Prop} {res : EX VV} {z : Int} (ar : AR (m 376 19) (m 376 20)) (f : Fc S m m1) (e : m1 378 2 = z) (hz : 1 ≤ z ∧ z ≤ 9) (hres : res = .error z) (h : OutS m res d s l Q) : P_X6_two_331 Q r m1 := by
  refine ⟨by rw [e]; constructor <;> omega, ?_⟩
  rw [if_neg (by rw [e]; omega)]
  exact h.2 z m1 hres (f.fk ar) e
theorem c_baseB {m : MM} (h : RB r d s) (k : ∀ x, RI x → Q x m) : P_X11_base r m Q := by
  rcases h with ⟨b, h⟩ | ⟨rfl, -, -⟩
  · exact c_base h (k b (by have := h.2.1; constructor <;> omega))
  · exact k _ (by decide)
theorem two_rel {m : MM} {x6 : Int} (hop : op = 15 ∨ op = 16) (hst : stG m l) (hl : l.length ≤ 1298) (ht : m 376 8 = (l.length : Int) + 2) (ar : AR (m 376 19) (m 376 20)) (he : m 378 2 = 0) (h6 : x6 = 0 ∨ x6 = 1) (h : OutS m (.ok (numV (if op = 15 then x6 else 1 - x6))) 0 0 l Q) : P_X6_two_133 Q op x6 m := by
  have e : (if x6 = (if op = 15 then 1 else 0 : Int) then 1 else 0 : Int) = (if op = 15 then x6 else 1 - x6) := by
    rcases hop with z | z <;> subst z
    · rw [if_pos rfl, if_pos rfl]; split <;> omega
    · rw [if_neg (show ¬ (16 : Int) = 15 by decide), if_neg (show ¬ (16 : Int) = 15 by decide)]; split <;> omega
  refine ⟨by constructor <;> omega, ⟨by constructor <;> omega, by split <;> decide⟩, ?_⟩
  rw [e]
  exact c_truth (by split <;> omega) hst ar (by decide) (by omega) ht (fun m' f e s t => h.1 _ m' rfl f (by rw [e, he]) s t)
theorem c_two_same {m : MM} (hop : op = 15 ∨ op = 16) (hR : RB r d s) (hst : stG m ((d, s, W) :: (d, s, V) :: l)) (hl : l.length ≤ 1298) (ht : m 376 8 = (l.length : Int) + 2) (ar : AR (m 376 19) (m 376 20)) (he : m 378 2 = 0) (nV : NN mv d s V) (nW : NN mv d s W) (h : OutS m (binS op mu d s V W) 0 0 l Q) : P_X6_two op r m Q := by
  obtain ⟨s0, vx, vy, e1, bx, hd, hs, -, -⟩ := st2 hst hl
  have vb := VS_bd hd hs
  unfold P_X6_two
  rw [ht, show (l.length : Int) + 2 - 2 = (l.length : Int) by omega, show (l.length : Int) + 2 - 1 = (l.length : Int) + 1 by omega]
  refine ⟨by omega, by omega, c_baseB hR (fun x hx => ⟨by constructor <;> omega, ?_⟩)⟩
  have sb : sameN V W = 0 ∨ sameN V W = 1 := by
    by_cases c : ∀ i j k, in3 i → in3 j → (0 ≤ k ∧ k < 49) → V i j k = W i j k
    · exact Or.inr (sameN_1 c)
    · exact Or.inl (sameN_0 c)
  have fin : ∃ nn, P_X6_two_86 Q nn op r (m 381 (l.length : Int)) (m 381 ((l.length : Int) + 1)) 1 0 m := by
    refine twoC_86 (mv := mv) hR hop (by omega) (by omega) vx vy nV nW (two_rel hop s0 hl ht ar he sb ?_)
    unfold binS at h
    rcases hop with z | z
    · rw [if_pos z] at h ⊢; exact h
    · rw [if_neg (by omega), if_pos z] at h
      rw [if_neg (by omega)]; exact h
  rcases hop with z | z
  · rw [if_pos z]; exact fin
  · rw [if_neg (by omega), if_pos z]; exact fin
theorem c_two_less {m : MM} (hop : op = 17 ∨ op = 18) (hR : RG r b 0 0) (hst : stG m ((0, 0, W) :: (0, 0, V) :: l)) (hl : l.length ≤ 1298) (ht : m 376 8 = (l.length : Int) + 2) (ar : AR (m 376 19) (m 376 20)) (he : m 378 2 = 0) (nV : NN mu 0 0 V) (nW : NN mu 0 0 W) (h : OutS m (binS op mu 0 0 V W) 0 0 l Q) : P_X6_two op r m Q := by
  obtain ⟨s0, vx, vy, e1, bx, hd, hs, -, -⟩ := st2 hst hl
  have v00 : VS 0 0 = 2 := by decide
  have px := vx.row0.at (k := 0) (by decide) (by decide)
  have py := vy.row0.at (k := 0) (by decide) (by decide)
  rw [show m 381 (l.length : Int) + 2 * 0 = m 381 (l.length : Int) by omega] at px
  rw [show m 381 ((l.length : Int) + 1) + 2 * 0 = m 381 ((l.length : Int) + 1) by omega] at py
  unfold P_X6_two
  rw [ht, show (l.length : Int) + 2 - 2 = (l.length : Int) by omega, show (l.length : Int) + 2 - 1 = (l.length : Int) + 1 by omega]
  refine ⟨by omega, by omega, c_base hR ⟨by constructor <;> omega, ?_⟩⟩
  have lb : ∀ o, lessN o (V 0 0 0) (W 0 0 0) = 0 ∨ lessN o (V 0 0 0) (W 0 0 0) = 1 := by
    intro o
    unfold lessN
    split
    · exact Or.inr rfl
    · split
      · exact Or.inl rfl
      · split
        · exact Or.inr rfl
        · exact Or.inl rfl
  have fin : P_X6_two_160 Q op (m 381 (l.length : Int)) (m 381 ((l.length : Int) + 1)) m := by
    refine ⟨by constructor <;> omega, c_X8_isLess (mu := mu) (by split <;> omega) (by omega) (by omega) px py (nV.1 0 0 0) (nW.1 0 0 0) (c_truth (lb _) s0 ar (by decide) (by omega) ht (fun m' f e s t => ?_))⟩
    refine h.1 _ m' ?_ f (by rw [e, he]) s t
    unfold binS
    rcases hop with z | z
    · rw [if_neg (by omega), if_neg (by omega), if_pos z, if_neg (by omega)]
    · rw [if_neg (by omega), if_neg (by omega), if_neg (by omega), if_pos z, if_pos z]
  rcases hop with z | z
  · rw [if_neg (by omega), if_neg (by omega), if_pos z]; exact fin
  · rw [if_neg (by omega), if_neg (by omega), if_neg (by omega), if_pos z]; exact fin
theorem c_two_add {m : MM} (hop : op = 19 ∨ op = 20 ∨ op = 21) (hR : RG r b d s) (hst : stG m ((d, s, W) :: (d, s, V) :: l)) (hl : l.length ≤ 1298) (ht : m 376 8 = (l.length : Int) + 2) (ar : AR (m 376 19) (m 376 20)) (he : m 378 2 = 0) (hmu : muC m b = mu) (hM : MU mu) (nV : NN mu d s V) (nW : NN mu d s W) (h : OutS m (binS op mu d s V W) d s l Q) : P_X6_two op r m Q := by
  obtain ⟨s0, vx, vy, e1, bx, hd, hs, -, -⟩ := st2 hst hl
  have vb := VS_bd hd hs
  have hb := hR.2.1
  have hRB : RB r d s := Or.inl ⟨b, hR⟩
  unfold P_X6_two
  rw [ht, show (l.length : Int) + 2 - 2 = (l.length : Int) by omega, show (l.length : Int) + 2 - 1 = (l.length : Int) + 1 by omega]
  refine ⟨by omega, by omega, c_base hR ⟨by constructor <;> omega, ?_⟩⟩
  have add : (op = 19 ∨ op = 20) → P_X6_two_187 Q op r (m 381 (l.length : Int)) (m 381 ((l.length : Int) + 1)) b m := by
    intro ho
    have hbin : binS op mu d s V W = addV mu (if op = 20 then 1 else 0) d s V W := by
      unfold binS
      rcases ho with z | z
      · rw [if_neg (by omega), if_neg (by omega), if_neg (by omega), if_neg (by omega), if_pos z, if_neg (by omega)]
      · rw [if_neg (by omega), if_neg (by omega), if_neg (by omega), if_neg (by omega), if_neg (by omega), if_pos z, if_pos z]
    refine c_number hR ⟨by constructor <;> omega, c_X8_addVals hd hs (by constructor <;> omega) hmu hM (by split <;> decide) he (by omega) (by omega) (by omega) (Or.inr (by omega)) (Or.inr (by omega)) vx vy nV.nv nW.nv ⟨fun U m1 h1 f1 e1 v1 => ?_, fun z m1 h1 f1 e1 => ?_⟩⟩
    · exact two_331 hRB s0 hl ht ar f1 (fun q z => by omega) e1 v1 (by rw [hbin]; exact h1) h
    · have := addV_err h1
      exact two_331e ar f1 e1 (by omega) (by rw [hbin]; exact h1) h
  rcases hop with z | z | z
  · rw [if_neg (by omega), if_neg (by omega), if_neg (by omega), if_neg (by omega), if_pos z]
    exact add (Or.inl z)
  · rw [if_neg (by omega), if_neg (by omega), if_neg (by omega), if_neg (by omega), if_neg (by omega), if_pos z]
    exact add (Or.inr z)
  · rw [if_neg (by omega), if_neg (by omega), if_neg (by omega), if_neg (by omega), if_neg (by omega), if_neg (by omega), if_pos z]
    have hbin : binS op mu d s V W = mulV mu d s V W := by
      unfold binS
      rw [if_neg (by omega), if_neg (by omega), if_neg (by omega), if_neg (by omega), if_neg (by omega), if_neg (by omega), if_pos z]
    refine c_X8_multiply hR hmu hM he (by omega) (by omega) (by omega) (by omega) (by omega) (by omega) (by omega) (by omega) vx vy nV.nv nW.nv ⟨fun U m1 h1 f1 e1 v1 => ?_, fun z m1 h1 f1 e1 => ?_⟩
    · exact two_331 hRB s0 hl ht ar f1 (fun q z => by have := SM_K hd hs z (by decide); omega) e1 v1 (by rw [hbin]; exact h1) h
    · have := mulV_err h1
      exact two_331e ar f1 e1 (by omega) (by rw [hbin]; exact h1) h
theorem c_two_div {m : MM} (hop : op = 22) (hR : RG r b d s) (hst : stG m ((0, 0, W) :: (d, s, V) :: l)) (hl : l.length ≤ 1298) (ht : m 376 8 = (l.length : Int) + 2) (ar : AR (m 376 19) (m 376 20)) (he : m 378 2 = 0) (hmu : muC m b = mu) (hM : MU mu) (hf : FD mu) (nV : NN mu d s V) (nW : NN mu 0 0 W) (h : OutS m (binS op mu d s V W) d s l Q) : P_X6_two op r m Q := by
  obtain ⟨s0, vx, vy, e1, bx, hd, hs, -, -⟩ := st2 hst hl
  have vb := VS_bd hd hs
  have hb := hR.2.1
  have hRB : RB r d s := Or.inl ⟨b, hR⟩
  have py := vy.row0.at (k := 0) (by decide) (by decide)
  rw [show m 381 ((l.length : Int) + 1) + 2 * 0 = m 381 ((l.length : Int) + 1) by omega] at py
  have hbin : binS op mu d s V W = divV mu d s V (W 0 0 0) := by
    unfold binS
    rw [if_neg (by omega), if_neg (by omega), if_neg (by omega), if_neg (by omega), if_neg (by omega), if_neg (by omega), if_neg (by omega), if_pos hop]
  unfold P_X6_two
  rw [ht, show (l.length : Int) + 2 - 2 = (l.length : Int) by omega, show (l.length : Int) + 2 - 1 = (l.length : Int) + 1 by omega]
  refine ⟨by omega, by omega, c_base hR ⟨by constructor <;> omega, ?_⟩⟩
  rw [if_neg (by omega), if_neg (by omega), if_neg (by omega), if_neg (by omega), if_neg (by omega), if_neg (by omega), if_neg (by omega), if_pos hop]
  refine c_isZeroC (mu := mu) (by omega) py (nW.1 0 0 0) ?_
  by_cases c0 : (W 0 0 0).1 = 0
  · rw [if_pos c0]
    refine ⟨by decide, ?_⟩
    rw [if_neg (by decide)]
    rintro _ rfl
    have fin : P_X6_two_309 Q r (up m 378 2 2) := two_331e (S := fun _ => False) ar Fc.err (up_at ..) (by decide) (by rw [hbin]; unfold divV; rw [if_pos c0]) h
    have ub : VS d s = 2 * (enn s * cof d) := VS_eq2
    refine ⟨1, c_number hR ⟨by decide, by constructor <;> omega, ?_⟩⟩
    by_cases cn : enn s * cof d ≤ 0
    · rw [if_pos cn]; exact fin
    · rw [if_neg cn]
      refine ⟨by rw [up_at]; decide, ?_⟩
      rw [if_neg (by rw [up_at]; decide)]
      exact fin
  · rw [if_neg c0]
    refine ⟨by decide, ?_⟩
    rw [if_pos rfl]
    refine twoC_259 hR hmu hM hf he (by omega) (by omega) vx nV py (nW.1 0 0 0) c0 ⟨fun U m1 h1 f1 e1 v1 => ?_, fun z m1 h1 f1 e1 => ?_⟩
    · exact two_331 hRB s0 hl ht ar f1 (fun q z => by omega) e1 v1 (by rw [hbin]; exact h1) h
    · have := divV_err h1
      exact two_331e ar f1 e1 (by omega) (by rw [hbin]; exact h1) h
theorem c_two_rest {m : MM} (hop : op = 23 ∨ op = 24) (hR : RG r b d 0) (hst : stG m ((d, 0, W) :: (d, 0, V) :: l)) (hl : l.length ≤ 1298) (ht : m 376 8 = (l.length : Int) + 2) (ar : AR (m 376 19) (m 376 20)) (he : m 378 2 = 0) (hmu : muC m b = mu) (hM : MU mu) (hd : d = 0 ∧ mu = 0 ∨ d = 1 ∧ FD mu) (nV : NN mu d 0 V) (nW : NN mu d 0 W) (h : OutS m (binS op mu d 0 V W) d 0 l Q) : P_X6_two op r m Q := by
  obtain ⟨s0, vx, vy, e1, bx, hd2, hs, -, -⟩ := st2 hst hl
  have vb := VS_bd hd2 hs
  have hRB : RB r d 0 := Or.inl ⟨b, hR⟩
  have qf : (if op = 23 then (1 : Int) else 0) = 0 ∨ (if op = 23 then (1 : Int) else 0) = 1 := by split <;> omega
  have hbin : binS op mu d 0 V W = if d = 0 then quoZ (if op = 23 then 1 else 0) (V 0 0 0).1 (W 0 0 0).1 else restP (if op = 23 then 1 else 0) mu (V 0 0) (W 0 0) := by
    unfold binS
    rw [if_neg (by omega), if_neg (by omega), if_neg (by omega), if_neg (by omega), if_neg (by omega), if_neg (by omega), if_neg (by omega), if_neg (by omega)]
  unfold P_X6_two
  rw [ht, show (l.length : Int) + 2 - 2 = (l.length : Int) by omega, show (l.length : Int) + 2 - 1 = (l.length : Int) + 1 by omega]
  refine ⟨by omega, by omega, c_base hR ⟨by constructor <;> omega, ?_⟩⟩
  rw [if_neg (by omega), if_neg (by omega), if_neg (by omega), if_neg (by omega), if_neg (by omega), if_neg (by omega), if_neg (by omega), if_neg (by omega)]
  rcases hd with ⟨rfl, rfl⟩ | ⟨rfl, hf⟩
  · have v00 : VS 0 0 = 2 := by decide
    rw [if_pos rfl] at hbin
    refine c_X6_restZ hR qf (by omega) (by omega) he vx vy nV nW ⟨fun U m1 h1 f1 e1 v1 => ?_, fun z m1 h1 f1 e1 => ?_⟩
    · exact two_331 hRB s0 hl ht ar f1 (fun q z => by omega) e1 v1 (by rw [hbin]; exact h1) h
    · have := quoZ_err h1
      exact two_331e ar f1 e1 (by omega) (by rw [hbin]; exact h1) h
  · have v10 : VS 1 0 = 14 := by decide
    rw [if_neg (by decide)] at hbin
    refine c_X6_restP hR qf hmu hM hf he (by omega) (by omega) vx.row0 vy.row0 nV.nr nW.nr ⟨fun U m1 h1 f1 e1 v1 => ?_, fun z m1 h1 f1 e1 => ?_⟩
    · exact two_331 hRB s0 hl ht ar f1 (fun q z => by omega) e1 v1 (by rw [hbin]; exact h1) h
    · have := restP_err h1
      exact two_331e ar f1 e1 (by omega) (by rw [hbin]; exact h1) h
end TWO
