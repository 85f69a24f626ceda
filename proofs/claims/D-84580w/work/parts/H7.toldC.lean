set_option maxRecDepth 100000
/-! the component's parser: functions that are told -/
def Ftx (b : Int) (m m' : MM) : Prop := ∀ c i, ¬ (b ≤ c ∧ c ≤ b + 16) → ¬ (c = 365 ∧ (i = 2 ∨ i = 3)) → m' c i = m c i
def PE2 (T : MM → Prop) (b : Int) (m : MM) (e : Int × Int) : Prop := ∀ m', (∀ c i, ¬ (b ≤ c ∧ c ≤ b + 16) → c ≠ 365 → m' c i = m c i) → m' 365 1 = b → m' 365 4 = e.1 → m' 365 5 = e.2 → T m'
/-- parameters that were read -/
def PrI (m : MM) (b : Int) (ps : List (Int × Int × PT)) : Prop := (m b 5 = (ps.length : Int) ∧ (ps.length : Int) ≤ 3) ∧ ∀ k, 1 ≤ k → k ≤ (ps.length : Int) → m (b + 10) (k - 1) = (parD ps k).1 ∧ m (b + 12) (k - 1) = (parD ps k).2.1 ∧ ∃ lo hi, (0 ≤ lo ∧ hi ≤ m b 0) ∧ TF m b (chT [(parD ps k).2.2]) lo hi (m (b + 11) (k - 1))
section TOLDC
variable {T : MM → Prop} {tk : Int → TK} {N b : Int} {f n : Nat} {m0 m m' : MM} {p o lo s x w kd c i v : Int} {a : PT} {Q K : Int → MM → Prop} {e : Int × Int}
theorem PE2.per (h : PE2 T b m0 e) (f : Ftx b m0 m) : PEr T b m e := fun m' g1 g2 g3 g4 => h m' (fun c i z z' => (g1 c i (by omega) z').trans (f c i z (fun y => z' y.1))) g2 g3 g4
theorem Ftx.nw (h : Ftx b m0 m) (g : Fnw b lo m m') : Ftx b m0 m' := fun c i z z' => (g c i (fun y => z (by omega)) (fun y => z (by omega)) z').trans (h c i z z')
theorem Ftx.s2 (h : Ftx b m0 m) (g : ∀ c i, ¬ (c = 365 ∧ i = 2) → m' c i = m c i) : Ftx b m0 m' := fun c i z z' => (g c i (fun y => z' ⟨y.1, .inl y.2⟩)).trans (h c i z z')
theorem Ftx.s3 (h : Ftx b m0 m) (g : ∀ c i, ¬ (c = 365 ∧ (i = 2 ∨ i = 3)) → m' c i = m c i) : Ftx b m0 m' := fun c i z z' => (g c i z').trans (h c i z z')
theorem Ftx.tx (h : Ftx b m0 m) (hc : b ≤ c ∧ c ≤ b + 16) : Ftx b m0 (up m c i v) := fun c' i' z z' => (up_ne (fun y => z (by omega))).trans (h c' i' z z')
theorem Ftx.refl : Ftx b m m := fun _ _ _ _ => rfl
theorem tx_c (hb : isTx b) : b + 16 < 365 := by obtain ⟨a1, a2, a3⟩ := hb; omega
theorem PC.ag2 (h : PC m tk N b p o) (f : ∀ c i, ¬ (b ≤ c ∧ c ≤ b + 16) → m' c i = m c i) : PC m' tk N b p o := by
  obtain ⟨⟨h1, h2, h3, h4⟩, h5, h6, h7⟩ := h
  have hb' := tx_c h1
  refine ⟨⟨h1, ⟨h2.1, fun i i0 i1 => ?_⟩, h3, h4⟩, ?_, ⟨?_, h6.2⟩, ⟨?_, h7.2⟩⟩
  · rw [f 368 i (by omega), f 369 i (by omega), f 370 i (by omega), f 371 i (by omega)]
    exact h2.2 i i0 i1
  · rw [f _ _ (by omega)]; exact h5
  · rw [f _ _ (by omega)]; exact h6.1
  · rw [f _ _ (by omega)]; exact h7.1
theorem PC.tx2 (h : PC m tk N b p o) (hc : b ≤ c ∧ c ≤ b + 16) : PC (up m c i v) tk N b p o := h.ag2 (fun c' i' z => up_ne (fun y => z (by omega)))
theorem PrI.fr {ps : List (Int × Int × PT)} (h : PrI m b ps) (f5 : m' b 5 = m b 5) (f : ∀ c i, b + 10 ≤ c → c ≤ b + 12 → m' c i = m c i) (ag : Agr b 0 (m b 0) m m') (le : m b 0 ≤ m' b 0) : PrI m' b ps := by
  obtain ⟨h1, h2⟩ := h
  refine ⟨by rw [f5]; exact h1, fun k k1 k2 => ?_⟩
  obtain ⟨q1, q2, lo, hi, q3, q4⟩ := h2 k k1 k2
  rw [f (b + 10) _ (by omega) (by omega), f (b + 12) _ (by omega) (by omega), f (b + 11) _ (by omega) (by omega)]
  exact ⟨q1, q2, lo, hi, by omega, q4.frr (fun c i z z1 z2 => ag c i z (by omega) (by omega))⟩
theorem parD_lt {ps : List (Int × Int × PT)} {x : Int × Int × PT} {k : Int} (h1 : 1 ≤ k) (h2 : k ≤ (ps.length : Int)) : parD (ps ++ [x]) k = parD ps k := by
  have h : (k - 1).toNat < ps.length := by omega
  unfold parD List.getD
  rw [List.getElem?_append_left h]
theorem parD_at {ps : List (Int × Int × PT)} {x : Int × Int × PT} {k : Int} (h : k = (ps.length : Int) + 1) : parD (ps ++ [x]) k = x := by
  have h : (k - 1).toNat = ps.length := by omega
  unfold parD List.getD
  rw [h, List.getElem?_append_right (Nat.le_refl _)]
  simp
theorem PrI.add {ps : List (Int × Int × PT)} {x : Int × Int × PT} (h : PrI m b ps) (hl : (ps.length : Int) < 3) (f5 : m' b 5 = m b 5 + 1) (f : ∀ c i, b + 10 ≤ c → c ≤ b + 12 → i ≠ (ps.length : Int) → m' c i = m c i) (ag : Agr b 0 (m b 0) m m') (le : m b 0 ≤ m' b 0) (g1 : m' (b + 10) (ps.length : Int) = x.1) (g2 : m' (b + 12) (ps.length : Int) = x.2.1) (g3 : ∃ lo hi, (0 ≤ lo ∧ hi ≤ m' b 0) ∧ TF m' b (chT [x.2.2]) lo hi (m' (b + 11) (ps.length : Int))) : PrI m' b (ps ++ [x]) := by
  obtain ⟨h1, h2⟩ := h
  have el : ((ps ++ [x]).length : Int) = (ps.length : Int) + 1 := by rw [List.length_append]; rfl
  refine ⟨by rw [f5, el]; omega, fun k k1 k2 => ?_⟩
  rw [el] at k2
  by_cases y : k = (ps.length : Int) + 1
  · rw [parD_at y, y, show (ps.length : Int) + 1 - 1 = (ps.length : Int) by omega]
    exact ⟨g1, g2, g3⟩
  · rw [parD_lt k1 (by omega)]
    obtain ⟨q1, q2, lo, hi, q3, q4⟩ := h2 k k1 (by omega)
    rw [f (b + 10) _ (by omega) (by omega) (by omega), f (b + 12) _ (by omega) (by omega) (by omega), f (b + 11) _ (by omega) (by omega) (by omega)]
    exact ⟨q1, q2, lo, hi, by omega, q4.frr (fun c i z z1 z2 => ag c i z (by omega) (by omega))⟩
/-- the text's own fields but for the count of nodes and of parameters -/
def Ftf (b : Int) (m m' : MM) : Prop := ∀ i, i ≠ 0 → i ≠ 5 → m' b i = m b i
theorem pp_eq {tk : Int → TK} {f : Nat} {p c : Int} : pPar tk (f + 1) p c = (kdE tk 2 p >>= fun _ => if c = 3 then .error (2, plS tk p) else (goS tk p >>= fun q => ndS tk 58 q >>= fun q1 => pT tk 16 q1 1 >>= fun x => if isSg tk 44 x.2 then (goS tk x.2 >>= fun q3 => pPar tk f q3 (c + 1) >>= fun y => .ok ((nmS' tk p, plS tk p, x.1) :: y.1, y.2)) else .ok ([(nmS' tk p, plS tk p, x.1)], x.2))) := rfl
theorem c_parC : ∀ (f n : Nat) (ps : List (Int × Int × PT)) (p : Int) (m0 m : MM), f + ps.length = 5 → f ≤ n → PC m tk N b p 1 → PrI m b ps → (0 ≤ m b 0 ∧ m b 0 ≤ p) → Ftx b m0 m → (∀ r q, pPar tk f p (ps.length : Int) = .ok (r, q) → ∀ m', PC m' tk N b q 1 → PrI m' b (ps ++ r) → (0 ≤ m' b 0 ∧ m' b 0 ≤ q) → Ftx b m0 m' → Ftf b m m' → P_X3_told_185 Q T m') → (∀ e, pPar tk f p (ps.length : Int) = .error e → PE2 T b m0 e) → P_X3_told_43 Q T n m := by
  intro f
  induction f with
  | zero =>
    intro n ps p m0 m hf _ _ hI
    have := hI.1.2
    omega
  | succ f ih =>
    intro n ps p m0 m hf hn hP hI hs fr h1 h0
    obtain ⟨n', rfl⟩ : ∃ n', n = n' + 1 := ⟨n - 1, by omega⟩
    have hb := hP.1.1
    have hb' := tx_b hb
    have hb2 := tx_c hb
    have pb := hP.2.2.1
    have E := pp_eq (tk := tk) (f := f) (p := p) (c := (ps.length : Int))
    obtain ⟨⟨t1, t2, t5⟩, t3, t4⟩ := hP.tok
    show (0 ≤ (m 365 2) ∧ (m 365 2) < 401) ∧ _
    rw [pb.1, t1]
    refine ⟨t4, t3, ?_⟩
    by_cases y : kdS tk p = 2
    · rw [if_pos y]
      have K : kdE tk 2 p = .ok () := by unfold kdE; rw [if_pos y]
      rw [K] at E
      have E1 : pPar tk (f + 1) p (ps.length : Int) = (if (ps.length : Int) = 3 then .error (2, plS tk p) else (goS tk p >>= fun q => ndS tk 58 q >>= fun q1 => pT tk 16 q1 1 >>= fun x => if isSg tk 44 x.2 then (goS tk x.2 >>= fun q3 => pPar tk f q3 ((ps.length : Int) + 1) >>= fun y => .ok ((nmS' tk p, plS tk p, x.1) :: y.1, y.2)) else .ok ([(nmS' tk p, plS tk p, x.1)], x.2))) := E
      clear E
      unfold P_X3_told_68
      rw [hP.2.1, hI.1.1]
      refine ⟨hb, by have := hI.1.2; constructor <;> omega, ?_⟩
      by_cases y3 : (ps.length : Int) = 3
      · rw [if_pos y3]
        rw [if_pos y3] at E1
        exact c_hereP hP (c_faultC (((h0 _ E1).per fr).thr hP.2.1))
      · rw [if_neg y3]
        rw [if_neg y3] at E1
        have l3 := hI.1.2
        have nb : 0 ≤ (ps.length : Int) ∧ (ps.length : Int) < 3 := by omega
        unfold P_X3_told_88
        rw [hP.2.1, pb.1, hI.1.1, t5 y]
        refine ⟨hb, t4, nb, ?_⟩
        rintro m1 rfl
        have P1 := hP.tx2 (c := b + 10) (i := (ps.length : Int)) (v := nmS' tk p) (by omega)
        have e51 : up m (b + 10) (ps.length : Int) (nmS' tk p) b 5 = (ps.length : Int) := by rw [up_ne (by omega)]; exact hI.1.1
        rw [P1.2.1, e51]
        refine ⟨hb, c_hereP P1 ⟨nb, ?_⟩⟩
        rintro m3 rfl
        have P3 := P1.tx2 (c := b + 12) (i := (ps.length : Int)) (v := plS tk p) (by omega)
        have f3 : Ftx b m0 (up (up m (b + 10) (ps.length : Int) (nmS' tk p)) (b + 12) (ps.length : Int) (plS tk p)) := (fr.tx (by omega)).tx (by omega)
        generalize hm3 : up (up m (b + 10) (ps.length : Int) (nmS' tk p)) (b + 12) (ps.length : Int) (plS tk p) = m3 at P3 f3
        refine c_goP P3 (by have z : (tk p).1 = 2 := y; omega) (fun m4 a4 g4 P4 => ?_) (fun e z => (h0 e (by rw [E1, z]; rfl)).per f3)
        have f4 := f3.s2 g4
        rw [a4] at E1
        have E2 : pPar tk (f + 1) p (ps.length : Int) = (ndS tk 58 (p + 1) >>= fun q1 => pT tk 16 q1 1 >>= fun x => if isSg tk 44 x.2 then (goS tk x.2 >>= fun q3 => pPar tk f q3 ((ps.length : Int) + 1) >>= fun y => .ok ((nmS' tk p, plS tk p, x.1) :: y.1, y.2)) else .ok ([(nmS' tk p, plS tk p, x.1)], x.2)) := E1
        clear E1
        refine c_needP (by decide) P4 (fun m5 a5 g5 P5 => ?_) (fun e z => (h0 e (by rw [E2, z]; rfl)).per f4)
        have f5 := f4.s2 g5
        rw [a5] at E2
        have E3 : pPar tk (f + 1) p (ps.length : Int) = (pT tk 16 (p + 1 + 1) 1 >>= fun x => if isSg tk 44 x.2 then (goS tk x.2 >>= fun q3 => pPar tk f q3 ((ps.length : Int) + 1) >>= fun y => .ok ((nmS' tk p, plS tk p, x.1) :: y.1, y.2)) else .ok ([(nmS' tk p, plS tk p, x.1)], x.2)) := E2
        clear E2
        have ag5 : ∀ c i, ¬ (c = 365) → ¬ ((c = b + 10 ∨ c = b + 12) ∧ i = (ps.length : Int)) → m5 c i = m c i := fun c i z z' => by
          rw [g5 c i (by omega), g4 c i (by omega), ← hm3, up_ne (by omega), up_ne (by omega)]
        have e5 : m5 b 5 = (ps.length : Int) := by rw [ag5 _ _ (by omega) (by omega)]; exact hI.1.1
        have e0 : m5 b 0 = m b 0 := ag5 _ _ (by omega) (by omega)
        rw [P5.2.1, e5]
        refine ⟨hb, c_typeP 16 20 (by decide) (p + 1 + 1) 1 (m b 0) 0 m5 _ (by decide) P5 e0 (by omega) (fun c q hq r m6 P6 F6 T6 S6 n6 => ⟨nb, ?_⟩) (fun e z => (h0 e (by rw [E3, z]; rfl)).per f5)⟩
        rw [hq] at E3
        have E4 : pPar tk (f + 1) p (ps.length : Int) = (if isSg tk 44 q then (goS tk q >>= fun q3 => pPar tk f q3 ((ps.length : Int) + 1) >>= fun y => .ok ((nmS' tk p, plS tk p, c) :: y.1, y.2)) else .ok ([(nmS' tk p, plS tk p, c)], q)) := E3
        clear E3
        rintro m7 rfl
        have P7 := P6.tx2 (c := b + 11) (i := (ps.length : Int)) (v := r) (by omega)
        rw [P7.2.1]
        refine ⟨hb, ?_⟩
        have e57 : up m6 (b + 11) (ps.length : Int) r b 5 = (ps.length : Int) := by rw [up_ne (by omega), F6 _ _ (by omega) (by omega) (by omega)]; exact e5
        rw [e57]
        rintro m8 rfl
        have P8 := P7.tx2 (c := b) (i := 5) (v := (ps.length : Int) + 1) (by omega)
        have f8 : Ftx b m0 (up (up m6 (b + 11) (ps.length : Int) r) b 5 ((ps.length : Int) + 1)) := ((f5.nw F6).tx (by omega)).tx (by omega)
        have tr := T6.rng
        have I8 : PrI (up (up m6 (b + 11) (ps.length : Int) r) b 5 ((ps.length : Int) + 1)) b (ps ++ [(nmS' tk p, plS tk p, c)]) := by
          have ag : Agr b 0 (m b 0) m (up (up m6 (b + 11) (ps.length : Int) r) b 5 ((ps.length : Int) + 1)) := fun c i z z1 z2 => by
            rw [up_ne (by omega), up_ne (by omega), F6 c i (by omega) (by omega) (by omega)]; exact ag5 c i (by omega) (by omega)
          refine hI.add (by omega) ?_ (fun c i z z1 z2 => ?_) ag ?_ ?_ ?_ ⟨m b 0, m6 b 0, ⟨by omega, ?_⟩, ?_⟩
          · rw [up_at, hI.1.1]
          · rw [up_ne (by omega), up_ne (by omega), F6 c i (by omega) (by omega) (by omega)]; exact ag5 c i (by omega) (by omega)
          · rw [up_ne (by omega), up_ne (by omega)]; omega
          · rw [up_ne (by omega), up_ne (by omega), F6 _ _ (by omega) (by omega) (by omega), g5 _ _ (by omega), g4 _ _ (by omega), ← hm3, up_ne (by omega), up_at]
          · rw [up_ne (by omega), up_ne (by omega), F6 _ _ (by omega) (by omega) (by omega), g5 _ _ (by omega), g4 _ _ (by omega), ← hm3, up_at]
          · rw [up_ne (by omega), up_ne (by omega)]; exact Int.le_refl _
          · rw [up_ne (show ¬ (b + 11 = b ∧ (ps.length : Int) = 5) by omega), up_at]
            exact TNs.one (TNs.fr (a := c) ⟨T6, S6⟩ (fun c i z z1 z2 => by rw [up_ne (by omega), up_ne (by omega)]))
        have s8 : 0 ≤ up (up m6 (b + 11) (ps.length : Int) r) b 5 ((ps.length : Int) + 1) b 0 ∧ up (up m6 (b + 11) (ps.length : Int) r) b 5 ((ps.length : Int) + 1) b 0 ≤ q := by
          rw [up_ne (by omega), up_ne (by omega)]; omega
        have tf8 : Ftf b m (up (up m6 (b + 11) (ps.length : Int) r) b 5 ((ps.length : Int) + 1)) := fun i z z1 => by
          rw [up_ne (by omega), up_ne (by omega), F6 _ _ (by omega) (by omega) (by omega)]; exact ag5 _ _ (by omega) (by omega)
        generalize up (up m6 (b + 11) (ps.length : Int) r) b 5 ((ps.length : Int) + 1) = m8 at P8 f8 I8 s8 tf8
        refine c_takesP (by decide) P8 (fun m9 yt a9 g9 P9 => ⟨by decide, ?_⟩) (fun yt => ⟨by decide, ?_⟩) (fun e yt z => (h0 e (by rw [E4, if_pos yt, z]; rfl)).per f8)
        · rw [if_neg (by decide)]
          have el : ((ps ++ [(nmS' tk p, plS tk p, c)]).length : Int) = (ps.length : Int) + 1 := by rw [List.length_append]; rfl
          have E5 : pPar tk (f + 1) p (ps.length : Int) = (pPar tk f (q + 1) ((ps ++ [(nmS' tk p, plS tk p, c)]).length : Int) >>= fun y => .ok ((nmS' tk p, plS tk p, c) :: y.1, y.2)) := by rw [E4, if_pos yt, a9, el]; rfl
          have n9 : m9 b 0 = m8 b 0 := g9 _ _ (by omega)
          refine ih n' (ps ++ [(nmS' tk p, plS tk p, c)]) (q + 1) m0 m9 (by rw [List.length_append]; show f + (ps.length + 1) = 5; omega) (by omega) P9 (I8.fr (g9 _ _ (by omega)) (fun c i z z1 => g9 c i (by omega)) (fun c i z _ _ => g9 c i (by omega)) (by omega)) (by omega) (f8.s2 g9) (fun r' q' z m' P' I' s' f' t' => ?_) (fun e z => h0 e (by rw [E5, z]; rfl))
          rw [List.append_assoc] at I'
          exact h1 _ q' (by rw [E5, z]; rfl) m' P' I' s' f' (fun i z z1 => (t' i z z1).trans ((g9 _ _ (by omega)).trans (tf8 i z z1)))
        · rw [if_pos rfl]
          exact h1 _ q (by rw [E4, if_neg yt]) m8 P8 I8 s8 f8 tf8
    · rw [if_neg y]
      have K : kdE tk 2 p = .error (1, plS tk p) := by unfold kdE; rw [if_neg y]
      rw [K] at E
      exact c_synP hP ((h0 _ E).per fr)
end TOLDC
