set_option maxRecDepth 100000
/-! the component's parser: rings, whole -/
section TYPE4S
variable (tk : Int → TK)
def t272 (f : Nat) (v : Int) (d : ND) (p o : Int) : Except (Int × Int) (PT × Int) :=
  if v = 17 then do
    let q ← ndS tk 41 p
    pure ((d, lf), q)
  else do
    let (a, q) ← pT tk f p (o + 1)
    let q1 ← ndS tk 41 q
    pure ((d, chT [a]), q1)
def t260 (f : Nat) (v : Int) (d : ND) (p o : Int) : Except (Int × Int) (PT × Int) :=
  if v = 19 then do
    let q ← ndS tk 44 p
    t272 tk f v d q o
  else t272 tk f v d p o
def t221 (f : Nat) (v kd w p o : Int) : Except (Int × Int) (PT × Int) := do
  let q ← goS tk p
  t260 tk f v (kd, w, vlS tk p, plS tk p) q o
def t147 (f : Nat) (v kd w p o : Int) : Except (Int × Int) (PT × Int) := do
  let q ← goS tk p
  let q1 ← noS tk 40 q o
  if v = 18 then t260 tk f v (kd, w, 0, 0) q1 o
  else do
    kdE tk 1 q1
    t221 tk f v kd w q1 o
theorem pT_147 {f : Nat} {p o : Int} (hk : kdS tk p = 3) (hv : vlS tk p = 17 ∨ vlS tk p = 18 ∨ vlS tk p = 19) : pT tk (f + 1) p o = t147 tk f (vlS tk p) (if vlS tk p = 17 then 33 else if vlS tk p = 18 then 34 else 35) (plS tk p) p o := by
  unfold pT t147
  rw [if_neg (by rw [hk]; decide), if_neg (by omega), if_neg (by omega)]
  congr 1
  funext q
  congr 1
  funext q1
  rcases hv with hv | hv | hv
  · rw [if_pos hv, if_neg (by omega), if_pos hv]
    congr 1
    funext _
    unfold t221 t260 t272
    congr 1
    funext q2
    rw [if_neg (by omega), if_pos hv]
  · rw [if_neg (by omega), if_pos hv, if_pos hv, if_neg (by omega), if_pos hv]
    unfold t260 t272
    rw [if_neg (by omega), if_neg (by omega)]
  · rw [if_neg (by omega), if_neg (by omega), if_neg (by omega), if_neg (by omega), if_neg (by omega)]
    congr 1
    funext _
    unfold t221 t260 t272
    congr 1
    funext q2
    rw [if_pos hv]
    congr 1
    funext q3
    rw [if_neg (by omega)]
end TYPE4S
section TYPE4C
variable {T : MM → Prop} {tk : Int → TK} {N b : Int} {f : Nat} {rec : Nat → List Int → MM → (Int → MM → Prop) → (MM → Prop) → Prop} {m0 m : MM} {p o k0 s v w kd : Int} {d : ND} {Q : Int → MM → Prop}
theorem c_type272 (hrec : TyC tk N b T f rec) (hf : 12 - o < f) (hP : PC m tk N b p (o + 1)) (o0 : 0 ≤ o) (fr : Fnw b k0 m0 m) (hn : m b 0 = k0 + 1) (hk : 0 ≤ k0 ∧ 0 ≤ s ∧ k0 + 1 + s ≤ p) (hd : NdH m b k0 d) (hv : v = 17 ∨ v = 18 ∨ v = 19) (h1 : ∀ a q, t272 tk f v d p o = .ok (a, q) → TyOk tk N b k0 s Q m0 o a q) (h0 : ∀ e, t272 tk f v d p o = .error e → PEr T b m0 e) : P_X3_type_272 rec Q T v k0 m := by
  have hb := hP.1.1
  have hb' := tx_b hb
  have pb := hP.2.2.1
  unfold t272 at h1 h0
  refine ⟨by constructor <;> omega, ?_⟩
  by_cases y : v = 17
  · rw [if_pos y] at h1 h0 ⊢
    have w := hd.nil (by omega)
    refine c_type291 (a := (d, lf)) hP o0 fr (by rw [hn]; exact w.1) w.2 (by omega) (fun e => h1 _ _ (by rw [e]; rfl)) (fun e z => h0 e (by rw [z]; rfl))
  · rw [if_neg y] at h1 h0 ⊢
    refine ⟨by rw [hP.2.1]; exact hb, ?_⟩
    rw [hP.2.1]
    refine hrec p (o + 1) (k0 + 1) s m _ (by omega) hP hn (by omega) (fun a q ha k m1 P1 f1 t1 s1 n1 => ⟨by omega, ?_⟩) (fun e z => fr.per hb (h0 e (by rw [z]; rfl)))
    rintro m2 rfl
    have hd1 : NdH m1 b k0 d := hd.fr (fun c z => f1 c k0 (by omega) (by omega) (by omega))
    have w := hd1.one hk.1 ⟨t1, s1⟩
    have en : up m1 (b + 2) k0 k b 0 = m1 b 0 := up_ne (by omega)
    refine c_type291 (m0 := m0) (a := (d, chT [a])) (P1.tx (by omega)) o0 ((fr.trans f1 (by omega)).tx (by omega) (by omega)) (by rw [en]; exact w.1) w.2 (by rw [en]; exact n1) (fun e => h1 _ _ (by rw [ha]; show (ndS tk 41 q >>= _) = _; rw [e]; rfl)) (fun e z => h0 e (by rw [ha]; show (ndS tk 41 q >>= _) = _; rw [z]; rfl))
theorem c_type260 (hrec : TyC tk N b T f rec) (hf : 12 - o < f) (hP : PC m tk N b p (o + 1)) (o0 : 0 ≤ o) (fr : Fnw b k0 m0 m) (hn : m b 0 = k0 + 1) (hk : 0 ≤ k0 ∧ 0 ≤ s ∧ k0 + 1 + s ≤ p) (hd : NdH m b k0 d) (hv : v = 17 ∨ v = 18 ∨ v = 19) (h1 : ∀ a q, t260 tk f v d p o = .ok (a, q) → TyOk tk N b k0 s Q m0 o a q) (h0 : ∀ e, t260 tk f v d p o = .error e → PEr T b m0 e) : P_X3_type_260 rec Q T v k0 m := by
  have hb := hP.1.1
  have hb' := tx_b hb
  unfold t260 at h1 h0
  refine ⟨by constructor <;> omega, ?_⟩
  by_cases y : v = 19
  · rw [if_pos y] at h1 h0 ⊢
    refine c_needP (by decide) hP (fun m1 e g P1 => ?_) (fun e z => fr.per hb (h0 e (by rw [z]; rfl)))
    exact c_type272 hrec hf P1 o0 (fr.s2 g) (by rw [g _ _ (by omega)]; exact hn) (by omega) (hd.fr (fun c z => g c k0 (by omega))) hv (fun a q z => h1 a q (by rw [e]; exact z)) (fun e' z => h0 e' (by rw [e]; exact z))
  · rw [if_neg y] at h1 h0 ⊢
    exact c_type272 hrec hf hP o0 fr hn hk hd hv h1 h0
theorem c_type221 (hrec : TyC tk N b T f rec) (hf : 12 - o < f) (hP : PC m tk N b p (o + 1)) (o0 : 0 ≤ o) (fr : Fnw b k0 m0 m) (hn : m b 0 = k0 + 1) (hk : 0 ≤ k0 ∧ 0 ≤ s ∧ k0 + 1 + s ≤ p) (hd : m (b + 1) k0 = kd ∧ m (b + 2) k0 = -1 ∧ m (b + 3) k0 = -1 ∧ m (b + 5) k0 = w) (hk1 : kdS tk p = 1) (hv : v = 17 ∨ v = 18 ∨ v = 19) (h1 : ∀ a q, t221 tk f v kd w p o = .ok (a, q) → TyOk tk N b k0 s Q m0 o a q) (h0 : ∀ e, t221 tk f v kd w p o = .error e → PEr T b m0 e) : P_X3_type_221 rec Q T v k0 m := by
  have hb := hP.1.1
  have hb' := tx_b hb
  have pb := hP.2.2.1
  unfold t221 at h1 h0
  obtain ⟨tN, tt⟩ := hP.1.2.1
  have t1 := tt p pb.2.1 pb.2.2.1
  have e1 : m 369 p = vlS tk p := t1.2.1
  unfold P_X3_type_221
  rw [hP.2.1, pb.1, e1]
  refine ⟨hb, by omega, by omega, ?_⟩
  rintro m1 rfl
  have P1 := hP.tx (c := b + 4) (i := k0) (v := vlS tk p) (by omega)
  refine ⟨by rw [P1.2.1]; exact hb, c_hereP P1 ⟨?_, ?_⟩⟩
  · have : plS tk p = (tk p).2.2.2 := rfl
    constructor <;> omega
  rw [P1.2.1]
  rintro m3 rfl
  have P3 := P1.tx (c := b + 9) (i := k0) (v := plS tk p) (by omega)
  have F3 := (fr.tx (c := b + 4) (i := k0) (v := vlS tk p) (by omega) (Int.le_refl _)).tx (c := b + 9) (i := k0) (v := plS tk p) (by omega) (Int.le_refl _)
  refine c_goP P3 (by have z : (tk p).1 = 1 := hk1; omega) (fun m4 e g P4 => ?_) (fun e z => F3.per hb (h0 e (by rw [z]; rfl)))
  refine c_type260 hrec hf P4 o0 (F3.s2 g) ?_ (by omega) ⟨⟨?_, ?_, ?_, fun _ => ?_⟩, ?_, ?_⟩ hv (fun a q z => h1 a q (by rw [e]; exact z)) (fun e' z => h0 e' (by rw [e]; exact z))
  · rw [g _ _ (by omega), up_ne (by omega), up_ne (by omega)]; exact hn
  · rw [g _ _ (by omega), up_ne (by omega), up_ne (by omega)]; exact hd.1
  · rw [g _ _ (by omega), up_ne (by omega), up_at]
  · rw [g _ _ (by omega), up_ne (by omega), up_ne (by omega)]; exact hd.2.2.2
  · rw [g _ _ (by omega), up_at]
  · rw [g _ _ (by omega), up_ne (by omega), up_ne (by omega)]; exact hd.2.1
  · rw [g _ _ (by omega), up_ne (by omega), up_ne (by omega)]; exact hd.2.2.1
theorem c_type147 (hrec : TyC tk N b T f rec) (hf : 12 - o < f) (hP : PC m tk N b p o) (hn : m b 0 = k0) (hk : 0 ≤ k0 ∧ 0 ≤ s ∧ k0 + s ≤ p) (hk3 : kdS tk p = 3) (hv : v = 17 ∨ v = 18 ∨ v = 19) (h1 : ∀ a q, t147 tk f v (if v = 17 then 33 else if v = 18 then 34 else 35) w p o = .ok (a, q) → TyOk tk N b k0 s Q m o a q) (h0 : ∀ e, t147 tk f v (if v = 17 then 33 else if v = 18 then 34 else 35) w p o = .error e → PEr T b m e) : P_X3_type_147 rec Q T w v m := by
  have hb := hP.1.1
  have hb' := tx_b hb
  have ob := hP.2.2.2.2
  unfold t147 at h1 h0
  refine c_goP hP (by have z : (tk p).1 = 3 := hk3; omega) (fun m1 e1 g1 P1 => ?_) (fun e z => h0 e (by rw [z]; rfl))
  have pb := P1.2.2.1
  refine ⟨by constructor <;> omega, by rw [P1.2.1]; exact hb, ?_⟩
  rw [P1.2.1]
  have n1 : m1 b 0 = k0 := by rw [g1 _ _ (by omega)]; exact hn
  refine c_addC hb n1 (by omega) (fun m2 f2 q0 q1 q2 q3 q4 q5 q6 => ?_)
  have P2 : PC m2 tk N b (p + 1) o := P1.ag (fun c i z => f2 c i (by omega) (by omega))
  have F2 : Fnw b k0 m m2 := (Fnw.refl.s2 g1).ad (Int.le_refl _) f2
  refine c_needOpenP (by decide) P2 (fun m3 e3 g3 P3 => ⟨by constructor <;> omega, ?_⟩) (fun e z => F2.per hb (h0 e (by rw [e1]; show (noS tk 40 (p + 1) o >>= _) = _; rw [z]; rfl)))
  have F3 := F2.s3 g3
  have E : ∀ {x : Except (Int × Int) (PT × Int)} (F : Int → Except (Int × Int) (PT × Int)), F (p + 1 + 1) = x → (goS tk p >>= fun q => noS tk 40 q o >>= F) = x := by
    intro x F hF
    rw [e1]; show (noS tk 40 (p + 1) o >>= _) = _; rw [e3]; exact hF
  have n3 : m3 b 0 = k0 + 1 := by rw [g3 _ _ (by omega)]; exact q0
  by_cases y : v = 18
  · rw [if_pos y]
    refine c_type260 (d := (34, w, 0, 0)) hrec hf P3 ob.1 F3 n3 (by omega) ⟨⟨?_, ?_, ?_, fun z => ?_⟩, ?_, ?_⟩ hv (fun a q z => h1 a q ?_) (fun e z => h0 e ?_)
    · rw [g3 _ _ (by omega), q1, if_neg (by omega), if_pos y]
    · rw [g3 _ _ (by omega)]; exact q4
    · rw [g3 _ _ (by omega)]; exact q5
    · exfalso
      have z' : (34 : Int) = 4 ∨ (34 : Int) = 5 ∨ (34 : Int) = 33 ∨ (34 : Int) = 35 := z
      omega
    · rw [g3 _ _ (by omega)]; exact q2
    · rw [g3 _ _ (by omega)]; exact q3
    · refine E _ ?_
      show (if v = 18 then _ else _) = _
      rw [if_pos y, if_neg (by omega), if_pos y]; exact z
    · refine E _ ?_
      show (if v = 18 then _ else _) = _
      rw [if_pos y, if_neg (by omega), if_pos y]; exact z
  · rw [if_neg y]
    have pb3 := P3.2.2.1
    obtain ⟨tN, tt⟩ := P3.1.2.1
    have t1 := tt _ pb3.2.1 pb3.2.2.1
    rw [pb3.1, t1.1]
    refine ⟨by omega, t1.2.2.2.2.1, ?_⟩
    by_cases y1 : (tk (p + 1 + 1)).1 = 1
    · rw [if_pos y1]
      refine c_type221 (kd := if v = 17 then 33 else if v = 18 then 34 else 35) (w := w) hrec hf P3 ob.1 F3 n3 (by omega) ⟨?_, ?_, ?_, ?_⟩ y1 hv (fun a q z => h1 a q ?_) (fun e z => h0 e ?_)
      · rw [g3 _ _ (by omega)]; exact q1
      · rw [g3 _ _ (by omega)]; exact q2
      · rw [g3 _ _ (by omega)]; exact q3
      · rw [g3 _ _ (by omega)]; exact q5
      · refine E _ ?_
        show (if v = 18 then _ else _) = _
        rw [if_neg y]
        unfold kdE
        rw [if_pos y1]; exact z
      · refine E _ ?_
        show (if v = 18 then _ else _) = _
        rw [if_neg y]
        unfold kdE
        rw [if_pos y1]; exact z
    · rw [if_neg y1]
      refine c_synP P3 (F3.per hb (h0 _ ?_))
      refine E _ ?_
      show (if v = 18 then _ else _) = _
      rw [if_neg y]
      unfold kdE
      rw [if_neg y1]; rfl
theorem c_type27 (hrec : TyC tk N b T f rec) (hf : 12 - o < f) (hP : PC m tk N b p o) (hn : m b 0 = k0) (hk : 0 ≤ k0 ∧ 0 ≤ s ∧ k0 + s ≤ p) (hk3 : kdS tk p = 3) (h1 : ∀ a q, pT tk (f + 1) p o = .ok (a, q) → TyOk tk N b k0 s Q m o a q) (h0 : ∀ e, pT tk (f + 1) p o = .error e → PEr T b m e) : P_X3_type_27 rec Q T (plS tk p) m := by
  have pb := hP.2.2.1
  obtain ⟨tN, tt⟩ := hP.1.2.1
  have t1 := tt _ pb.2.1 pb.2.2.1
  have e1 : m 369 p = vlS tk p := t1.2.1
  unfold P_X3_type_27
  rw [pb.1, e1]
  refine ⟨by omega, t1.2.2.2.2.2.1, ?_⟩
  have hA : (vlS tk p = 14 ∨ vlS tk p = 15 ∨ vlS tk p = 16 ∨ vlS tk p = 20) → P_X3_type_64 rec Q T (plS tk p) (vlS tk p) m := by
    intro y
    have E : pT tk (f + 1) p o = (goS tk p >>= fun q => pure ((((if vlS tk p = 16 then 31 else if vlS tk p = 20 then 32 else 30), plS tk p, (if vlS tk p = 15 then 1 else 0), 0), lf), q)) := by
      unfold pT
      rw [if_neg (by rw [hk3]; decide), if_pos y]
    exact c_type64 hP hk3 y hn (by omega) (fun k m' e P' F' t' s' n' => h1 _ _ (by rw [E, e]; rfl) k m' P' F' t' s' (by omega)) (fun e z => h0 e (by rw [E, z]; rfl))
  have hB : (vlS tk p = 17 ∨ vlS tk p = 18 ∨ vlS tk p = 19) → P_X3_type_147 rec Q T (plS tk p) (vlS tk p) m := by
    intro y
    have E := pT_147 tk (f := f) (o := o) hk3 y
    exact c_type147 hrec hf hP hn hk hk3 y (fun a q z => h1 a q (by rw [E]; exact z)) (fun e z => h0 e (by rw [E]; exact z))
  by_cases a1 : vlS tk p = 14
  · rw [if_pos a1]; exact hA (by omega)
  rw [if_neg a1]
  by_cases a2 : vlS tk p = 15
  · rw [if_pos a2]; exact hA (by omega)
  rw [if_neg a2]
  by_cases a3 : vlS tk p = 16
  · rw [if_pos a3]; exact hA (by omega)
  rw [if_neg a3]
  by_cases a4 : vlS tk p = 20
  · rw [if_pos a4]; exact hA (by omega)
  rw [if_neg a4]
  by_cases a5 : vlS tk p = 17
  · rw [if_pos a5]; exact hB (by omega)
  rw [if_neg a5]
  by_cases a6 : vlS tk p = 18
  · rw [if_pos a6]; exact hB (by omega)
  rw [if_neg a6]
  by_cases a7 : vlS tk p = 19
  · rw [if_pos a7]; exact hB (by omega)
  rw [if_neg a7]
  refine c_faultC ((h0 _ ?_).thr hP.2.1)
  unfold pT
  rw [if_neg (by rw [hk3]; decide), if_neg (by omega), if_pos (by omega)]
/-- rings are read as the specification says -/
theorem c_typeP : ∀ (f dep : Nat), f ≤ dep → TyC tk N b T f (R_X3_type dep) := by
  intro f
  induction f with
  | zero => intro dep _ p o k0 s m Q hf hP; exfalso; have := hP.2.2.2.2; omega
  | succ f ih =>
    intro dep hd p o k0 s m Q hf hP hn hk h1 h0
    obtain ⟨d, rfl⟩ : ∃ d, dep = d + 1 := ⟨dep - 1, by omega⟩
    have hrec := ih d (by omega)
    show W_X3_type (R_X3_type d) m Q T
    refine c_hereP hP ?_
    have pb := hP.2.2.1
    obtain ⟨tN, tt⟩ := hP.1.2.1
    have t1 := tt _ pb.2.1 pb.2.2.1
    rw [pb.1, t1.1]
    refine ⟨by omega, t1.2.2.2.2.1, ?_⟩
    by_cases y : (tk p).1 = 3
    · rw [if_pos y]
      exact c_type27 hrec (by omega) hP hn hk y h1 h0
    · rw [if_neg y]
      refine c_faultC ((h0 _ ?_).thr hP.2.1)
      unfold pT
      rw [if_pos y]
end TYPE4C
