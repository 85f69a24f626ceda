set_option maxRecDepth 100000
/-! the model: calls -/
section CALLM
variable {Q : Int → MM → Prop} {T : MM → Prop} {e : JE} {ro : Int} {d : ND} {c : TT} {m m1 m2 : MM} {n : Nte} {lo hi k sp : Int} {rc : List R3} {x : R3} {dep : Nat}
/-- rings along a chain of nodes -/
theorem TM.rcs (he : JEok e) : ∀ (t : TT), wfT t → ∀ {lo hi : Int} {ns : List Int} {rc : List R3}, TM m (AnP m e ro) t lo hi ns → allS (jdS e t).1 = some rc → rc.length = ns.length ∧ ∀ (i : Nat) (k : Int) (x : R3), ns[i]? = some k → rc[i]? = some x → rgM m k (some x) ∧ ok3 x ∧ (0 ≤ k ∧ k < 12000) := by
  intro t
  induction t with
  | leaf => intro _ lo hi ns rc hT h; cases h; rw [hT.1]; exact ⟨rfl, fun i k x h => by simp at h⟩
  | inner z d u c s ihc ihs =>
    intro w lo hi ns rc hT h
    obtain ⟨k, ns', mid, rfl, t2, tn, t3⟩ := TM_cons.1 hT
    rw [show (jdS e (.inner z d u c s)).1 = rgS e d c :: (jdS e s).1 from rfl] at h
    rcases hx : rgS e d c with - | x
    · rw [hx] at h; cases h
    · rw [hx] at h
      unfold allS at h
      split at h
      · cases h
      case h_2 r hr =>
        cases h
        obtain ⟨i1, i2⟩ := ihs w.2.2 t3 hr
        have kk := tn.lk
        refine ⟨by show r.length + 1 = ns'.length + 1; rw [i1], fun i k' x' h1 h2 => ?_⟩
        cases i with
        | zero =>
          simp at h1 h2
          rw [← h1, ← h2]
          exact ⟨by have := tn.rg; rw [hx] at this; exact this, rgS_ok he w.1 w.2.1 hx, ⟨kk.1, kk.2.1⟩⟩
        | succ i => simp at h1 h2; exact i2 i k' x' h1 h2
theorem callJ {cl ch : Int} {cs : List Int} (hk : d.1 = 5) (w : okN d c) (wc : wfT c) (hb : (0 ≤ lo ∧ lo ≤ k ∧ k < hi ∧ hi ≤ 12000) ∧ (lo ≤ cl ∧ cl ≤ ch ∧ ch ≤ hi) ∧ (k < cl ∨ ch ≤ k)) (hN : NM m d k) (hL : LKm m d k cs) (hTc : TM m Tt c cl ch cs) (hC : JCm (R_X10_judge dep) e ro T c) (f1 : FJm k (k + 1) sp m m1) (E1 : EMj m1 e ro) (n1 : NN' m1 n) (r98 : m1 598 k = -9) (h68 : m1 582 68 = sp) (hsp : 0 ≤ sp ∧ sp + (szT c : Int) + 1 ≤ 5000) (post : PostM m e ro d c lo hi k sp n Q) : W_X10_judgeCall (R_X10_judge dep) k m1 Q T := by
  have h30 : d.1 < 30 := by omega
  have ar := okN_ar w (by omega)
  have kb : 0 ≤ k ∧ k < 12000 := by omega
  have hI := hL.1 (Or.inl hk)
  have e91 : m1 591 k = m 591 k := f1.st 591 k (by omega)
  have l5 : 1 ≤ lenT c := by have := ar.1; unfold arT at this; omega
  have lsz : ∀ t : TT, lenT t ≤ szT t := by
    intro t
    induction t with
    | leaf => exact Nat.le_refl _
    | inner z d u c s ihc ihs => show lenT s + 1 ≤ szT c + szT s + 1; omega
  have lc := lsz c
  have f1' : FJm lo hi sp m m1 := f1.mono (by omega) (by omega) (Int.le_refl _)
  refine ⟨kb, lenT c + 1, ?_⟩
  rw [e91]
  refine itemsM (Lp := fun a b c' d' m => P_X10_judgeCall_12 (R_X10_judge dep) Q T a k b c' d' m) (K := fun x2 x3 m => P_X10_judgeCall_70 (R_X10_judge dep) Q T k x2 x3 m) (fun _ _ _ _ _ h => h) c hC ar.2 wc E1 (hTc.jt f1 (by omega)) (hI.fr f1.st) n1 h68 (by omega) (Or.inr rfl) (fun m2 x2 f2 n2 T2 b2 i2 => ?_)
  have i2' : x2 = 1 ↔ allS (jdS e c).1 ≠ none := ⟨fun q => (i2.1 q).2, fun q => i2.2 ⟨rfl, q⟩⟩
  have f2' : FJm lo hi sp m m2 := f1'.trans (f2.mono (by omega) (by omega) (Int.le_refl _))
  have E2 := E1.jm f2
  have K : KidsM m m2 e ro d c lo hi k sp n cs := ⟨cl, ch, hb, hN, hL, f2', T2, n2⟩
  have r98' : m2 598 k = -9 := by rw [f2 598 k (by omega) (by omega) (by omega) (by omega)]; exact r98
  obtain ⟨F, nf, hB, hup, r61, kn, mt⟩ := E2.cl
  have e05 : m2 605 k = d.2.2.2 := by rw [f2'.st 605 k (by omega)]; exact hN.2.2.2.1 (Or.inr hk)
  have e95 : m2 595 k = d.2.1 := by rw [f2'.st 595 k (by omega)]; exact hN.2.1
  have hw := w.2.2.1
  have nfb := hB.1
  rw [show (0 : Int) + (lenT c : Int) = (lenT c : Int) by omega]
  -- behind whether the name is told
  have l140 : ∀ x5 : Int, (x5 = 0 ∧ ¬ knS F nf d.2.2.2 ∨ x5 = 1 ∧ knS F nf d.2.2.2) → P_X10_judgeCall_140 (R_X10_judge dep) Q T k x2 (lenT c : Int) nf x5 m2 := by
    intro x5 h5
    rcases h5 with ⟨rfl, no⟩ | ⟨rfl, yes⟩
    · -- unknown
      refine ⟨by decide, ?_⟩
      rw [if_pos rfl, e95]
      have nk : d.1 = 5 ∧ ¬ e.2.2.1 d.2.2.2 := ⟨hk, fun q => no (by rw [kn] at q; exact q)⟩
      have e0 : nodeS e d c (jdS e c) = (none, mn (jdS e c).2 (some (d.2.1, 3))) := by
        unfold nodeS
        rw [if_neg (by omega), if_pos nk]
      have r1 : rgS e d c = none := congrArg Prod.fst e0
      have r2 : ntS e d c = mn (jdS e c).2 (some (d.2.1, 3)) := congrArg Prod.snd e0
      refine ⟨kb, c_noteM n2 (by decide) w.1 (fun m3 f3 n3 => ⟨by decide, ?_⟩)⟩
      rw [if_pos rfl]
      exact nodeM_fin post hb hN hL h30 f2' T2 f3.jm (by rw [r2, ← mn_assoc]; exact n3) ⟨by rw [r1]; show m3 598 k = -9; rw [f3 598 k (by omega)]; exact r98', fun x hx => by rw [r1] at hx; cases hx⟩
    · have h5 : d.1 = 5 → e.2.2.1 d.2.2.2 := fun _ => by rw [kn]; exact yes
      refine ⟨by decide, ?_⟩
      rw [if_neg (by decide)]
      refine ⟨by decide, ?_⟩
      rw [if_neg (by decide)]
      refine ⟨by constructor <;> omega, ?_⟩
      rcases hrc : allS (jdS e c).1 with - | rc
      · rw [if_pos (by rcases b2 with q | q; exact q; exact absurd hrc (i2'.1 q))]
        exact km_none post K h30 h5 hrc (FJm.refl m2) rfl rfl r98'
      have x1 : x2 = 1 := i2'.2 (by rw [hrc]; intro q; cases q)
      rw [if_neg (by omega)]
      rintro m3 rfl
      obtain ⟨rcl, rcv⟩ := TM.rcs E2.ok c wc T2 hrc
      have csl := TM_len T2
      have okr : ∀ x, x ∈ rc → ok3 x := allS_ok _ _ (jdS_ok E2.ok c wc) hrc
      have own0 : mtS F nf d.2.2.2 rc = none → ownS e d rc = none := fun q => by rw [own_call hk, mt, q]
      have own1 : ∀ f' R' z', mtS F nf d.2.2.2 rc = some (f', R', z') → ownS e d rc = some z' := fun f' R' z' q => by rw [own_call hk, mt, q]
      have I2 : ITM m2 (m2 591 k) cs := by rw [f2'.st 591 k (by omega)]; exact hI.fr f2'.st
      -- whom it means
      have l264 : ∀ m4, FJm k (k + 1) sp m2 m4 → m4 582 13 = m2 582 13 → m4 582 14 = m2 582 14 → m4 582 73 = (rc.length : Int) → (rc.length ≤ 3 → rowM m4 0 rc) → P_X10_judgeCall_264 (R_X10_judge dep) Q T k nf m4 := by
        intro m4 f4 g3 g4 h73 hr
        unfold P_X10_judgeCall_264
        rw [f4.st 605 k (by omega), e05]
        have hB4 : BKm m4 F nf := hB.fr (fun c' i z => f4 c' i (by omega) (by omega) (by omega) (by omega))
        refine ⟨kb, c_meantM hB4 hw h73 (by omega) okr hr (fun m5 f5 v5 => ?_)⟩
        have f5' : FJm k (k + 1) sp m2 m5 := f4.trans f5.jm
        have g53 : m5 582 13 = m2 582 13 := by rw [f5 582 13 (by omega)]; exact g3
        have g54 : m5 582 14 = m2 582 14 := by rw [f5 582 14 (by omega)]; exact g4
        have mtd : 3 < rc.length ∨ mtS F nf d.2.2.2 rc = (match bestS F d.2.2.2 rc nf.toNat with
            | none => none
            | some x => match instS (F x.1) 0 x.2.2 with
              | none => none
              | some z => some (x.1, x.2.2, z)) := by
          by_cases q : 3 < rc.length
          · exact Or.inl q
          · right
            unfold mtS
            rw [if_neg q]
            rcases bestS F d.2.2.2 rc nf.toNat with - | x
            · rfl
            · simp only
              rcases instS (F x.1) 0 x.2.2 with - | z <;> rfl
        rcases hbs : bestS F d.2.2.2 rc nf.toNat with - | ⟨j, p, R⟩
        · have mn0 : mtS F nf d.2.2.2 rc = none := by
            rcases mtd with q | q
            · unfold mtS; rw [if_pos q]
            · rw [q, hbs]
          refine ⟨by decide, ?_⟩
          rw [if_neg (show ¬ 0 ≤ encB none by decide)]
          exact km_bad post K h30 ⟨by omega, by omega⟩ h5 w.1 hrc (own0 mn0) f5' g53 g54
        · obtain ⟨b1, bc, -⟩ := bestS_bd _ j p R hbs
          have hF := hB.2 j b1.1 (by omega)
          obtain ⟨c1, c2, c3, c4⟩ := candS_ok hF.1 okr bc
          have ia := inst_all hF.1 c2
          have np := hF.1.1
          rcases hz : instS (F j) 0 R with - | z
          · exact absurd hz (ia 0 (by decide) (by omega))
          have mtz : mtS F nf d.2.2.2 rc = some (j, R, z) := by
            rcases mtd with q | q
            · exfalso; omega
            · rw [q, hbs]
              simp only
              rw [hz]
          have v5' := v5 j p R hbs
          have rj := hF.1.2.1
          rw [show encB (some (j, p, R)) = j from rfl]
          refine ⟨by constructor <;> omega, ?_⟩
          rw [if_pos b1.1]
          rintro m6 rfl
          have x6 : FXM (up m5 597 k j) j (F j) := hF.2.fr (fun c' i z => by rw [up_ne (by omega)]; exact f5' c' i (by omega) (by omega) (by omega) (by omega))
          rw [x6.2.2.1]
          refine ⟨by omega, by constructor <;> omega, ?_⟩
          rintro m7 rfl m8 rfl m9 rfl
          have u81 : up m5 597 k j 582 81 = m5 582 81 := up_ne (by omega)
          rw [u81]
          obtain ⟨B, hBv⟩ : ∃ B, B = (if (F j).2.2.1 ≤ 0 then (-9 : Int) else m5 582 81) := ⟨_, rfl⟩
          rw [← hBv]
          have u82 : up (up m5 597 k j) 601 k B 582 82 = m5 582 82 := by rw [up_ne (by omega), up_ne (by omega)]
          rw [u82]
          have u83 : up (up (up m5 597 k j) 601 k B) 602 k (m5 582 82) 582 83 = m5 582 83 := by rw [up_ne (by omega), up_ne (by omega), up_ne (by omega)]
          rw [u83]
          obtain ⟨m9, hm9⟩ : ∃ m9, m9 = up (up (up (up m5 597 k j) 601 k B) 602 k (m5 582 82)) 603 k (m5 582 83) := ⟨_, rfl⟩
          rw [← hm9]
          have g9 : ∀ c' i, ¬ ((c' = 597 ∨ c' = 601 ∨ c' = 602 ∨ c' = 603) ∧ i = k) → m9 c' i = m5 c' i := fun c' i z => by rw [hm9, up_ne (fun q => z ⟨by omega, q.2⟩), up_ne (fun q => z ⟨by omega, q.2⟩), up_ne (fun q => z ⟨by omega, q.2⟩), up_ne (fun q => z ⟨by omega, q.2⟩)]
          have f9 : FJm k (k + 1) sp m2 m9 := fun c' i z1 z2 z3 z4 => by rw [g9 c' i (fun z => z1 ⟨by omega, by omega, by omega⟩)]; exact f5' c' i z1 z2 z3 z4
          have w97 : m9 597 k = j := by rw [hm9, up_ne (by omega), up_ne (by omega), up_ne (by omega), up_at]
          have w01 : m9 601 k = B := by rw [hm9, up_ne (by omega), up_ne (by omega), up_at]
          have w02 : m9 602 k = m5 582 82 := by rw [hm9, up_ne (by omega), up_at]
          have w03 : m9 603 k = m5 582 83 := by rw [hm9, up_at]
          have eB : ∀ r, R = some r → B = bM r.1 ∧ m5 582 82 = r.2.1 ∧ m5 582 83 = r.2.2 := by
            intro r hr
            have ru : ¬ (F j).2.2.1 ≤ 0 := by
              rcases c2 with q | q
              · rw [q.1] at hr; cases hr
              · intro q0
                have r0 : (F j).2.2.1 = 0 := by omega
                unfold candS at bc
                rw [if_neg (by omega), if_pos r0] at bc
                split at bc
                · cases bc
                · cases bc; cases hr
            rw [hBv, if_neg ru]
            exact v5' r hr
          have rn9 : RN m9 k R := by
            rcases R with - | r
            · show m9 601 k = -9
              have r0 : (F j).2.2.1 = 0 := by
                rcases c2 with q | q
                · exact q.2
                · exact absurd rfl q.2
              rw [w01, hBv, if_pos (by omega)]
            · obtain ⟨y1, y2, y3⟩ := eB r rfl
              exact ⟨w01.trans y1, w02.trans y2, w03.trans y3⟩
          rw [w01, g9 582 82 (by omega), g9 582 83 (by omega)]
          have x9 : FXM m9 j (F j) := hF.2.fr (fun c' i z => f9 c' i (by omega) (by omega) (by omega) (by omega))
          refine c_instanceM (R := R) (by omega) hF.1 x9 ⟨by decide, by omega⟩ c3 (fun q => by rcases c2 with y | y; exact y.2; exact absurd q y.2) eB (fun m10 g10 gg10 v10 => ?_)
          rw [show (-1 : Int) + 1 = 0 by decide] at v10 ⊢
          obtain ⟨v1, v2, v3⟩ := v10 z hz
          rw [hz, show isSm (some z) = 1 from rfl]
          refine ⟨by decide, ?_⟩
          rw [if_neg (by decide), v1, v2, v3]
          refine c_setRingM kb (fun m11 f11 a b c' => ?_)
          have h11 : ∀ c'', 596 ≤ c'' → c'' ≤ 603 → c'' ≠ 598 → c'' ≠ 599 → c'' ≠ 600 → m11 c'' k = m9 c'' k := fun c'' _ _ _ _ _ => by rw [f11 _ _ (by omega), gg10 _ _ (by omega)]
          refine km_good post K h30 h5 hrc (own1 _ _ _ mtz) (fun c'' i z1 z2 z3 z4 => by rw [f11 c'' i (fun z => z1 ⟨by omega, by omega, by omega⟩), gg10 c'' i (fun z => z2 ⟨z.1, by omega⟩)]; exact f9 c'' i z1 z2 z3 z4) (by rw [f11 _ _ (by omega), gg10 _ _ (by omega), g9 _ _ (by omega)]; exact g53) (by rw [f11 _ _ (by omega), gg10 _ _ (by omega), g9 _ _ (by omega)]; exact g54) ⟨a, b, c'⟩ ⟨fun q => by omega, fun q => by omega, fun _ rc' f' R' z' y1 y2 => ?_, fun q => by omega⟩
          rw [hrc] at y1
          cases y1
          rw [mt, mtz] at y2
          cases y2
          refine ⟨by rw [h11 597 (by decide) (by decide) (by decide) (by decide) (by decide)]; exact w97, ?_⟩
          rcases R with - | r
          · show m11 601 k = -9
            rw [h11 601 (by decide) (by decide) (by decide) (by decide) (by decide)]
            exact rn9
          · exact ⟨by rw [h11 601 (by decide) (by decide) (by decide) (by decide) (by decide)]; exact rn9.1, by rw [h11 602 (by decide) (by decide) (by decide) (by decide) (by decide)]; exact rn9.2.1, by rw [h11 603 (by decide) (by decide) (by decide) (by decide) (by decide)]; exact rn9.2.2⟩
      -- the row of rings
      have f30 : FJm k (k + 1) sp m2 (up m2 582 73 (lenT c : Int)) := fun c' i _ z2 _ _ => up_ne (fun q => z2 ⟨q.1, by omega⟩)
      have e391 : up m2 582 73 (lenT c : Int) 591 k = m2 591 k := up_ne (by omega)
      rw [e391]
      refine ⟨kb, ?_⟩
      have lr : (rc.length : Int) = (lenT c : Int) := by rw [rcl, csl]
      have L : ∀ (cs' : List Int) (q : Nat) (i : Int) (m4 : MM), (∀ j, cs'[j]? = cs[q + j]?) → (q + cs'.length = cs.length) → ITM m2 i cs' → FJm k (k + 1) sp m2 m4 → m4 582 13 = m2 582 13 → m4 582 14 = m2 582 14 → m4 582 73 = (rc.length : Int) → (rc.length ≤ 3 → ∀ (j : Nat) (x : R3), j < q → rc[j]? = some x → r3M m4 632 633 634 (j : Int) x) → P_X10_judgeCall_182 (R_X10_judge dep) Q T (cs'.length + 1) k (lenT c : Int) nf (q : Int) i m4 := by
        intro cs'
        induction cs' with
        | nil =>
          intro q i m4 hcs hq hI' f4 g3 g4 h73 hrow
          have i1 : i = -1 := hI'
          refine ⟨by rw [i1]; decide, ?_⟩
          rw [if_pos (by rw [i1]; decide)]
          refine l264 m4 f4 g3 g4 h73 (fun r3 => ?_)
          have q' : q = rc.length := by rw [rcl]; simp at hq; omega
          have RR : ∀ (l pre : List R3), rc = pre ++ l → rowM m4 (pre.length : Int) l := by
            intro l
            induction l with
            | nil => intro pre _; trivial
            | cons y l ihl =>
              intro pre hp
              have gi : rc[pre.length]? = some y := by rw [hp]; simp
              have lt : pre.length < q := by rw [q', hp]; simp
              refine ⟨hrow r3 pre.length y lt gi, okr y (by rw [hp]; simp), ?_⟩
              have := ihl (pre ++ [y]) (by rw [hp]; simp)
              rw [show (((pre ++ [y]).length : Nat) : Int) = (pre.length : Int) + 1 by simp] at this
              exact this
          exact RR rc [] rfl
        | cons k' cs' ih =>
          intro q i m4 hcs hq hI' f4 g3 g4 h73 hrow
          obtain ⟨i0, i1, i2''⟩ := hI'
          have hq' : q + (cs'.length + 1) = cs.length := hq
          refine ⟨by constructor <;> omega, ?_⟩
          rw [if_neg (by omega)]
          refine ⟨by constructor <;> omega, ?_⟩
          by_cases m3' : 3 < (lenT c : Int)
          · rw [if_pos m3']
            exact l264 m4 f4 g3 g4 h73 (fun r3 => by exfalso; omega)
          · rw [if_neg m3']
            have gk : cs[q]? = some k' := by have := hcs 0; simp at this; exact this.symm
            obtain ⟨x, hx⟩ : ∃ x, rc[q]? = some x := by
              have : q < rc.length := by rw [rcl]; omega
              exact ⟨rc[q], by simp [this]⟩
            obtain ⟨y1, y2, y3⟩ := rcv q k' x gk hx
            have kne : k' ≠ k := by
              have kn' : ∀ (t : TT) {lo hi : Int} {ns : List Int}, TM m2 (AnP m2 e ro) t lo hi ns → ∀ (i : Nat) (v : Int), ns[i]? = some v → lo ≤ v ∧ v < hi := by
                intro t
                induction t with
                | leaf => intro lo hi ns h i v hv; rw [h.1] at hv; simp at hv
                | inner z d u c s ihc ihs =>
                  intro lo hi ns h i v hv
                  obtain ⟨k2, ns2, mid2, rfl, s2, sn, s3⟩ := TM_cons.1 h
                  have sk := sn.lk
                  cases i with
                  | zero => simp at hv; omega
                  | succ i =>
                    simp at hv
                    have := ihs s3 i v hv
                    omega
              have := kn' c T2 q k' gk
              omega
            have e4 : ∀ c', c' = 591 → m4 c' i = m2 c' i := fun c' z => f4.st c' i (by omega)
            have v91 : m4 591 i = k' := by rw [f4.st 591 i (by omega)]; exact i1
            have v94 : m4 594 i = m2 594 i := f4.st 594 i (by omega)
            have v98 : ∀ c', 598 ≤ c' → c' ≤ 600 → m4 c' k' = m2 c' k' := fun c' _ _ => f4 c' k' (by omega) (by omega) (by omega) (by omega)
            rw [v91]
            refine ⟨i0, y3, by omega, ?_⟩
            rintro m5 rfl
            rw [up_ne (show ¬ (591 = 632 ∧ i = (q : Int)) by omega), v91]
            refine ⟨y3, ?_⟩
            rintro m6 rfl
            rw [up_ne (show ¬ (591 = 633 ∧ i = (q : Int)) by omega), up_ne (show ¬ (591 = 632 ∧ i = (q : Int)) by omega), v91]
            refine ⟨y3, ?_⟩
            rintro m7 rfl
            rw [up_ne (show ¬ (594 = 634 ∧ i = (q : Int)) by omega), up_ne (show ¬ (594 = 633 ∧ i = (q : Int)) by omega), up_ne (show ¬ (594 = 632 ∧ i = (q : Int)) by omega), v94]
            rw [up_ne (show ¬ (599 = 632 ∧ k' = (q : Int)) by omega), up_ne (show ¬ (600 = 633 ∧ k' = (q : Int)) by omega), up_ne (show ¬ (600 = 632 ∧ k' = (q : Int)) by omega), v98 598 (by decide) (by decide), v98 599 (by decide) (by decide), v98 600 (by decide) (by decide), y1.1, y1.2.1, y1.2.2]
            obtain ⟨m7, hm7⟩ : ∃ m7, m7 = up (up (up m4 632 (q : Int) (bM x.1)) 633 (q : Int) x.2.1) 634 (q : Int) x.2.2 := ⟨_, rfl⟩
            rw [← hm7]
            have g7 : ∀ c' i', ¬ ((632 ≤ c' ∧ c' ≤ 634) ∧ i' = (q : Int)) → m7 c' i' = m4 c' i' := fun c' i' z => by rw [hm7, up_ne (fun y => z ⟨by omega, y.2⟩), up_ne (fun y => z ⟨by omega, y.2⟩), up_ne (fun y => z ⟨by omega, y.2⟩)]
            have := ih (q + 1) (m2 594 i) m7 (fun j => by have := hcs (j + 1); simp at this; rw [this]; congr 1; omega) (by omega) i2'' (fun c' i' z1 z2 z3 z4 => by rw [g7 c' i' (fun y => z4 y.1)]; exact f4 c' i' z1 z2 z3 z4) (by rw [g7 _ _ (by omega)]; exact g3) (by rw [g7 _ _ (by omega)]; exact g4) (by rw [g7 _ _ (by omega)]; exact h73) (fun r3 j x' hj hx' => ?_)
            · exact this
            · by_cases e' : j = q
              · subst e'
                rw [hx] at hx'
                cases hx'
                exact ⟨by rw [hm7, up_ne (by omega), up_ne (by omega), up_at], by rw [hm7, up_ne (by omega), up_at], by rw [hm7, up_at]⟩
              · exact (hrow r3 j x' (by omega) hx').fr (fun c' z => g7 c' _ (by omega))
      exact ⟨_, L cs 0 (m2 591 k) _ (fun j => by simp) (by simp) I2 f30 (up_ne (by omega)) (up_ne (by omega)) (by rw [up_at, lr]) (fun _ j x hj => by omega)⟩
  -- whether the name is told
  unfold P_X10_judgeCall_70
  rw [hup]
  refine ⟨r61, ?_⟩
  have L1 : knS F nf d.2.2.2 → ∀ (r : Nat) (j : Int), 0 ≤ j → j + r = nf → P_X10_judgeCall_98 (R_X10_judge dep) Q T (r + 1) k x2 (lenT c : Int) nf 1 j m2 := by
    intro yes r
    induction r with
    | zero =>
      intro j j0 j1
      refine ⟨by constructor <;> omega, by constructor <;> omega, ?_⟩
      rw [if_pos (by omega)]
      exact l140 1 (Or.inr ⟨rfl, yes⟩)
    | succ r ih =>
      intro j j0 j1
      refine ⟨by constructor <;> omega, by constructor <;> omega, ?_⟩
      rw [if_neg (by omega)]
      refine ⟨by decide, ?_⟩
      rw [if_neg (by decide)]
      exact ih (j + 1) (by omega) (by omega)
  have L0 : ∀ (r : Nat) (j : Int), 0 ≤ j → j + r = nf → (∀ i, 0 ≤ i → i < j → (F i).1 ≠ d.2.2.2) → P_X10_judgeCall_98 (R_X10_judge dep) Q T (r + 1) k x2 (lenT c : Int) nf 0 j m2 := by
    intro r
    induction r with
    | zero =>
      intro j j0 j1 hj
      refine ⟨by constructor <;> omega, by constructor <;> omega, ?_⟩
      rw [if_pos (by omega)]
      exact l140 0 (Or.inl ⟨rfl, fun ⟨i, i0, i1, i2⟩ => hj i i0 (by omega) i2⟩)
    | succ r ih =>
      intro j j0 j1 hj
      have hF := hB.2 j j0 (by omega)
      refine ⟨by constructor <;> omega, by constructor <;> omega, ?_⟩
      rw [if_neg (by omega)]
      refine ⟨by decide, ?_⟩
      rw [if_pos rfl, hF.2.1, e05]
      refine ⟨by omega, kb, hF.1.2.2.1, hw, ?_⟩
      by_cases cc : (F j).1 = d.2.2.2
      · rw [if_pos cc]
        exact L1 ⟨j, j0, by omega, cc⟩ r (j + 1) (by omega) (by omega)
      · rw [if_neg cc]
        refine ih (j + 1) (by omega) (by omega) (fun i i0 i1 => ?_)
        by_cases e' : i = j
        · rw [e']; exact cc
        · exact hj i i0 (by omega)
  exact ⟨_, L0 nf.toNat 0 (by decide) (by omega) (fun i i0 i1 => by omega)⟩
end CALLM
