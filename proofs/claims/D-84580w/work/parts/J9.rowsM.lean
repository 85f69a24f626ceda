set_option maxRecDepth 100000
/-! the model's parser: rows -/
def RwI (m : MM) (rws : List (List PT)) (nss : List (List Int)) (lo k first last : Int) : Prop := RwG m rws nss lo k first ∧ ((nss = [] ∧ rws = [] ∧ first = -1) ∨ (nss ≠ [] ∧ 0 ≤ first ∧ last = lstR m first nss))
def LrI (tk : Int → TK) (N : Int) (T : MM → Prop) (f : Nat) : Prop := ∀ (dep n : Nat) (p o lo p0 t first last k : Int) (rws : List (List PT)) (nss : List (List Int)) (m0 m : MM) (Q : Int → MM → Prop), 20 * (151 - p) + 15 < f → f ≤ n → 13 * (13 - (o + 1)) + 13 ≤ dep → 10 ≤ dep → PM m tk N p o k → FwM lo m0 m → RwI m rws nss lo k first last → 0 ≤ lo ∧ p0 ≤ p ∧ k ≤ lo + 2 * (p - p0) ∧ lo + 2 * (150 - p0) ≤ 11900 → (∀ rs q, pS tk f 22 acc0 p o = .ok (rs, q) → ∀ first' m' k' nss', PM m' tk N q o k' → FwM lo m0 m' → RwG m' (rws ++ rs) nss' lo k' first' → 1 ≤ nss'.length → k' ≤ lo + 2 * (q - p0) → P_X10_readAtom_350 (R_X10_readE dep) Q T t first' m') → (∀ e, pS tk f 22 acc0 p o = .error e → ∀ r m' q k', PF m' e q o k' → FwM lo m0 m' → p0 ≤ q → lo ≤ k' → k' ≤ lo + 2 * (q - p0) + 2 → P_X10_readAtom_350 (R_X10_readE dep) Q T t r m') → P_X10_readAtom_271 (R_X10_readE dep) Q T n t first last 1 m
section ROWSM
variable {T : MM → Prop} {tk : Int → TK} {N : Int} {f dep n : Nat} {m0 m m' : MM} {p o lo hi p0 x k k0 w r t first last : Int} {a : PT} {Q K : Int → MM → Prop} {e : Int × Int} {q : Int}
theorem ChG.low {lo' i : Int} {ps : List PT} {ns : List Int} (h : ChG m ps ns lo hi i) (l0 : 0 ≤ lo') (l1 : lo' ≤ lo) : ChG m ps ns lo' hi i := by
  cases ps with
  | nil => cases ns with
    | nil => exact ⟨h.1, by have := h.2; omega⟩
    | cons _ _ => exact h.elim
  | cons b bs => cases ns with
    | nil => exact h.elim
    | cons n0 ns0 =>
      obtain ⟨h', u, u1, u2, u3⟩ := h
      have ur := u.rng
      exact ⟨h', u.fr AgM.refl l0 l1 (Int.le_refl _) ur.2.2.2, u1, u2, u3⟩
theorem RwI.rg {rws : List (List PT)} {nss : List (List Int)} (h : RwI m rws nss lo k first last) (l0 : 0 ≤ lo) (kb : k < 12000) : RI first ∧ (0 ≤ first → lo ≤ last ∧ last < k) := by
  rcases h.2 with ⟨-, -, h3⟩ | ⟨a1, a2, a3⟩
  · rw [h3]; exact ⟨by decide, fun z => absurd z (by decide)⟩
  · have lr := h.1.lst a1
    rw [← a3] at lr
    have rwb := h.1.rw
    cases hn : nss with
    | nil => exact absurd hn a1
    | cons c cs =>
      rw [hn] at rwb
      have := rwb.1
      exact ⟨by constructor <;> omega, fun _ => lr⟩
theorem RwI.add {rws : List (List PT)} {nss : List (List Int)} {m1 m2 : MM} {k1 fi : Int} {row : List PT} {ns : List Int} (h : RwI m rws nss lo k first last) (l0 : 0 ≤ lo) (ag : AgM lo k m m1) (t : ChG m1 row ns k k1 fi) (l1 : 1 ≤ ns.length) (kb : k1 < 12000) (f2 : ∀ c i, ¬ (c = 582 ∧ i = 15) → ¬ (590 ≤ c ∧ c ≤ 605 ∧ i = k1) → m2 c i = m1 c i) (e1 : m2 591 k1 = fi) (e4 : m2 594 k1 = -1) : (¬ (0 ≤ first) → RwI m2 (rws ++ [row]) (nss ++ [ns]) lo (k1 + 1) k1 k1) ∧ (0 ≤ first → RwI (up m2 594 last k1) (rws ++ [row]) (nss ++ [ns]) lo (k1 + 1) first k1) := by
  have le := h.1.le
  have le1 := t.le
  have ag2 : AgM lo k m m2 := fun c i z z1 z2 => (f2 c i (by omega) (by omega)).trans (ag c i z z1 z2)
  have t2 : ChG m2 row ns k k1 (m2 591 k1) := by rw [e1]; exact t.fr (Int.le_refl _) (fun c i z z1 z2 => f2 c i (by omega) (by omega))
  obtain ⟨h1, h3⟩ := h
  rcases h3 with ⟨hn, ha, hf⟩ | ⟨hn, hf, hl⟩
  · subst hn ha hf
    exact ⟨fun _ => ⟨⟨t2.low l0 le, by omega, l1, e4, Int.le_refl _⟩, .inr ⟨by simp, by omega, rfl⟩⟩, fun z => absurd z (by decide)⟩
  · have lr := h1.lst hn
    rw [← hl] at lr
    refine ⟨fun z => absurd hf z, fun _ => ?_⟩
    have e591 : up m2 594 last k1 591 k1 = m2 591 k1 := up_ne (by omega)
    have t3 : ChG (up m2 594 last k1) row ns k k1 (up m2 594 last k1 591 k1) := by rw [e591]; exact t2.fr (Int.le_refl _) (fun c i z z1 z2 => up_ne (by omega))
    have w := RwG.app (m := m) (m' := up m2 594 last k1) t3 l1 (by rw [up_ne (by omega)]; exact e4) l0 hn h1 (fun c j z z1 z2 z3 => by rw [up_ne (by rw [← hl] at z3; omega)]; exact ag2 c j z z1 z2) (by rw [← hl]; exact up_at ..)
    exact ⟨w.1, .inr ⟨by simp, hf, w.2.symm⟩⟩
/-- behind a row, with a fault -/
theorem fl_row0 (hn : 1 ≤ n) (hP : PF m e q o k) (kb : k < 12000) (tb : 0 ≤ x ∧ x < 420) (fr : FwM lo m0 m) (hk : lo ≤ k) (rf : RI first) (rl : 0 ≤ first → lo ≤ last ∧ last < 12000) (l0 : 0 ≤ lo) (h0 : ∀ r m', PF m' e q o (k + 1) → FwM lo m0 m' → P_X10_readAtom_350 (R_X10_readE dep) Q T t r m') (r2 : Int) : P_X10_node 27 r2 (-1) (-1) x m (fun r4 m4 => (RI first) ∧ (if 0 ≤ first then (0 ≤ last ∧ last < 12000) ∧ ∀ m5 : MM, m5 = up m4 594 last r4 → P_X10_readAtom_335 (R_X10_readE dep) Q T (fun z0 z1 z2 z3 z4 => P_X10_readAtom_271 (R_X10_readE dep) Q T n z0 z1 z2 z3 z4) t first r4 m5 else P_X10_readAtom_335 (R_X10_readE dep) Q T (fun z0 z1 z2 z3 z4 => P_X10_readAtom_271 (R_X10_readE dep) Q T n z0 z1 z2 z3 z4) t r4 r4 m4)) := by
  obtain ⟨n', rfl⟩ : ∃ n', n = n' + 1 := ⟨n - 1, by omega⟩
  refine f_nodeM hP kb tb fr hk (fun m1 P1 F1 => ⟨rf, ?_⟩)
  have fin : ∀ x3 x8 m2, PF m2 e q o (k + 1) → FwM lo m0 m2 → P_X10_readAtom_335 (R_X10_readE dep) Q T (fun z0 z1 z2 z3 z4 => P_X10_readAtom_271 (R_X10_readE dep) Q T (n' + 1) z0 z1 z2 z3 z4) t x3 x8 m2 := fun x3 x8 m2 P2 F2 => f_takesSign P2 ⟨by decide, by rw [if_pos rfl]; exact h0 x3 m2 P2 F2⟩
  by_cases y : 0 ≤ first
  · rw [if_pos y]
    have := rl y
    refine ⟨by omega, ?_⟩
    rintro m3 rfl
    exact fin _ _ _ (P1.up (by decide)) (F1.nd (by decide) (by omega))
  · rw [if_neg y]; exact fin _ _ _ P1 F1
theorem fl_row1 (hn : 1 ≤ n) (hP : PF m e q o k) (hd : 1 ≤ dep) (ho : 0 ≤ o ∧ o ≤ 12) (kb : k < 12000) (fr : FwM lo m0 m) (hk : lo ≤ k) (rf : RI first) (rl : 0 ≤ first → lo ≤ last ∧ last < 12000) (l0 : 0 ≤ lo) (h0 : ∀ r m', PF m' e q o (k + 1) → FwM lo m0 m' → P_X10_readAtom_350 (R_X10_readE dep) Q T t r m') : P_X10_readAtom_271 (R_X10_readE dep) Q T (n + 1) t first last 1 m := by
  obtain ⟨d, rfl⟩ : ∃ d, dep = d + 1 := ⟨dep - 1, by omega⟩
  have pb := hP.1
  refine ⟨by decide, ?_⟩
  rw [if_neg (by decide), pb.1]
  refine f_openWith hP ho.2 (fun m1 P1 f1 => ?_)
  refine fe_items P1 ?_
  refine f_closeWith P1 ho.1 (fun m2 P2 f2 => ?_)
  exact fl_row0 hn P2 kb (by omega) ((fr.f12 f1).f12 f2) hk rf rl l0 h0 (-1)
theorem c_lrI (hM : LiI tk N T f) (hL : LrI tk N T f) : LrI tk N T (f + 1) := by
  intro dep n p o lo p0 t first last k rws nss m0 m Q hf hn hd hd10 hP fr hC hs h1 h0
  obtain ⟨n', rfl⟩ : ∃ n', n = n' + 1 := ⟨n - 1, by omega⟩
  obtain ⟨d, rfl⟩ : ∃ d, dep = d + 1 := ⟨dep - 1, by omega⟩
  have ob := hP.2.2.2.1.2
  have pb := hP.2.1
  have le := hC.1.le
  obtain ⟨n2, hn2⟩ : ∃ n2, n' = n2 + 1 := ⟨n' - 1, by omega⟩
  have rg := hC.rg hs.1 (by omega)
  have rl : 0 ≤ first → lo ≤ last ∧ last < 12000 := fun z => by have := rg.2 z; omega
  have E := rw_eq (tk := tk) (f := f) (p := p) (o := o)
  refine ⟨by decide, ?_⟩
  rw [if_neg (by decide), pb.1]
  refine c_openWithM (c := 91) rfl (by decide) (by decide) hP (fun m1 a1 P1 f1 => ?_) (fun e m1 q a1 P1 hq f1 => ?_)
  · rw [a1] at E
    have E1 : pS tk (f + 1) 22 acc0 p o = (pS tk f 20 acc0 (p + 1) (o + 1) >>= fun x => ndS tk 93 x.2 >>= fun q2 => if isSg tk 44 q2 then (goS tk q2 >>= fun q3 => pS tk f 22 acc0 q3 o >>= fun y => .ok (fstR x.1 :: y.1, y.2)) else .ok ([fstR x.1], q2)) := E
    clear E
    have F1 := fr.f12 f1
    refine c_itemsM hM (by omega) (by omega) P1 (by omega) (fun ra qa ha fi m2 k2 ns P2 F2 C2 l2 n2' => ?_) (fun e z r2 m2 q k2 P2 F2 hq k2a k2b => ?_)
    · have la := (pS_lt ha).2 (by omega)
      rw [ha] at E1
      have E2 : pS tk (f + 1) 22 acc0 p o = (ndS tk 93 qa >>= fun q2 => if isSg tk 44 q2 then (goS tk q2 >>= fun q3 => pS tk f 22 acc0 q3 o >>= fun y => .ok (fstR ra :: y.1, y.2)) else .ok ([fstR ra], q2)) := E1
      clear E1
      have le2 := C2.le
      have pq := P2.2.1
      have F2' := F1.trans F2 le
      refine c_closeWithM (c := 93) rfl (by decide) (by decide) P2 ob.1 (fun m3 a3 P3 f3 => ?_) (fun e m3 a3 P3 f3 => ?_)
      · rw [a3] at E2
        have E3 : pS tk (f + 1) 22 acc0 p o = (if isSg tk 44 (qa + 1) then (goS tk (qa + 1) >>= fun q3 => pS tk f 22 acc0 q3 o >>= fun y => .ok (fstR ra :: y.1, y.2)) else .ok ([fstR ra], qa + 1)) := E2
        clear E2
        refine c_nodeM P3.2.2.2.2.1 ⟨by omega, by omega⟩ (by omega) (fun m4 f4 e15 e590 e591 e592 e593 e594 e595 e597 e605 => ⟨rg.1, ?_⟩)
        have ad := hC.add hs.1 (m1 := m3) (fun c i z z1 z2 => by rw [f3 c i (by omega), F2 c i (by omega) (by omega), f1 c i (by omega)]) (C2.fr (Int.le_refl _) f3.agm) l2 (by omega) f4 e591 e594
        have P4 := P3.nd f4 e15
        have F4 : FwM lo m0 m4 := (F2'.f12 f3).ad (by omega) f4
        have st : ∀ x3 m5, PM m5 tk N (qa + 1) o (k2 + 1) → FwM lo m0 m5 → RwI m5 (rws ++ [fstR ra]) (nss ++ [ns]) lo (k2 + 1) x3 k2 → P_X10_readAtom_335 (R_X10_readE (d + 1)) Q T (fun z0 z1 z2 z3 z4 => P_X10_readAtom_271 (R_X10_readE (d + 1)) Q T n' z0 z1 z2 z3 z4) t x3 k2 m5 := by
          intro x3 m5 P5 F5 C5
          have rg5 := C5.rg hs.1 (by omega)
          refine c_takesSignM (c := 44) rfl (by decide) (by decide) P5 (fun m6 y g P6 f6 => ?_) (fun y => ?_) (fun e m6 y g P6 f6 => ?_)
          · have E4 : pS tk (f + 1) 22 acc0 p o = (pS tk f 22 acc0 (qa + 1 + 1) o >>= fun y => .ok (fstR ra :: y.1, y.2)) := by rw [E3, if_pos y, g]; rfl
            have C6 : RwI m6 (rws ++ [fstR ra]) (nss ++ [ns]) lo (k2 + 1) x3 k2 := by
              refine ⟨C5.1.fr (Int.le_refl _) f6.agm, ?_⟩
              rcases C5.2 with h | ⟨b1, b2, b3⟩
              · exact .inl h
              · refine .inr ⟨b1, b2, ?_⟩
                have : ∀ (l : List (List Int)) (i : Int), lstR m6 i l = lstR m5 i l := by
                  intro l
                  induction l with
                  | nil => intro i; rfl
                  | cons c cs ih => intro i; cases cs with
                    | nil => rfl
                    | cons c' cs =>
                      show lstR m6 (m6 594 i) (c' :: cs) = lstR m5 (m5 594 i) (c' :: cs)
                      rw [f6 594 i (by omega)]; exact ih _
                rw [this]; exact b3
            refine hL (d + 1) n' (qa + 1 + 1) o lo p0 t x3 k2 (k2 + 1) (rws ++ [fstR ra]) (nss ++ [ns]) m0 m6 Q (by omega) (by omega) hd hd10 P6 (F5.f11 f6) C6 (by omega) (fun rs q z first' m' k' nss' P' F' C' l' nn' => h1 (fstR ra :: rs) q (by rw [E4, z]; rfl) first' m' k' nss' P' F' ?_ l' nn') (fun e z => h0 e (by rw [E4, z]; rfl))
            rw [List.append_assoc] at C'
            exact C'
          · show P_X10_readAtom_271 (R_X10_readE (d + 1)) Q T n' t x3 k2 0 m5
            rw [hn2]
            refine ⟨by decide, ?_⟩
            rw [if_pos rfl]
            exact h1 [fstR ra] (qa + 1) (by rw [E3, if_neg y]) x3 m5 (k2 + 1) (nss ++ [ns]) P5 F5 C5.1 (by simp) (by omega)
          · show P_X10_readAtom_271 (R_X10_readE (d + 1)) Q T n' t x3 k2 1 m6
            rw [hn2]
            exact fl_row1 (by omega) P6 (by omega) (by omega) (by omega) (F5.f11 f6) (by omega) rg5.1 (fun z => by have := rg5.2 z; omega) hs.1 (fun r' m' P' F' => h0 e (by rw [E3, if_pos y, g]; rfl) r' m' (qa + 1) (k2 + 1 + 1) P' F' (by omega) (by omega) (by omega))
        by_cases y : 0 ≤ first
        · rw [if_pos y]
          have := rl y
          refine ⟨by omega, ?_⟩
          rintro m5 rfl
          exact st first _ (P4.up (by decide)) (F4.nd (by decide) (by omega)) (ad.2 y)
        · rw [if_neg y]; exact st k2 m4 P4 F4 (ad.1 y)
      · exact fl_row0 (by omega) P3 (by omega) (by omega) (F2'.f12 f3) (by omega) rg.1 rl hs.1 (fun r' m' P' F' => h0 e (by rw [E2, a3]; rfl) r' m' qa (k2 + 1) P' F' (by omega) (by omega) (by omega)) fi
    · have pq := P2.1
      refine f_closeWith P2 ob.1 (fun m3 P3 f3 => ?_)
      exact fl_row0 (by omega) P3 (by omega) (by omega) ((F1.trans F2 le).f12 f3) (by omega) rg.1 rl hs.1 (fun r' m' P' F' => h0 e (by rw [E1, z]; rfl) r' m' q (k2 + 1) P' F' (by omega) (by omega) (by omega)) r2
  · have pq := P1.1
    refine fe_items P1 ?_
    refine f_closeWith P1 ob.1 (fun m2 P2 f2 => ?_)
    exact fl_row0 (by omega) P2 (by omega) (by omega) ((fr.f12 f1).f12 f2) le rg.1 rl hs.1 (fun r' m' P' F' => h0 e (by rw [E, a1]; rfl) r' m' q (k + 1) P' F' (by omega) (by omega) (by omega)) (-1)
end ROWSM
