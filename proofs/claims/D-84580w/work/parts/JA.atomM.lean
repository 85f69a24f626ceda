set_option maxRecDepth 100000
/-! the model's parser: atoms -/
section ATOMM
variable {T : MM → Prop} {tk : Int → TK} {N : Int} {f dep n : Nat} {m0 m m' : MM} {p o lo hi p0 x k k0 w r t first last : Int} {a : PT} {Q K : Int → MM → Prop} {e : Int × Int} {q : Int} {d : ND}
theorem kM_le {k : Int} (h : k ≤ 8) : kM k = k := by unfold kM; rw [if_pos h]
theorem LKb.no {lo hi : Int} {cs : List Int} (hd : 0 ≤ d.1 ∧ d.1 ≤ 4) : LKb m lo hi d k cs := by
  refine ⟨fun z => ?_, fun z => ?_, fun z => ?_, fun z => ?_, fun z => ?_, fun z => ?_, fun z => ?_, fun z => ?_, fun z => ?_⟩
  all_goals (exfalso; omega)
theorem TNB.lf (hd : 0 ≤ d.1 ∧ d.1 ≤ 4) (kb : 0 ≤ k ∧ k < 12000) (e0 : m 590 k = d.1) (e5 : m 595 k = d.2.1) (e6 : d.1 = 0 ∨ d.1 = 3 → m 605 k = d.2.2.1) (e7 : d.1 = 4 → m 605 k = d.2.2.2) : TNB m (d, lf) k (k + 1) k := by
  have hN : NM m d k := by
    refine ⟨fun _ => by rw [e0, kM_le (by omega)], e5, fun z => e6 (by omega), fun z => e7 (by omega), fun z => ?_, fun z => ?_, fun z => ?_⟩
    all_goals (exfalso; omega)
  exact ⟨k + 1, k + 1, [], by omega, hN, LKb.no hd, rfl, Int.le_refl _⟩
theorem TNB.call {ps : List PT} {ns : List Int} (h : ChG m ps ns lo k first) (l0 : 0 ≤ lo) (kb : k < 12000) (hd : d.1 = 5 ∨ d.1 = 6) (f : ∀ c i, ¬ (c = 582 ∧ i = 15) → ¬ (590 ≤ c ∧ c ≤ 605 ∧ i = k) → m' c i = m c i) (e0 : m' 590 k = d.1) (e1 : m' 591 k = first) (e5 : m' 595 k = d.2.1) (e6 : d.1 = 5 → m' 605 k = d.2.2.2) (e7 : d.1 = 6 → m' 605 k = bfn d.2.2.1) : TNB m' (d, chT ps) lo (k + 1) k := by
  have le := h.le
  have h' : ChG m' ps ns lo k first := h.fr (Int.le_refl _) (fun c i z z1 z2 => f c i (by omega) (by omega))
  have hN : NM m' d k := by
    refine ⟨fun _ => by rw [e0, kM_le (by omega)], e5, fun z => ?_, fun z => e6 (by omega), fun z => e7 z, fun z => ?_, fun z => ?_⟩
    all_goals (exfalso; omega)
  have hL : LKb m' lo (k + 1) d k ns := by
    refine ⟨fun _ => by rw [e1]; exact (h'.fr (by omega) AgM.refl).it, fun z => ?_, fun z => ?_, fun z => ?_, fun z => ?_, fun z => ?_, fun z => ?_, fun z => ?_, fun z => ?_⟩
    all_goals (exfalso; omega)
  exact ⟨lo, k, ns, by omega, hN, hL, h'.tb (by omega)⟩
theorem all_len {α β : Type} : ∀ {nss : List (List α)} {rs : List (List β)} (n : Nat), nss.map List.length = rs.map List.length → ((∀ r, r ∈ nss → r.length = n) ↔ (∀ r, r ∈ rs → r.length = n)) := by
  intro nss
  induction nss with
  | nil => intro rs n h; cases rs with
    | nil => exact ⟨fun _ r hr => (by cases hr), fun _ r hr => (by cases hr)⟩
    | cons _ _ => cases h
  | cons a nss ih => intro rs n h; cases rs with
    | nil => cases h
    | cons b rs =>
      rw [List.map_cons, List.map_cons] at h
      injection h with h1 h2
      have w := ih n h2
      constructor
      · intro g r hr
        rcases List.mem_cons.1 hr with rfl | hr
        · rw [← h1]; exact g a (by simp)
        · exact w.1 (fun r hr => g r (List.mem_cons_of_mem _ hr)) r hr
      · intro g r hr
        rcases List.mem_cons.1 hr with rfl | hr
        · rw [h1]; exact g b (by simp)
        · exact w.2 (fun r hr => g r (List.mem_cons_of_mem _ hr)) r hr
theorem rowsN_len {nss : List (List Int)} {rs : List (List PT)} (h : nss.map List.length = rs.map List.length) : rowsN rs = (if (∀ r, r ∈ nss → r.length = nss.length) ∧ nss.length ≤ 3 then (nss.length : Int) else 0) := by
  have l : nss.length = rs.length := by
    have := congrArg List.length h
    rw [List.length_map, List.length_map] at this
    exact this
  unfold rowsN
  rw [l]
  have w := all_len rs.length h
  by_cases c : (∀ r, r ∈ rs → r.length = rs.length) ∧ rs.length ≤ 3
  · rw [if_pos c, if_pos ⟨w.2 c.1, c.2⟩]
  · rw [if_neg c, if_neg (fun z => c ⟨w.1 z.1, z.2⟩)]
theorem TNB.mat {rs : List (List PT)} {nss : List (List Int)} (h : RwG m rs nss lo k first) (l1 : 1 ≤ nss.length) (l0 : 0 ≤ lo) (kb : k < 12000) (f : ∀ c i, ¬ (c = 582 ∧ i = 15) → ¬ (590 ≤ c ∧ c ≤ 605 ∧ i = k) → m' c i = m c i) (e0 : m' 590 k = 7) (e1 : m' 591 k = first) (e5 : m' 595 k = w) : TNB m' ((7, w, rowsN rs, 0), chT rs.flatten) lo (k + 1) k := by
  have le := h.le
  have h' : RwG m' rs nss lo k first := h.fr (Int.le_refl _) (fun c i z z1 z2 => f c i (by omega) (by omega))
  refine ⟨lo, k, nss.flatten, by omega, ⟨fun _ => by rw [e0]; rfl, e5, fun z => ?_, fun z => ?_, fun z => ?_, fun z => ?_, fun z => ?_⟩, ⟨fun z => ?_, fun _ => ⟨nss, ?_, rfl, rowsN_len h.lens, l1⟩, fun z => ?_, fun z => ?_, fun z => ?_, fun z => ?_, fun z => ?_, fun z => ?_, fun z => ?_⟩, h'.tb (by omega) l0⟩
  all_goals first
    | (rw [e1]; exact (h'.fr (by omega) AgM.refl).rw)
    | (exfalso; simp [fstP] at z)
/-- a matrix's end -/
theorem f_350 (hP : PF m e q (o + 1) k) (o0 : 0 ≤ o) (tb : 0 ≤ t ∧ t < 420) (kb : k < 12000) (fr : FwM k0 m0 m) (hk : k0 ≤ k) (h0 : ∀ r m', PF m' e q o (k + 1) → FwM k0 m0 m' → Q r m') (r : Int) {rec : Nat → List Int → MM → (Int → MM → Prop) → (MM → Prop) → Prop} : P_X10_readAtom_350 rec Q T t r m := by
  refine f_closeWith hP o0 (fun m1 P1 f1 => ?_)
  exact f_nodeM P1 kb tb (fr.f12 f1) hk (fun m2 P2 F2 => h0 k m2 P2 F2)
theorem f_163 {x2 : Int} (hP : PF m e q o k) (rx : RI x2) (ho : 0 ≤ o ∧ o ≤ 12) (tb : 0 ≤ t ∧ t < 420) (kb : k < 12000) (fr : FwM k0 m0 m) (hk : k0 ≤ k) (h0 : ∀ r m', PF m' e q o (k + 1) → FwM k0 m0 m' → Q r m') : P_X10_readAtom_163 (R_X10_readE (dep + 1)) Q T t x2 m := by
  refine f_openWith hP ho.2 (fun m1 P1 f1 => ?_)
  refine fe_items P1 ?_
  refine f_closeWith P1 ho.1 (fun m2 P2 f2 => ⟨rx, ?_⟩)
  exact f_nodeM P2 kb tb ((fr.f12 f1).f12 f2) hk (fun m3 P3 F3 => h0 k m3 P3 F3)
/-- a call's items in brackets -/
theorem c_163 {x2 : Int} (hM : LiI tk N T f) (hf : 20 * (151 - (p + 1)) + 14 < f) (hd : 13 * (13 - (o + 1)) + 13 ≤ dep + 1) (hP : PM m tk N p o k0) (t0 : 0 ≤ t ∧ t < p) (t5 : m 588 t = plS tk t) (hb : k0 + 2 * (150 - t) ≤ 11900) (fr : FwM k0 m0 m) (hx : x2 = 1 ∧ d.1 = 5 ∨ x2 = 3 ∧ d.1 = 6) (hd5 : d.2.1 = plS tk t) (e6 : d.1 = 5 → m 589 t = d.2.2.2) (e7 : d.1 = 6 → m 589 t = bfn d.2.2.1)
    (h1 : ∀ rs q, noS tk 40 p o = .ok (p + 1) → pS tk f 20 acc0 (p + 1) (o + 1) = .ok (rs, q) → ndS tk 41 q = .ok (q + 1) → ∀ r m' k', PM m' tk N (q + 1) o k' → FwM k0 m0 m' → TNB m' (d, chT (fstR rs)) k0 k' r → k' ≤ k0 + 2 * (q + 1 - t) → Q r m')
    (e1 : ∀ e, noS tk 40 p o = .error e → EmEr k0 t Q m0 o e) (e2 : ∀ e, noS tk 40 p o = .ok (p + 1) → pS tk f 20 acc0 (p + 1) (o + 1) = .error e → EmEr k0 t Q m0 o e)
    (e3 : ∀ rs q e, noS tk 40 p o = .ok (p + 1) → pS tk f 20 acc0 (p + 1) (o + 1) = .ok (rs, q) → ndS tk 41 q = .error e → EmEr k0 t Q m0 o e) : P_X10_readAtom_163 (R_X10_readE (dep + 1)) Q T t x2 m := by
  have ob := hP.2.2.2.1.2
  have pb := hP.2.1
  have kb := hP.2.2.2.2
  have rx : RI x2 := by constructor <;> omega
  have ke : (if x2 = 1 then (5 : Int) else 6) = d.1 := by
    by_cases y : x2 = 1
    · rw [if_pos y]; omega
    · rw [if_neg y]; omega
  refine c_openWithM (c := 40) rfl (by decide) (by decide) hP (fun m1 a1 P1 f1 => ?_) (fun e m1 q a1 P1 hq f1 => ?_)
  · have F1 := fr.f12 f1
    refine c_itemsM hM hf hd P1 (by omega) (fun rs q hq fi m2 k2 ns P2 F2 C2 l2 n2 => ?_) (fun e z r2 m2 q k2 P2 F2 hq k2a k2b => ?_)
    · have la := (pS_lt hq).1
      have le := C2.le
      have pq := P2.2.1
      have F2' := F1.trans F2 (Int.le_refl _)
      refine c_closeWithM (c := 41) rfl (by decide) (by decide) P2 ob.1 (fun m3 a3 P3 f3 => ⟨rx, ?_⟩) (fun e m3 a3 P3 f3 => ⟨rx, ?_⟩)
      · have g3 : ∀ c, c = 588 ∨ c = 589 → m3 c t = m c t := fun c z => by rw [f3 _ _ (by omega), F2 _ _ (by omega) (by omega), f1 _ _ (by omega)]
        refine c_nodeM P3.2.2.2.2.1 ⟨by omega, by omega⟩ (by omega) (fun m4 f4 e15 e590 e591 e592 e593 e594 e595 e597 e605 => ?_)
        rw [ke] at e590
        rw [g3 _ (by decide)] at e595 e605
        exact h1 rs q a1 hq a3 k2 m4 (k2 + 1) (P3.nd f4 e15) ((F2'.f12 f3).ad (by omega) f4) (TNB.call (C2.fr (Int.le_refl _) f3.agm) kb.2 (by omega) (by omega) f4 e590 e591 (by rw [e595, t5, hd5]) (fun z => by rw [e605]; exact e6 z) (fun z => by rw [e605]; exact e7 z)) (by omega)
      · exact f_nodeM P3 (by omega) (by omega) (F2'.f12 f3) (by omega) (fun m4 P4 F4 => e3 rs q e a1 hq a3 k2 m4 q (k2 + 1) P4 F4 (by omega) (by omega) (by omega))
    · have pq := P2.1
      refine f_closeWith P2 ob.1 (fun m3 P3 f3 => ⟨rx, ?_⟩)
      exact f_nodeM P3 (by omega) (by omega) ((F1.trans F2 (Int.le_refl _)).f12 f3) (by omega) (fun m4 P4 F4 => e2 e a1 z k2 m4 q (k2 + 1) P4 F4 (by omega) (by omega) (by omega))
  · have pq := P1.1
    refine fe_items P1 ?_
    refine f_closeWith P1 ob.1 (fun m2 P2 f2 => ⟨rx, ?_⟩)
    exact f_nodeM P2 (by omega) (by omega) ((fr.f12 f1).f12 f2) (Int.le_refl _) (fun m3 P3 F3 => e1 e a1 k0 m3 q (k0 + 1) P3 F3 (by omega) (by omega) (by omega))
end ATOMM
