set_option maxRecDepth 100000
/-! what parts come to: values are of their rings, whole -/
section EVW
variable {F : Int → FnR} {n : Int} {E : EVm}
/-- a function that is called -/
theorem EvO.callee {w : Int} {rc : List R3} {f : Int} {R : Option R3} {z : R3} {g : Nat → VV} {cd : Int} (h : EvO F n E) (hr : ∀ x, x ∈ rc → ok3 x) (hB : ∀ x, x ∈ rc → Bse E.1.2.2.2.2 x.1) (hc : E.1.2.2.2.1 w rc = some (f, R, z)) (hg : ∀ (i : Nat), (i : Int) < (F f).2.1 → ∀ y, instS (F f) ((i : Int) + 1) R = some y → VR E.2.1 y (g i)) : EvO F n (JEf F f (nrmR R), ownM E.2.1 R, cd, (fun i => g i.toNat), E.2.2.2.2) ∧ ∃ x' z', rgS (JEf F f (nrmR R)) (rootF (F f)).1 (rootF (F f)).2 = some x' ∧ instS (F f) 0 (nrmR R) = some z' ∧ gs x' z' ∧ ok3 z ∧ ∀ V, VR (ownM E.2.1 R) z' V → VR E.2.1 z V := by
  obtain ⟨n', hn', ec⟩ := h.call
  rw [ec] at hc
  have hF := h.1.1
  obtain ⟨m1, m2, m3, m4, m5, m6, m7, m8, m9⟩ := mtS_ok hn'.1 (fun k k0 k1 => (hF k k0 (by omega)).1) hr hc
  have Bz := mtS_base (hF.le hn'.2) hB hc
  have Ff := hF f m2.1 (by omega)
  have body := (h.1.2 f m2.1 (by omega)).2
  have moR : ∀ r, R = some r → okMo r.1 E.2.1 := fun r hr' => h.mo (Bz.2 r hr')
  have canR : ∀ r, R = some r → canS (F f) r := by
    intro r hr'
    rcases m5 with ⟨e, -⟩ | ⟨e, -⟩
    · rw [e] at hr'; cases hr'
    · rw [e] at hr'; exact foundS_can hr'
  have hb0 : nrmR R = none → (F f).2.2.1 = 0 := by
    intro e
    rcases m5 with ⟨-, e0⟩ | ⟨-, e0⟩
    · exact e0
    · exfalso
      cases hR : R with
      | none => exact e0 hR
      | some r =>
        obtain ⟨r', a1, -⟩ := nrm_cs hR (m6 r hR).1 (m6 r hR).2
        rw [e] at a1; cases a1
  have hb1 : ∀ r', nrmR R = some r' → ∃ r, R = some r ∧ ok3 r' ∧ r'.1 ≠ -2 ∧ (r'.1 = 0 ∨ r'.1 = 1 ∨ r'.1 = 20000 ∨ r'.1 = 20001) ∧ canS (F f) r' ∧ okMo r'.1 (ownM E.2.1 R) := by
    intro r' hr'
    cases hR : R with
    | none => rw [hR] at hr'; cases hr'
    | some r =>
      have o := m6 r hR
      obtain ⟨r1, a1, a2, a3, a4, a5, a6⟩ := nrm_cs hR o.1 o.2
      rw [hr'] at a1
      injection a1 with a1
      subst a1
      refine ⟨r, rfl, a3, a4, ?_, can_nrm hR o.1 o.2 (canR r hR) hr' (fun k k0 k1 => Ff.2 k k0 k1), ?_⟩
      · rcases a6 with ⟨e, -⟩ | ⟨e, -⟩ | ⟨e, q⟩
        · omega
        · omega
        · have ob : okb r.1 := by
            rcases o.1 with w | w
            · exact absurd w.1 o.2
            · exact w.1
          omega
      · rw [← hR]; exact nrm_mo hR o.1 o.2 (moR r hR) hr'
  obtain ⟨x', z', q1, q2, q3⟩ := body (nrmR R) ⟨hb0, fun e0 => (by
    cases hR : R with
    | none => rfl
    | some r => exact absurd e0 (mtS_rule hc (by rw [hR]; exact fun q => (by cases q))))⟩ (fun r hr' => by
    obtain ⟨r0, -, w1, w2, w3, w4, -⟩ := hb1 r hr'
    exact ⟨w1, w3, w4⟩)
  have inv : ∀ k, 0 ≤ k → k ≤ (F f).2.1 → ∀ y, instS (F f) k R = some y → ∀ y', instS (F f) k (nrmR R) = some y' → y'.2 = y.2 ∧ muR y'.1 (ownM E.2.1 R) = muR y.1 E.2.1 ∧ (y'.1 = -2 ↔ y.1 = -2) := by
    intro k k0 k1 y hy y' hy'
    obtain ⟨y1, b1, b2, b3, b4⟩ := inst_nrm (mo := E.2.1) m6 (Ff.2 k k0 k1) hy
    rw [hy'] at b1
    injection b1 with b1
    subst b1
    exact ⟨b2, b3, b4⟩
  refine ⟨⟨h.1, .inl ⟨f, nrmR R, rfl, ⟨m2.1, by omega⟩, hb0, fun r hr' => ?_, fun k k1 k2 y' hy' => ?_⟩⟩, x', z', q1, q2, q3, m1, fun V hV => ?_⟩
  · obtain ⟨r0, -, w1, w2, w3, w4, w5⟩ := hb1 r hr'
    exact ⟨⟨w1, w2⟩, w5⟩
  · cases hy : instS (F f) k R with
    | none => exact absurd hy (m7 k (by omega) k2)
    | some y =>
      obtain ⟨c1, c2, c3⟩ := inv k (by omega) k2 y hy y' hy'
      have kk : (((k - 1).toNat : Nat) : Int) = k - 1 := by omega
      have := hg (k - 1).toNat (by omega) y (by rw [kk, show k - 1 + 1 = k by omega]; exact hy)
      exact VR_nrm this c1 c2 c3
  · obtain ⟨c1, c2, c3⟩ := inv 0 (Int.le_refl _) (by have := Ff.1.1; omega) z m4 z' q2
    exact VR_nrm hV c1.symm c2.symm c3.symm
/-- what a part gives is of its ring -/
def VrO (F : Int → FnR) (n : Int) (rec : EVm → PT → ES → ER) : Prop := ∀ (E : EVm) (a : PT) (s : ES) (V : VV) (s' : ES) (x : R3), EvO F n E → (0 ≤ a.1.1 ∧ a.1.1 ≤ 25) → okN a.1 a.2 → wfT a.2 → rgS E.1 a.1 a.2 = some x → rec E a s = (.ok V, s') → VR E.2.1 x V
theorem ndc {d : ND} {c : TT} {x : R3} (h : EvO F n E) (hk : 0 ≤ d.1 ∧ d.1 ≤ 25) (w : okN d c) (wc : wfT c) (hx : rgS E.1 d c = some x) : ∃ rc, allS (jdS E.1 c).1 = some rc ∧ ownS E.1 d rc = some x ∧ rc.length = lenT c ∧ (ok3 x ∧ okMo x.1 E.2.1 ∧ Bse E.1.2.2.2.2 x.1) ∧ (∀ y, y ∈ rc → ok3 y ∧ okMo y.1 E.2.1 ∧ Bse E.1.2.2.2.2 y.1) ∧ ∀ k, k < lenT c → rgS E.1 (prT c k).1 (prT c k).2 = some (rgN E.1 (prT c k)) ∧ rc[k]? = some (rgN E.1 (prT c k)) := by
  obtain ⟨rc, h1, h2, -⟩ := nd_inv (by omega) hx
  obtain ⟨l1, l2⟩ := rc_at h1
  have mem : ∀ y, y ∈ rc → some y ∈ (jdS E.1 c).1 := by
    intro y hy
    obtain ⟨k, hk', hy'⟩ := List.getElem_of_mem hy
    have kl : k < lenT c := by omega
    have q := l2 k kl
    rw [List.getElem?_eq_getElem hk', hy'] at q
    have q2 : y = rgN E.1 (prT c k) := by have := q.2; injection this
    have jp := jd_prt (e := E.1) c k kl
    rw [q.1, ← q2] at jp
    exact List.mem_of_getElem? jp
  have Brc : ∀ y, y ∈ rc → Bse E.1.2.2.2.2 y.1 := fun y hy => jd_base h.jb c wc y (mem y hy)
  have Bx := ownS_base h.jb w.2.1.1 Brc h2
  exact ⟨rc, h1, h2, l1, ⟨rgS_ok h.jok w wc hx, h.mo Bx, Bx⟩, fun y hy => ⟨jdS_ok h.jok c wc y (mem y hy), h.mo (Brc y hy), Brc y hy⟩, l2⟩
variable {rec : EVm → PT → ES → ER}
theorem evP_VR {c : TT} {z : R3} {k : Nat} {s s' : ES} {U : VV} {rc : List R3} (hV : VrO F n rec) (h : EvO F n E) (wc : wfT c) (hk : k < lenT c) (hkd : 0 ≤ (prT c k).1.1 ∧ (prT c k).1.1 ≤ 25) (hrc : ∀ y, y ∈ rc → ok3 y ∧ okMo y.1 E.2.1 ∧ Bse E.1.2.2.2.2 y.1) (hl : ∀ k, k < lenT c → rgS E.1 (prT c k).1 (prT c k).2 = some (rgN E.1 (prT c k)) ∧ rc[k]? = some (rgN E.1 (prT c k))) (hz : ok3 z) (hm : okMo z.1 E.2.1) (hg : gs (rgN E.1 (prT c k)) z) (he : evP rec E c z k s = (.ok U, s')) : VR E.2.1 z U := by
  obtain ⟨V, h1, rfl⟩ := evP_ok he
  have w := prT_wf wc hk
  have q := hl k hk
  have o := hrc _ (List.mem_of_getElem? q.2)
  exact conv_VR o.1 hz hm hg (hV E (prT c k) s V s' _ h hkd w.1 w.2 q.1 h1)
end EVW
