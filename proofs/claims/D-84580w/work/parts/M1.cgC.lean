set_option maxRecDepth 100000
/-! the component: code is written -/
/-- the coder writes code for a text into a Code, so much of it stands -/
def CoS (m : MM) (b cd p : Int) : Prop := isTx b ∧ isCd cd ∧ m 377 0 = b ∧ m 377 1 = cd ∧ m 377 2 = 3 ∧ m cd 3 = p ∧ 0 ≤ p
def FwC (cd p : Int) (m m' : MM) : Prop := ∀ c i, ¬ ((cd + 1 ≤ c ∧ c ≤ cd + 3) ∧ p ≤ i) → ¬ (c = cd ∧ i = 3) → m' c i = m c i
section CGC
variable {Q : Int → MM → Prop} {T : MM → Prop} {m m' m1 : MM} {b cd p q : Int} {l : List Ins}
theorem cd_b (h : isCd cd) : 389 ≤ cd ∧ cd + 3 < 584 := by obtain ⟨a1, a2, a3⟩ := h; omega
theorem tx_b2 (h : isTx b) : 8 ≤ b ∧ b + 16 < 365 := by obtain ⟨a1, a2, a3⟩ := h; omega
theorem FwC.refl : FwC cd p m m := fun _ _ _ _ => rfl
theorem FwC.trans (h : FwC cd p m m1) (g : FwC cd q m1 m') (hq : p ≤ q) : FwC cd p m m' := fun c i z z' => (g c i (fun y => z ⟨y.1, by omega⟩) z').trans (h c i z z')
theorem FwC.lo (h : FwC cd p m m') (hb : isCd cd) {c i : Int} (hc : c < 389) : m' c i = m c i := by
  have := cd_b hb
  exact h c i (by omega) (by omega)
theorem CoS.nx (h : CoS m b cd p) (f : FwC cd p m m') (e : m' cd 3 = q) (hq : p ≤ q) : CoS m' b cd q := by
  obtain ⟨h1, h2, h3, h4, h5, h6, h7⟩ := h
  exact ⟨h1, h2, by rw [f.lo h2 (by decide)]; exact h3, by rw [f.lo h2 (by decide)]; exact h4, by rw [f.lo h2 (by decide)]; exact h5, e, by omega⟩
/-- one instruction -/
theorem c_insC {op x y : Int} (h : CoS m b cd p) (pb : p < 1200) (k : ∀ m', CoS m' b cd (p + 1) → FwC cd p m m' → CoA m' cd p [(op, x, y)] → Q p m') : P_X9_add cd op x y m Q := by
  have h0 := h
  obtain ⟨h1, h2, h3, h4, h5, h6, h7⟩ := h
  have cb := cd_b h2
  unfold P_X9_add
  rw [h6]
  refine ⟨h2, by omega, ?_⟩
  intro m1 e1
  have a1 : m1 cd 3 = p := by rw [e1, up_ne (by omega)]; exact h6
  rw [a1]
  refine ⟨by omega, ?_⟩
  intro m2 e2
  have a2 : m2 cd 3 = p := by rw [e2, up_ne (by omega)]; exact a1
  rw [a2]
  refine ⟨by omega, ?_⟩
  intro m3 e3
  have a3 : m3 cd 3 = p := by rw [e3, up_ne (by omega)]; exact a2
  rw [a3]
  intro m4 e4
  have a4 : m4 cd 3 = p + 1 := by rw [e4, up_at]
  rw [a4, show p + 1 - 1 = p by omega]
  have fr : FwC cd p m m4 := fun c i z z' => by rw [e4, up_ne (by omega), e3, up_ne (by omega), e2, up_ne (by omega), e1, up_ne (by omega)]
  refine k m4 (h0.nx fr a4 (by omega)) fr ?_
  refine CoA.cons.2 ⟨⟨?_, ?_, ?_⟩, CoA.nil⟩
  · rw [e4, up_ne (by omega), e3, up_ne (by omega), e2, up_ne (by omega), e1, up_at]
  · rw [e4, up_ne (by omega), e3, up_ne (by omega), e2, up_at]
  · rw [e4, up_ne (by omega), e3, up_at]
theorem c_addI {op x y : Int} (h : CoS m b cd p) (pb : p < 1200) (k : ∀ m', CoS m' b cd (p + 1) → FwC cd p m m' → CoA m' cd p [(op, x, y)] → Q 0 m') : P_X7_add op x y m Q := by
  unfold P_X7_add
  rw [h.2.2.2.1]
  exact ⟨h.2.1, c_insC h pb k⟩
theorem cgTn_len {x z : R3} : (cgTn x z).length ≤ 1 := by
  unfold cgTn
  by_cases c : x = z
  · rw [if_pos c]; exact Nat.zero_le _
  · rw [if_neg c]; exact Nat.le_refl 1
theorem c_turnI {x z : R3} (hx : ok3 x) (hz : ok3 z) (h : CoS m b cd p) (pb : p < 1200) (k : ∀ m', CoS m' b cd (p + ((cgTn x z).length : Int)) → FwC cd p m m' → CoA m' cd p (cgTn x z) → Q 0 m') : P_X7_turn (encC x) (encC z) m Q := by
  refine ⟨(encC_bd hx).1, (encC_bd hz).1, ?_⟩
  unfold cgTn at k
  by_cases c : x = z
  · rw [if_pos c] at k
    rw [if_pos (by rw [c])]
    have h' : CoS m b cd (p + ((([] : List Ins).length : Nat) : Int)) := by
      rw [show p + ((([] : List Ins).length : Nat) : Int) = p from Int.add_zero p]; exact h
    exact k m h' FwC.refl CoA.nil
  · rw [if_neg c] at k
    rw [if_neg (fun e => c (encC_inj hx hz e))]
    exact c_addI h pb k
/-- code that stands ahead stays -/
theorem CoA.keep (h : CoA m cd p l) (f : FwC cd q m m') (hq : p + (l.length : Int) ≤ q) : CoA m' cd p l := h.fr (fun c i z z1 z2 => f c i (by omega) (by omega))
theorem c_weightI {x : R3} (hx : ok3 x) (hb : x.1 ≠ -2) (k : Q (wtR x) m) : P_X11_weight (encC x) m Q := by
  have rg := encC_RG hx hb
  have ds := ok3_ds hx
  refine c_coef rg (c_entries rg ?_)
  have e : cof x.2.1 * enn x.2.2 = wtR x := by
    unfold wtR
    have en := enn_cs ds.2
    have ec : cof x.2.1 = (if x.2.1 = 0 then 1 else if x.2.1 = 1 then 7 else 49) := rfl
    rw [ec, Int.mul_comm]
    rcases en with ⟨e1, e2, -⟩ | ⟨e1, e2, -⟩ | ⟨e1, e2, -⟩ | ⟨e1, e2, -⟩ <;> rw [e2, e1] <;> rfl
  rw [e]; exact k
theorem TF.lo {m m' : MM} {t : TT} {lo hi k : Int} (h : TF m b t lo hi k) (f : FwC cd p m m') (hb : isTx b) (hc : isCd cd) : TF m' b t lo hi k := by
  have := tx_b2 hb
  exact h.fr (fun i => ⟨f.lo hc (by omega), f.lo hc (by omega), f.lo hc (by omega), f.lo hc (by omega), f.lo hc (by omega), f.lo hc (by omega)⟩)
theorem AnF.lo {e : JE} (f : FwC cd p m m') (hb : isTx b) (hc : isCd cd) : ∀ {t : TT} {k : Int}, AnF m b e t k → AnF m' b e t k := by
  have tb := tx_b2 hb
  intro t
  induction t with
  | leaf => intro k h; exact h
  | inner z d u c s ihc ihs =>
    intro k h
    obtain ⟨⟨h1, h2, h3, h4⟩, h5⟩ := h
    refine ⟨⟨fun x hx => by rw [f.lo hc (by omega)]; exact h1 x hx, fun q i x hx => by rw [f.lo hc (by omega)]; exact h2 q i x hx, fun q rc g R z hr hz => by rw [f.lo hc (by omega), f.lo hc (by omega)]; exact h3 q rc g R z hr hz, fun q => by rw [f.lo hc (by omega)]; exact ihc (h4 q)⟩, by rw [f.lo hc (by omega)]; exact ihs h5⟩
end CGC
