set_option maxRecDepth 100000
/-! values that go back: the component, its end -/
section BACKD
variable {Q : Int → MM → Prop} {r r' b c d e s t mu x : Int} {V : VV}
theorem ErB.err {m m' : MM} {ok : Prop} (h : ErB m m' ok) (he : m 378 2 = 0) : RI (m' 378 2) ∧ (ok → m' 378 2 = 0) ∧ (¬ ok → m' 378 2 = 3) := by
  by_cases c : ok
  · rw [h.1 c, he]
    exact ⟨by decide, fun _ => rfl, fun z => absurd c z⟩
  · rw [h.2 c, up_at]
    exact ⟨by decide, fun z => absurd z c, fun _ => rfl⟩
theorem backC_309 {m : MM} {u : Int → PP} {ce N : Int} (hN : 0 ≤ ce * N ∧ 2 * (ce * N) ≤ 882) (hx : 0 ≤ x ∧ x + 882 ≤ 1155420) (row : Rw (m 379) x u (ce * N)) (nu : ∀ k, 0 ≤ k → k < ce * N → NB mu (u k)) (fin : ∀ m', ErB m m' (∀ l, 0 ≤ l → l < ce * N → (u l).2 = 1) → Q 0 m') : ∃ nn, P_X8_back_309 Q nn x ce N 0 m := by
  have L : ∀ (n : Nat) (l : Int) (m' : MM), 0 ≤ l → l + n = ce * N → ErB m m' (∀ q, 0 ≤ q → q < l → (u q).2 = 1) → P_X8_back_309 Q (n + 1) x ce N l m' := by
    intro n
    induction n with
    | zero =>
      intro l m' l0 l1 er
      refine ⟨by constructor <;> omega, by constructor <;> omega, ?_⟩
      rw [if_pos (by omega)]
      have : l = ce * N := by omega
      rw [this] at er
      exact fin m' er
    | succ n ih =>
      intro l m' l0 l1 er
      refine ⟨by constructor <;> omega, by constructor <;> omega, ?_⟩
      rw [if_neg (by omega)]
      have rl := (row l l0 (by omega)).2
      have n2 := (nu l l0 (by omega)).p2
      rw [er.at, rl]
      refine ⟨by omega, by constructor <;> omega, ?_⟩
      have stp : (∀ q, 0 ≤ q → q < l + 1 → (u q).2 = 1) ↔ (∀ q, 0 ≤ q → q < l → (u q).2 = 1) ∧ (u l).2 = 1 := by
        constructor
        · intro z
          exact ⟨fun q q0 q1 => z q q0 (by omega), z l l0 (by omega)⟩
        · rintro ⟨z1, z2⟩ q q0 q1
          by_cases cq : q = l
          · rw [cq]; exact z2
          · exact z1 q q0 (by omega)
      by_cases c1 : (u l).2 = 1
      · rw [if_pos c1]
        exact ih (l + 1) m' (by omega) (by omega) ((er.nx stp).1 c1)
      · rw [if_neg c1]
        rintro _ rfl
        exact ih (l + 1) _ (by omega) (by omega) ((er.nx stp).2 c1)
  exact ⟨_, L (ce * N).toNat 0 m (by decide) (by omega) ⟨fun _ => rfl, fun z => absurd (fun q q0 q1 => by omega) z⟩⟩
theorem c_X8_back {m : MM} {ch : Int} (hR : RG r b d s) (hR' : RG r' c e t) (hde : e ≤ d) (hst : s = t ∨ t = 0) (hch : ch = if b = c then 0 else 1) (he0 : m 378 2 = 0) (hx : 0 ≤ x ∧ x + 882 ≤ 1155420) (vx : VC (m 379) x d s V) (nV : NN mu d s V) (h : OutV (fun q => x ≤ q ∧ q < x + 882 ∨ 1155420 ≤ q ∧ q < 1156302) m (backS ch mu e s t V) x e t Q) : P_X8_back r r' x m Q := by
  obtain ⟨-, hb, hd, hs⟩ := id hR
  obtain ⟨-, hb', he, ht⟩ := id hR'
  have hc := cof_bd hd
  have hc' := cof_bd he
  have cd : cof e ≤ cof d := by
    rcases cof_cs hd with ⟨a, b⟩ | ⟨a, b⟩ | ⟨a, b⟩ <;> rcases cof_cs he with ⟨a', b'⟩ | ⟨a', b'⟩ | ⟨a', b'⟩ <;> omega
  have vb := VS_bd hd hs
  have ve : VS d s = 2 * cof d * enn s := rfl
  have vb' := VS_bd he ht
  have ve' : VS e t = 2 * cof e * enn t := rfl
  have ve2 : VS e t = 2 * (cof e * enn t) := VS_eq
  have es := enn_cs hs
  have et := enn_cs ht
  have iff_ := okB_gd (ch := ch) hd he hde hs hst nV
  -- the entries that stay
  have ent_ : ∀ l, 0 ≤ l → l < enn t → l < enn s ∧ V (l / rws s) (l % rws s) = V (l / rws t) (l % rws t) ∧ (0 ≤ l / rws t ∧ l / rws t < rws t) ∧ (0 ≤ l % rws t ∧ l % rws t < rws t) := by
    intro l l0 l1
    have ix : (0 ≤ l / rws t ∧ l / rws t < rws t) ∧ (0 ≤ l % rws t ∧ l % rws t < rws t) := by
      rcases et with ⟨a1, a2, a3⟩ | ⟨a1, a2, a3⟩ | ⟨a1, a2, a3⟩ | ⟨a1, a2, a3⟩ <;> rw [a2] at l1 <;> rw [a3] <;> omega
    by_cases cst : s = t
    · subst cst
      exact ⟨l1, rfl, ix⟩
    · have t0 : t = 0 := by omega
      subst t0
      have e0 : enn 0 = 1 := rfl
      have l00 : l = 0 := by omega
      subst l00
      refine ⟨by rcases es with ⟨a1, a2, a3⟩ | ⟨a1, a2, a3⟩ | ⟨a1, a2, a3⟩ | ⟨a1, a2, a3⟩ <;> omega, ?_, ix⟩
      rw [Int.zero_ediv, Int.zero_emod, Int.zero_ediv, Int.zero_emod]
  have fin : ∀ m', ErB m m' (∀ l, 0 ≤ l → l < enn s → gdB d e s t V l) → P_X8_back_227 Q r r' x (cof d) (cof e) m' := by
    intro m' er
    obtain ⟨q1, q2, q3⟩ := er.err he0
    refine ⟨q1, ?_⟩
    by_cases A : ∀ l, 0 ≤ l → l < enn s → gdB d e s t V l
    · rw [if_pos (q2 A)]
      have mm := er.1 A
      subst mm
      refine c_entries hR' ?_
      have L : ∀ (n : Nat) (l : Int) (m1 : MM), 0 ≤ l → l + n = enn t → Fc (fun q => 1155420 ≤ q ∧ q < 1156302) m' m1 → m1 378 2 = m' 378 2 → (∀ q, (0 ≤ q ∧ q < l) → Rw (m1 379) (1155420 + 2 * cof e * q) (V (q / rws t) (q % rws t)) (cof e)) → P_X8_back_244 Q (n + 1) r r' x (cof d) (cof e) (enn t) l m1 := by
        intro n
        induction n with
        | zero =>
          intro l m1 l0 l1 f e1 rows
          refine ⟨by constructor <;> omega, by constructor <;> omega, ?_⟩
          rw [if_pos (by omega)]
          have : l = enn t := by omega
          subst this
          refine c_X8_copy (by omega) (by omega) (by omega) (fun m2 f2 e2 cp => ?_)
          have f2' : Fc (fun q => x ≤ q ∧ q < x + 882 ∨ 1155420 ≤ q ∧ q < 1156302) m' m2 := (f.mono (fun q z => Or.inr z)).trans (f2.mono (fun q z => by omega))
          have vc : VC (m2 379) x e t V := by
            refine VC.ofb ht (fun l hl => ?_)
            have bd := blk_bd (c := cof e) (by omega) hl
            refine (rows l hl).cp (fun i i0 i1 => ?_)
            have := cp (2 * cof e * l + i) (by omega) (by omega)
            rw [← Int.add_assoc, ← Int.add_assoc] at this
            exact this
          have vcb : VC (m2 379) x e t (backV s t V) := by
            intro i j hi hj k k0 k1
            rw [backV_val hst k0 hi hj]
            exact vc i j hi hj k k0 k1
          refine c_base hR (c_base hR' ⟨by constructor <;> omega, by constructor <;> omega, ?_⟩)
          have em2 : m2 378 2 = 0 := by rw [e2, e1, he0]
          by_cases cbc : b = c
          · rw [if_pos cbc]
            rw [if_pos cbc] at hch
            exact h.1 _ m2 (backS_ok (iff_.2 ⟨A, fun _ z => absurd hch z⟩)) f2' em2 vcb
          · rw [if_neg cbc]
            rw [if_neg cbc] at hch
            refine backC_309 (mu := mu) (u := fl e t V) (by omega) hx (vc.row he ht) (fun k k0 k1 => nV.1 _ _ _) (fun m3 er3 => ?_)
            obtain ⟨g1, g2, g3⟩ := er3.err em2
            by_cases B : ∀ l, 0 ≤ l → l < cof e * enn t → (fl e t V l).2 = 1
            · have := er3.1 B
              subst this
              refine h.1 _ m3 (backS_ok (iff_.2 ⟨A, fun _ _ i j k hi hj hk => ?_⟩)) f2' em2 vcb
              by_cases ck : k < cof e
              · have ix : 0 ≤ cof e * (t * i + j) + k ∧ cof e * (t * i + j) + k < cof e * enn t := by
                  have key : 0 ≤ t * i + j ∧ t * i + j < enn t := by
                    rcases et with ⟨a1, a2, a3⟩ | ⟨a1, a2, a3⟩ | ⟨a1, a2, a3⟩ | ⟨a1, a2, a3⟩ <;> rw [a3] at hi hj <;> rw [a2] <;> subst a1 <;> omega
                  have bd := blk_bd (c := cof e) (by omega) key
                  have z1 : 2 * cof e * (t * i + j) = 2 * (cof e * (t * i + j)) := Int.mul_assoc ..
                  omega
                have := B _ ix.1 ix.2
                rw [fl_at he ht hi hj ⟨hk.1, ck⟩] at this
                exact this
              · by_cases ck2 : k < cof d
                · by_cases cst : s = t
                  · subst cst
                    have key : 0 ≤ s * i + j ∧ s * i + j < enn s ∧ (s * i + j) / rws s = i ∧ (s * i + j) % rws s = j := by
                      rcases es with ⟨a1, a2, a3⟩ | ⟨a1, a2, a3⟩ | ⟨a1, a2, a3⟩ | ⟨a1, a2, a3⟩ <;> rw [a3] at hi hj ⊢ <;> rw [a2] <;> subst a1 <;> omega
                    have g := A (s * i + j) key.1 key.2.1
                    unfold gdB at g
                    rw [if_neg (fun z => z.1 rfl), key.2.2.1, key.2.2.2] at g
                    rw [g.1 k (by omega) ck2]
                  · have t0 : t = 0 := by omega
                    subst t0
                    have r0 : rws 0 = 1 := rfl
                    have g := A 0 (by decide) (by rcases es with ⟨a1, a2, a3⟩ | ⟨a1, a2, a3⟩ | ⟨a1, a2, a3⟩ | ⟨a1, a2, a3⟩ <;> omega)
                    unfold gdB at g
                    rw [Int.zero_ediv, Int.zero_emod, if_neg (fun z => z.2 rfl)] at g
                    rw [show i = 0 by omega, show j = 0 by omega, g.1 k (by omega) ck2]
                · rw [nV.2 i j k (by omega)]
            · have := er3.2 B
              subst this
              refine h.2 3 _ (backS_no (fun z => B (fun l l0 l1 => ?_))) (f2'.trans Fc.err) (up_at ..)
              have ix := fl_ix he ht l0 l1
              show (V (l / cof e / rws t) (l / cof e % rws t) (l % cof e)).2 = 1
              by_cases cm : mu = 1
              · exact z.2.2 cm (by omega) _ _ _ ix.1 ix.2.1 (by omega)
              · exact (nV.1 _ _ _).2.2.1 cm
        | succ n ih =>
          intro l m1 l0 l1 f e1 rows
          refine ⟨by constructor <;> omega, by constructor <;> omega, ?_⟩
          rw [if_neg (by omega)]
          obtain ⟨ls, lv, -, -⟩ := ent_ l l0 (by omega)
          have bd := blk_bd (c := cof e) (N := enn t) (by omega) (show 0 ≤ l ∧ l < enn t by omega)
          have bd2 := blk_bd (c := cof d) (N := enn s) (by omega) (show 0 ≤ l ∧ l < enn s by omega)
          refine c_X8_copy (by omega) (by omega) (by omega) (fun m2 f2 e2 cp => ?_)
          refine ih (l + 1) m2 (by omega) (by omega) (f.trans (f2.mono (fun q z => by omega))) (by rw [e2, e1]) (fun q hq => ?_)
          by_cases cq : q = l
          · subst cq
            have src := (vx.blk hs q ⟨l0, ls⟩).fr f (fun z z0 z1 zz => by omega)
            rw [lv] at src
            exact (src.le cd).cp cp
          · have ne := blk_ne (c := cof e) (by omega) cq
            exact (rows q (by omega)).fr f2 (fun z z0 z1 zz => by omega)
      exact ⟨_, L (enn t).toNat 0 m' (by decide) (by omega) (Fc.refl m') rfl (fun q hq => by omega)⟩
    · rw [if_neg (by rw [q3 A]; decide)]
      have mm := er.2 A
      subst mm
      exact h.2 3 _ (backS_no (fun z => A (iff_.1 z).1)) Fc.err (up_at ..)
  refine c_coef hR (c_entries hR (c_coef hR' (c_size hR (c_size hR' ⟨by constructor <;> omega, by constructor <;> omega, ?_⟩))))
  have start : ErB m m (∀ q, 0 ≤ q → q < (0 : Int) → gdB d e s t V q) := ⟨fun _ => rfl, fun z => absurd (fun q q0 q1 => by omega) z⟩
  by_cases cst : s = t
  · rw [if_pos cst]
    exact ⟨_, backC_43 hR hR' hde hst hx vx nV 0 (by rw [if_pos cst]) fin (enn s).toNat 0 m (by decide) (by omega) start⟩
  · rw [if_neg cst]
    exact ⟨_, backC_43 hR hR' hde hst hx vx nV 1 (by rw [if_neg cst]) fin (enn s).toNat 0 m (by decide) (by omega) start⟩
end BACKD
