set_option maxRecDepth 100000
/-! the component: prices, and whom a call means -/
def FWt (m m' : MM) : Prop := ∀ c i, ¬ (c = 3 ∧ i = 7) → m' c i = m c i
theorem TXh.fr {m m' : MM} {b : Int} {f : FnR} (hb : isTx b) (g : ∀ c i, c = b ∧ (i = 16 ∨ i = 5 ∨ i = 22) ∨ (b + 9 < c ∧ c < b + 17) → m' c i = m c i) (h : TXh m b f) : TXh m' b f := by
  obtain ⟨h1, h2, h3, h4, h5⟩ := h
  refine ⟨by rw [g b 16 (by omega)]; exact h1, by rw [g b 5 (by omega)]; exact h2, by rw [g b 22 (by omega)]; exact h3, fun k k0 k1 => ?_, fun k k0 k1 => ?_⟩
  · rw [g (b + 13) k (by omega), g (b + 14) k (by omega), g (b + 15) k (by omega), g (b + 16) k (by omega)]
    exact h4 k k0 k1
  · rw [g (b + 10) _ (by omega)]
    exact h5 k k0 k1
def BKh (m : MM) (F : Int → FnR) (n : Int) : Prop := (0 ≤ n ∧ n ≤ 21) ∧ ∀ k, 0 ≤ k → k < n → okF (F k) ∧ TXh m (8 + 17 * k) (F k)
theorem isTx_k {k : Int} (h : 0 ≤ k ∧ k < 21) : isTx (8 + 17 * k) := by unfold isTx; omega
theorem rowR.fr {m m' : MM} {a : Int} (g : ∀ i, m' a i = m a i) : ∀ {l : List R3} {k : Int}, rowR m a k l → rowR m' a k l := by
  intro l
  induction l with
  | nil => intro k _; trivial
  | cons x l ih => intro k h; exact ⟨by rw [g]; exact h.1, h.2.1, ih h.2.2⟩
def encP (o : Option Int) : Int := match o with
  | none => -1
  | some p => p
theorem price3_bd {x z : R3} (hx : ok3 x) (hz : ok3 z) (h : jn x z = some z) : 0 ≤ price3 x z ∧ price3 x z ≤ 4 := by
  have g := (gs_vals hx hz h).2.1
  unfold price3
  unfold ok3 at hx hz
  split <;> split <;> omega
theorem prcS_bd {f : FnR} {R : Option R3} (hf : okF f) (hR : ∀ x, R = some x → ok3 x ∧ x.1 ≠ -2) : ∀ (l : List R3) (k acc : Int), 0 ≤ k → k + (l.length : Int) = f.2.1 + 1 → (∀ x, x ∈ l → ok3 x) → 0 ≤ acc → ∀ p, prcS f R k acc l = some p → 0 ≤ p ∧ p ≤ acc + 4 * (l.length : Int) := by
  intro l
  induction l with
  | nil => intro k acc _ _ _ h p hp; cases hp; exact ⟨h, by show acc ≤ acc + 4 * 0; omega⟩
  | cons x l ih =>
    intro k acc k0 k1 hl ha p hp
    rw [show ((x :: l).length : Int) = (l.length : Int) + 1 from rfl] at k1 ⊢
    unfold prcS at hp
    split at hp
    · cases hp
    case h_2 z hz =>
      split at hp
      case isTrue hg =>
        have pb := price3_bd (hl x (List.mem_cons_self ..)) (instS_ok hf ⟨k0, by omega⟩ hR hz) hg
        have := ih (k + 1) _ (by omega) (by omega) (fun y hy => hl y (List.mem_cons_of_mem _ hy)) (show 0 ≤ acc + price3 x z by omega) p hp
        omega
      · cases hp
section MEANT2
variable {Q : Int → MM → Prop} {b a : Int} {f : FnR}
theorem c_priceC {m : MM} {l : List R3} {R : Option R3} (hb : isTx b) (ha : a = 373 ∨ a = 581) (hf : okF f) (hx : TXh m b f) (hl : (l.length : Int) = f.2.1) (hr : rowR m a 0 l) (hR : ∀ x, R = some x → ok3 x ∧ x.1 ≠ -2) (hn : R = none → f.2.2.1 = 0) (hi : ∀ k, 1 ≤ k → k ≤ f.2.1 → instS f k R ≠ none) (h : Q (encP (prcS f R 1 0 l)) m) : P_X1_price b a (encO R) m Q := by
  have np := hf.1
  obtain ⟨fd, hfd⟩ : ∃ fd, fd = prcS f R 1 0 l := ⟨_, rfl⟩
  rw [← hfd] at h
  have L : ∀ (l' : List R3) (k acc : Int), 0 ≤ k → k + (l'.length : Int) = f.2.1 → rowR m a k l' → fd = prcS f R (k + 1) acc l' → P_X1_price_5 Q (l'.length + 1) b a (encO R) acc k m := by
    intro l'
    induction l' with
    | nil =>
      intro k acc k0 k1 hr' e
      rw [show (([] : List R3).length : Int) = 0 from rfl] at k1
      unfold P_X1_price_5
      rw [hx.2.1]
      refine ⟨hb, by constructor <;> omega, by constructor <;> omega, ?_⟩
      rw [if_pos (by omega)]
      rw [e] at h
      exact h
    | cons x l' ih =>
      intro k acc k0 k1 hr' e
      rw [show ((x :: l').length : Int) = (l'.length : Int) + 1 from rfl] at k1
      obtain ⟨r1, r2, r3⟩ := hr'
      show P_X1_price_5 Q (l'.length + 1 + 1) b a (encO R) acc k m
      unfold P_X1_price_5
      rw [hx.2.1]
      refine ⟨hb, by constructor <;> omega, by constructor <;> omega, ?_⟩
      rw [if_neg (by omega)]
      unfold prcS at e
      refine c_ringC hb hf hx ⟨by omega, by omega⟩ hR hn ⟨inI_row ha (by omega), ?_⟩
      rw [r1]
      rcases hz : instS f (k + 1) R with - | z
      · exact absurd hz (hi (k + 1) (by omega) (by omega))
      · have oz := instS_ok hf ⟨by omega, by omega⟩ hR hz
        rw [hz] at e
        simp only at e
        refine c_goes r2 oz ?_
        by_cases hg : jn x z = some z
        · rw [if_pos hg] at e ⊢
          refine ⟨by decide, ?_⟩
          rw [if_neg (by decide), r1]
          exact c_price r2 oz hg (ih (k + 1) _ (by omega) (by omega) r3 e)
        · rw [if_neg hg] at e ⊢
          refine ⟨by decide, ?_⟩
          rw [if_pos rfl]
          rw [e] at h
          exact h
  exact ⟨_, L l 0 0 (by decide) (by omega) hr hfd⟩
theorem foundS_can {l : List R3} {r : R3} (h : foundS f l = some r) : canS f r := by
  unfold foundS at h
  split at h
  · cases h
  · split at h
    case isTrue c => cases h; exact c
    · cases h
theorem inst_all {l : List R3} {R : Option R3} (hf : okF f) (h : R = none ∧ f.2.2.1 = 0 ∨ R = foundS f l ∧ R ≠ none) : ∀ k, 0 ≤ k → k ≤ f.2.1 → instS f k R ≠ none := by
  intro k k0 k1
  rcases h with ⟨-, h⟩ | ⟨h, hn⟩
  · unfold instS
    rw [if_pos ((hf.2.2.2.1 k k0 k1).2.2.2 h)]
    intro q
    cases q
  · rcases R with - | r
    · exact absurd rfl hn
    · exact (foundS_can h.symm).2.2.2 k k0 k1
def encB (o : Option (Int × Int × Option R3)) : Int := match o with
  | none => -1
  | some x => x.1
theorem bestS_bd {F : Int → FnR} {w : Int} {l : List R3} : ∀ (n : Nat) (j p : Int) (R : Option R3), bestS F w l n = some (j, p, R) → (0 ≤ j ∧ j < (n : Int)) ∧ candS (F j) l = some (p, R) ∧ (F j).1 = w := by
  intro n
  induction n with
  | zero => intro j p R h; cases h
  | succ n ih =>
    intro j p R h
    unfold bestS at h
    have up1 : bestS F w l n = some (j, p, R) → (0 ≤ j ∧ j < ((n + 1 : Nat) : Int)) ∧ candS (F j) l = some (p, R) ∧ (F j).1 = w := fun q => by have := ih j p R q; exact ⟨by omega, this.2⟩
    split at h
    case isTrue hw =>
      unfold bettS at h
      split at h
      · exact up1 h
      case h_2 p' r' hc =>
        split at h
        · cases h
          exact ⟨by omega, hc, hw⟩
        case h_2 k q r2 hb =>
          split at h
          · cases h
            exact ⟨by omega, hc, hw⟩
          · rw [← hb] at h
            exact up1 h
    · exact up1 h
theorem candS_ok {l : List R3} {p : Int} {R : Option R3} (hf : okF f) (ho : ∀ x, x ∈ l → ok3 x) (h : candS f l = some (p, R)) : (l.length : Int) = f.2.1 ∧ (R = none ∧ f.2.2.1 = 0 ∨ R = foundS f l ∧ R ≠ none) ∧ (∀ x, R = some x → ok3 x ∧ x.1 ≠ -2) ∧ (0 ≤ p ∧ p ≤ 12) := by
  have np := hf.1
  unfold candS at h
  split at h
  · cases h
  case isFalse hl =>
    have hl' : (l.length : Int) = f.2.1 := by omega
    split at h
    case isTrue r0 =>
      split at h
      · cases h
      case h_2 q hq =>
        cases h
        have hR : ∀ x, (none : Option R3) = some x → ok3 x ∧ x.1 ≠ -2 := fun x hx => by cases hx
        have := prcS_bd hf hR l 1 0 (by decide) (by omega) ho (by decide) _ hq
        exact ⟨hl', Or.inl ⟨rfl, r0⟩, hR, by omega⟩
    · split at h
      · cases h
      case h_2 r hr =>
        split at h
        · cases h
        case h_2 q hq =>
          cases h
          have hR : ∀ x, some r = some x → ok3 x ∧ x.1 ≠ -2 := fun x hx => by cases hx; exact foundS_ok hf hl' ho hr
          have := prcS_bd hf hR l 1 0 (by decide) (by omega) ho (by decide) _ hq
          exact ⟨hl', Or.inr ⟨hr.symm, fun q => by cases q⟩, hR, by omega⟩
theorem c_meantC {m : MM} {F : Int → FnR} {w n : Int} {l : List R3} (ha : a = 373 ∨ a = 581) (hB : BKh m F n) (hw : RL w) (hr : rowR m a 0 l) (hl : l.length ≤ 3) (h : ∀ m', FWt m m' → (∀ j p R, bestS F w l n.toNat = some (j, p, R) → m' 3 7 = encO R) → Q (encB (bestS F w l n.toNat)) m') : P_X1_meant w a (l.length : Int) n m Q := by
  obtain ⟨hn, hF⟩ := hB
  have ho := rowR_ok hr
  have L : ∀ (r : Nat) (k : Nat) (x6 x7 : Int) (m1 : MM), (k : Int) + (r : Int) = n → FWt m m1 → (bestS F w l k = none → x6 = -1) → (∀ j p R, bestS F w l k = some (j, p, R) → x6 = j ∧ x7 = p ∧ m1 3 7 = encO R) → P_X1_meant_9 Q (r + 1) w a (l.length : Int) n x6 x7 (k : Int) m1 := by
    intro r
    induction r with
    | zero =>
      intro k x6 x7 m1 k1 f1 h1 h2
      unfold P_X1_meant_9
      refine ⟨by constructor <;> omega, by constructor <;> omega, ?_⟩
      rw [if_pos (by omega)]
      have e : n.toNat = k := by omega
      rw [e] at h
      have := h m1 f1 (fun j p R q => (h2 j p R q).2.2)
      rcases hb : bestS F w l k with - | ⟨j, p, R⟩
      · rw [hb] at this
        rw [h1 hb]
        exact this
      · rw [hb] at this
        rw [(h2 j p R hb).1]
        exact this
    | succ r ih =>
      intro k x6 x7 m1 k1 f1 h1 h2
      have hk := hF (k : Int) (by omega) (by omega)
      have tx := isTx_k (k := (k : Int)) (by omega)
      have hx : TXh m1 (8 + 17 * (k : Int)) (F k) := hk.2.fr tx (fun c i z => f1 c i (by unfold isTx at tx; omega))
      have ha' : ∀ i, m1 a i = m a i := fun i => f1 a i (by omega)
      have hr1 : rowR m1 a 0 l := hr.fr ha'
      have np := hk.1.1
      have ru := hk.1.2.1
      have skip : bestS F w l (k + 1) = bestS F w l k → P_X1_meant_9 Q (r + 1) w a (l.length : Int) n x6 x7 ((k : Int) + 1) m1 := fun e => ih (k + 1) x6 x7 m1 (by omega) f1 (fun q => h1 (by rw [← e]; exact q)) (fun j p R q => h2 j p R (by rw [← e]; exact q))
      unfold P_X1_meant_9
      refine ⟨by constructor <;> omega, by constructor <;> omega, ?_⟩
      rw [if_neg (by omega), hx.1, hx.2.1]
      refine ⟨by omega, tx, hk.1.2.2.1, hw, ?_⟩
      by_cases c1 : (F k).1 = w
      · rw [if_pos c1]
        refine ⟨by constructor <;> omega, by constructor <;> omega, ?_⟩
        have best : bestS F w l (k + 1) = bettS F k (bestS F w l k) (candS (F k) l) := by
          show (if (F (k : Int)).1 = w then _ else _) = _
          rw [if_pos c1]
        by_cases c2 : (F k).2.1 = (l.length : Int)
        · rw [if_pos c2, hx.2.2.1]
          refine ⟨by constructor <;> omega, ?_⟩
          -- a price is there
          have l85 : ∀ (R : Option R3), (R = none ∧ (F k).2.2.1 = 0 ∨ R = foundS (F k) l ∧ R ≠ none) → (∀ p, prcS (F k) R 1 0 l = some p → candS (F k) l = some (p, R)) → (prcS (F k) R 1 0 l = none → candS (F k) l = none) → P_X1_meant_85 Q (fun z0 z1 z2 z3 z4 z5 z6 z7 => P_X1_meant_9 Q (r + 1) z0 z1 z2 z3 z4 z5 z6 z7) w a (l.length : Int) n x6 x7 (k : Int) (8 + 17 * (k : Int)) (encO R) m1 := by
            intro R hR hp1 hp0
            have hRo : ∀ x, R = some x → ok3 x ∧ x.1 ≠ -2 := fun x hx' => by
              rcases hR with q | q
              · rw [q.1] at hx'; cases hx'
              · exact foundS_ok hk.1 (by omega) ho (by rw [← q.1]; exact hx')
            refine c_priceC tx ha hk.1 hx (by omega) hr1 hRo (fun q => by rcases hR with z | z; exact z.2; exact absurd q z.2) (fun j j0 j1 => inst_all hk.1 hR j (by omega) j1) ?_
            rcases hp : prcS (F k) R 1 0 l with - | p
            · refine ⟨by decide, ?_⟩
              rw [if_pos (show encP none < 0 by decide)]
              refine skip ?_
              rw [best, hp0 hp]
              rfl
            · have pb := prcS_bd hk.1 hRo l 1 0 (by decide) (by omega) ho (by decide) p hp
              have hc := hp1 p hp
              rw [show encP (some p) = p from rfl]
              refine ⟨by constructor <;> omega, ?_⟩
              rw [if_neg (show ¬ p < 0 by omega)]
              have take : bestS F w l (k + 1) = some ((k : Int), p, R) → P_X1_meant_144 Q (fun z0 z1 z2 z3 z4 z5 z6 z7 => P_X1_meant_9 Q (r + 1) z0 z1 z2 z3 z4 z5 z6 z7) w a (l.length : Int) n (k : Int) (encO R) p m1 := by
                intro e
                rintro _ rfl
                refine ih (k + 1) (k : Int) p _ (by omega) (fun c i z => by rw [up_ne z]; exact f1 c i z) (fun q => by rw [e] at q; cases q) (fun j p' R' q => ?_)
                rw [e] at q
                cases q
                exact ⟨rfl, rfl, up_at ..⟩
              rcases hb : bestS F w l k with - | ⟨j, q, R'⟩
              · have e6 := h1 hb
                refine ⟨by rw [e6]; decide, ?_⟩
                rw [if_pos e6]
                refine take ?_
                rw [best, hb, hc]
                rfl
              · obtain ⟨e6, e7, e37⟩ := h2 j q R' hb
                obtain ⟨jb, jc, -⟩ := bestS_bd k j q R' hb
                have hj := hF j jb.1 (by omega)
                have txj := isTx_k (k := j) (by omega)
                have hxj : TXh m1 (8 + 17 * j) (F j) := hj.2.fr txj (fun c i z => f1 c i (by unfold isTx at txj; omega))
                have qb := (candS_ok hj.1 ho jc).2.2.2
                have rj := hj.1.2.1
                rw [e6, e7]
                refine ⟨by constructor <;> omega, ?_⟩
                rw [if_neg (by omega)]
                refine ⟨by constructor <;> omega, ?_⟩
                have bt : bettS F k (some (j, q, R')) (some (p, R)) = if p < q ∨ p = q ∧ (F j).2.2.1 ≠ 0 ∧ (F k).2.2.1 = 0 then some ((k : Int), p, R) else some (j, q, R') := rfl
                have keep : ¬ (p < q ∨ p = q ∧ (F j).2.2.1 ≠ 0 ∧ (F k).2.2.1 = 0) → P_X1_meant_9 Q (r + 1) w a (l.length : Int) n j q ((k : Int) + 1) m1 := by
                  intro z
                  have := skip (by rw [best, hb, hc, bt, if_neg z])
                  rw [e6, e7] at this
                  exact this
                have takes : (p < q ∨ p = q ∧ (F j).2.2.1 ≠ 0 ∧ (F k).2.2.1 = 0) → P_X1_meant_144 Q (fun z0 z1 z2 z3 z4 z5 z6 z7 => P_X1_meant_9 Q (r + 1) z0 z1 z2 z3 z4 z5 z6 z7) w a (l.length : Int) n (k : Int) (encO R) p m1 := fun z => take (by rw [best, hb, hc, bt, if_pos z])
                by_cases d1 : q < p
                · rw [if_pos d1]; exact keep (by omega)
                · rw [if_neg d1]
                  by_cases d2 : p = q
                  · rw [if_pos d2, hxj.2.2.1]
                    refine ⟨by omega, txj, by constructor <;> omega, ?_⟩
                    by_cases d3 : (F j).2.2.1 = 0
                    · rw [if_pos d3]; exact keep (by omega)
                    · rw [if_neg d3, hx.2.2.1]
                      refine ⟨tx, by constructor <;> omega, ?_⟩
                      by_cases d4 : (F k).2.2.1 ≤ 0
                      · rw [if_pos d4]; exact takes (by omega)
                      · rw [if_neg d4]; exact keep (by omega)
                  · rw [if_neg d2]; exact takes (by omega)
          by_cases c3 : (F k).2.2.1 = 0
          · rw [if_pos c3]
            unfold P_X1_meant_66
            rw [hx.2.2.1]
            refine ⟨tx, by constructor <;> omega, ?_⟩
            rw [if_pos (by omega)]
            refine l85 none (Or.inl ⟨rfl, c3⟩) (fun p hp => ?_) (fun hp => ?_)
            · unfold candS
              rw [if_neg (by omega), if_pos c3, hp]
            · unfold candS
              rw [if_neg (by omega), if_pos c3, hp]
          · rw [if_neg c3]
            refine c_foundC tx ha hk.1 hx (by omega) hr1 ?_
            unfold P_X1_meant_66
            rw [hx.2.2.1]
            refine ⟨tx, by constructor <;> omega, ?_⟩
            rw [if_neg (by omega)]
            have ok := fun x hx' => (foundS_ok hk.1 (show (l.length : Int) = _ by omega) ho (z := x) hx').1
            refine ⟨encO_ri ok, ?_⟩
            rcases hfd : foundS (F k) l with - | r0
            · rw [if_pos (show encO none = -1 from rfl)]
              refine skip ?_
              rw [best]
              have : candS (F k) l = none := by
                unfold candS
                rw [if_neg (by omega), if_neg c3, hfd]
              rw [this]
              rfl
            · have e0 := (encC_bd (ok r0 hfd)).2.2 (foundS_ok hk.1 (show (l.length : Int) = _ by omega) ho hfd).2
              rw [if_neg (show ¬ encO (some r0) = -1 from fun q => by have q' : encC r0 = -1 := q; omega)]
              refine l85 (some r0) (Or.inr ⟨hfd.symm, fun q => by cases q⟩) (fun p hp => ?_) (fun hp => ?_)
              · unfold candS
                rw [if_neg (by omega), if_neg c3, hfd]
                simp only
                rw [hp]
              · unfold candS
                rw [if_neg (by omega), if_neg c3, hfd]
                simp only
                rw [hp]
        · rw [if_neg c2]
          refine skip ?_
          rw [best]
          have : candS (F k) l = none := by
            unfold candS
            rw [if_pos c2]
          rw [this]
          rfl
      · rw [if_neg c1]
        refine skip ?_
        show (if (F (k : Int)).1 = w then _ else _) = _
        rw [if_neg c1]
  exact ⟨_, L n.toNat 0 (-1) 0 m (by omega) (fun _ _ _ => rfl) (fun _ => rfl) (fun j p R q => by cases q)⟩
end MEANT2
