set_option maxRecDepth 100000
/-! polynomials modulo a prime: what they have in common -/
abbrev PL : Type := Int → Int
def ceq (p : Int) (F G : PL) : Prop := ∀ n, p ∣ F n - G n
def CLp (p : Int) (S : PL → Prop) : Prop := (∀ F G, S F → ceq p F G → S G) ∧ (∀ F G, S F → S G → S (fun n => F n + G n)) ∧ (∀ (c : Int) F, S F → S (fun n => c * F n)) ∧ (∀ F, S F → S (fun n => F (n - 1)))
def IDp (p : Int) (A B F : PL) : Prop := ∀ S, CLp p S → S A → S B → S F
def rtD (p : Int) (A B : PL) (D : Int) : Prop := (∃ G, IDp p A B G ∧ ¬ p ∣ G D ∧ ∀ n, D < n → p ∣ G n) ∧ ∀ G, IDp p A B G → (∀ n, D ≤ n → p ∣ G n) → ∀ n, p ∣ G n
theorem rtD_uniq {p : Int} {A B : PL} {D E : Int} (h : rtD p A B D) (k : rtD p A B E) : D = E := by
  have key : ∀ {D E : Int}, rtD p A B D → rtD p A B E → ¬ D < E := by
    intro D E h k lt
    obtain ⟨G, g1, g2, g3⟩ := h.1
    exact g2 (k.2 G g1 (fun n hn => g3 n (by omega)) D)
  have a := key h k
  have b := key k h
  omega
theorem ceq.refl {p : Int} (F : PL) : ceq p F F := fun n => by rw [Int.sub_self]; exact Int.dvd_zero p
theorem ceq.symm {p : Int} {F G : PL} (h : ceq p F G) : ceq p G F := fun n => by
  have := h n
  rw [← Int.neg_sub]
  exact Int.dvd_neg.2 this
theorem CLp.sh {p : Int} {S : PL → Prop} (h : CLp p S) {F : PL} (hF : S F) : ∀ k : Nat, S (fun n => F (n - (k : Int))) := by
  intro k
  induction k with
  | zero =>
    have e : (fun n => F (n - ((0 : Nat) : Int))) = F := by funext n; rw [show n - ((0 : Nat) : Int) = n by omega]
    rw [e]
    exact hF
  | succ k ih =>
    have := h.2.2.2 _ ih
    have e : (fun n => F (n - ((k + 1 : Nat) : Int))) = (fun n => (fun n => F (n - (k : Int))) (n - 1)) := by
      funext n
      show F _ = F _
      congr 1
      omega
    rw [e]
    exact this
theorem CLp.shI {p : Int} {S : PL → Prop} (h : CLp p S) {F : PL} (hF : S F) {k : Int} (hk : 0 ≤ k) : S (fun n => F (n - k)) := by
  have := h.sh hF k.toNat
  rw [show ((k.toNat : Nat) : Int) = k by omega] at this
  exact this
/-- one, and another so often and so far on -/
theorem CLp.comb {p : Int} {S : PL → Prop} (h : CLp p S) {F G H : PL} (hF : S F) (hG : S G) {c k : Int} (hk : 0 ≤ k) (e : ∀ n, p ∣ F n + c * G (n - k) - H n) : S H := h.1 _ _ (h.2.1 _ _ hF (h.2.2.1 c _ (h.shI hG hk))) e
theorem CLp.comb2 {p : Int} {S : PL → Prop} (h : CLp p S) {F G H : PL} (hG : S G) {c k : Int} (hk : 0 ≤ k) (e : ∀ n, p ∣ F n + c * G (n - k) - H n) : S F ↔ S H := by
  refine ⟨fun hF => h.comb hF hG hk e, fun hH => h.comb (c := -c) hH hG hk (fun n => ?_)⟩
  have := e n
  rw [show H n + -c * G (n - k) - F n = -(F n + c * G (n - k) - H n) by rw [Int.neg_mul]; omega]
  exact Int.dvd_neg.2 this
/-! products with what a list tells -/
def mulL : List Int → PL → PL
  | [], _ => fun _ => 0
  | u :: us, A => fun n => u * A n + mulL us A (n - 1)
def addL : List Int → List Int → List Int
  | [], vs => vs
  | u :: us, [] => u :: us
  | u :: us, v :: vs => (u + v) :: addL us vs
theorem mulL_add {A : PL} : ∀ (us vs : List Int) (n : Int), mulL (addL us vs) A n = mulL us A n + mulL vs A n := by
  intro us
  induction us with
  | nil => intro vs n; show mulL vs A n = 0 + _; omega
  | cons u us ih =>
    intro vs n
    cases vs with
    | nil => show mulL (u :: us) A n = _ + 0; omega
    | cons v vs =>
      show (u + v) * A n + mulL (addL us vs) A (n - 1) = (u * A n + mulL us A (n - 1)) + (v * A n + mulL vs A (n - 1))
      rw [ih, Int.add_mul]
      omega
theorem mulL_scale {A : PL} {c : Int} : ∀ (us : List Int) (n : Int), mulL (us.map (c * ·)) A n = c * mulL us A n := by
  intro us
  induction us with
  | nil => intro n; show (0 : Int) = c * 0; omega
  | cons u us ih =>
    intro n
    show (c * u) * A n + mulL (us.map (c * ·)) A (n - 1) = c * (u * A n + mulL us A (n - 1))
    rw [ih, Int.mul_add, Int.mul_assoc]
theorem prime_dvd {p x y : Int} (hp : PRI p) (h : p ∣ x * y) (hy : ¬ p ∣ y) : p ∣ x := by
  have p2 := hp.1
  have r0 := Int.emod_nonneg y (show p ≠ 0 by omega)
  have r1 := Int.emod_lt_of_pos y (show 0 < p by omega)
  have rn : y % p ≠ 0 := fun z => hy (Int.dvd_of_emod_eq_zero z)
  have d2 : p ∣ x * (y % p) := by
    have e := Int.mul_ediv_add_emod y p
    have : x * (y % p) = x * y - p * (x * (y / p)) := by
      rw [show y % p = y - p * (y / p) by omega, Int.mul_sub, ← Int.mul_assoc x p, Int.mul_comm x p, Int.mul_assoc]
    rw [this]
    exact Int.dvd_sub h (Int.dvd_mul_right _ _)
  have cp := hp.nat.cop (k := (y % p).toNat) (by omega) (by omega)
  have d3 : p.toNat ∣ x.natAbs * (y % p).toNat := by
    have := Int.natAbs_dvd_natAbs.2 d2
    rw [Int.natAbs_mul, show (y % p).natAbs = (y % p).toNat by omega, show p.natAbs = p.toNat by omega] at this
    exact this
  have d4 := Nat.Coprime.dvd_of_dvd_mul_right cp d3
  rw [← show p.natAbs = p.toNat by omega] at d4
  exact Int.natAbs_dvd_natAbs.1 d4
/-- a product that is lower than what it is made of is 0 -/
theorem mulL_low {p D : Int} {A : PL} (hp : PRI p) (hD : ¬ p ∣ A D) (hA : ∀ n, D < n → p ∣ A n) : ∀ (us : List Int), (∀ n, D ≤ n → p ∣ mulL us A n) → ∀ n, p ∣ mulL us A n := by
  intro us
  induction us with
  | nil => intro _ n; exact Int.dvd_zero p
  | cons u us ih =>
    intro h
    have low : ∀ n, p ∣ mulL us A n := by
      refine ih (fun n hn => ?_)
      have a : p ∣ u * A (n + 1) + mulL us A (n + 1 - 1) := h (n + 1) (by omega)
      rw [show n + 1 - 1 = n by omega] at a
      have b : p ∣ u * A (n + 1) := Int.dvd_mul_of_dvd_right (hA (n + 1) (by omega))
      have := Int.dvd_sub a b
      rw [show u * A (n + 1) + mulL us A n - u * A (n + 1) = mulL us A n by omega] at this
      exact this
    have hu : p ∣ u := by
      have a : p ∣ u * A D + mulL us A (D - 1) := h D (Int.le_refl D)
      have := Int.dvd_sub a (low (D - 1))
      rw [show u * A D + mulL us A (D - 1) - mulL us A (D - 1) = u * A D by omega] at this
      exact prime_dvd hp this hD
    intro n
    show p ∣ u * A n + mulL us A (n - 1)
    exact Int.dvd_add (Int.dvd_mul_of_dvd_left hu) (low _)
theorem rtD_base {p D : Int} {A B : PL} (hp : PRI p) (hD : ¬ p ∣ A D) (hA : ∀ n, D < n → p ∣ A n) (hB : ∀ n, p ∣ B n) : rtD p A B D := by
  refine ⟨⟨A, fun S _ a _ => a, hD, hA⟩, fun G hG low => ?_⟩
  have := hG (fun F => ∃ us, ceq p F (mulL us A)) ⟨?_, ?_, ?_, ?_⟩ ⟨[1], ?_⟩ ⟨[], ?_⟩
  · obtain ⟨us, hu⟩ := this
    have z := mulL_low hp hD hA us (fun n hn => by
      have a := low n hn
      have b := hu n
      have := Int.dvd_sub a b
      rw [show G n - (G n - mulL us A n) = mulL us A n by omega] at this
      exact this)
    intro n
    have := Int.dvd_add (hu n) (z n)
    rw [show G n - mulL us A n + mulL us A n = G n by omega] at this
    exact this
  · rintro F G ⟨us, hu⟩ h
    refine ⟨us, fun n => ?_⟩
    have := Int.dvd_sub (hu n) (h n)
    rw [show F n - mulL us A n - (F n - G n) = G n - mulL us A n by omega] at this
    exact this
  · rintro F G ⟨us, hu⟩ ⟨vs, hv⟩
    refine ⟨addL us vs, fun n => ?_⟩
    have := Int.dvd_add (hu n) (hv n)
    rw [mulL_add]
    rw [show F n + G n - (mulL us A n + mulL vs A n) = F n - mulL us A n + (G n - mulL vs A n) by omega]
    exact this
  · rintro c F ⟨us, hu⟩
    refine ⟨us.map (c * ·), fun n => ?_⟩
    rw [mulL_scale, ← Int.mul_sub]
    exact Int.dvd_mul_of_dvd_right (hu n)
  · rintro F ⟨us, hu⟩
    refine ⟨0 :: us, fun n => ?_⟩
    show p ∣ F (n - 1) - (0 * A n + mulL us A (n - 1))
    rw [Int.zero_mul, Int.zero_add]
    exact hu (n - 1)
  · intro n
    show p ∣ A n - (1 * A n + 0)
    rw [show A n - (1 * A n + 0) = 0 by omega]
    exact Int.dvd_zero p
  · intro n
    show p ∣ B n - 0
    rw [Int.sub_zero]
    exact hB n
/-- the same in common -/
def EQI (p : Int) (A B P T : PL) : Prop := ∀ S, CLp p S → ((S A ∧ S B) ↔ (S P ∧ S T))
theorem EQI.rt {p D : Int} {A B P T : PL} (h : EQI p A B P T) (k : rtD p A B D) : rtD p P T D := by
  have e : ∀ F, IDp p P T F ↔ IDp p A B F := by
    intro F
    constructor
    · intro q S c a b
      have := (h S c).1 ⟨a, b⟩
      exact q S c this.1 this.2
    · intro q S c a b
      have := (h S c).2 ⟨a, b⟩
      exact q S c this.1 this.2
  obtain ⟨⟨G, g1, g2, g3⟩, k2⟩ := k
  exact ⟨⟨G, (e G).2 g1, g2, g3⟩, fun G hG => k2 G ((e G).1 hG)⟩
/-! powers of the unknown -/
def mono (e : Int) : PL := fun n => if n = e then 1 else 0
def RQ (p : Int) (P F : PL) (e : Int) : Prop := ∀ S, CLp p S → S P → S (fun n => F n - mono e n)
/-- so much of a row by itself, moved on -/
def cvq (F : PL) (s : Int) : Nat → PL
  | 0 => fun _ => 0
  | i + 1 => fun n => cvq F s i n + F (i : Int) * F (n - ((i : Int) + s))
theorem cvq_S {p : Int} {S : PL → Prop} (h : CLp p S) {F H : PL} {s e : Int} (hs : 0 ≤ s) (hH : S H) (hF : ∀ n, F n = H n + mono e n) : ∀ i : Nat, ∃ K, S K ∧ ∀ n, cvq F s i n = K n + (if 0 ≤ n - e - s ∧ n - e - s < (i : Int) then F (n - e - s) else 0) := by
  intro i
  induction i with
  | zero =>
    refine ⟨fun n => 0 * H n, h.2.2.1 0 H hH, fun n => ?_⟩
    rw [if_neg (by omega)]
    show (0 : Int) = 0 * H n + 0
    omega
  | succ i ih =>
    obtain ⟨K, k1, k2⟩ := ih
    refine ⟨fun n => K n + F (i : Int) * H (n - ((i : Int) + s)), h.2.1 _ _ k1 (h.2.2.1 _ _ (h.shI hH (by omega))), fun n => ?_⟩
    show cvq F s i n + F (i : Int) * F (n - ((i : Int) + s)) = (K n + F (i : Int) * H (n - ((i : Int) + s))) + _
    rw [k2, hF (n - ((i : Int) + s)), Int.mul_add]
    unfold mono
    by_cases c : n - ((i : Int) + s) = e
    · rw [if_pos c, if_neg (by omega), if_pos (by omega), show n - e - s = (i : Int) by omega]
      omega
    · rw [if_neg c]
      by_cases c2 : 0 ≤ n - e - s ∧ n - e - s < (i : Int)
      · rw [if_pos c2, if_pos (by omega)]
        omega
      · rw [if_neg c2, if_neg (by omega)]
        omega
theorem RQ.sq {p : Int} {P F : PL} {e s : Int} (h : RQ p P F e) (he : 0 ≤ e) (hs : 0 ≤ s) (hF : ∀ n, ¬ (0 ≤ n ∧ n < 7) → F n = 0) : RQ p P (cvq F s 7) (2 * e + s) := by
  intro S c hP
  have hH := h S c hP
  obtain ⟨K, k1, k2⟩ := cvq_S (p := p) c (F := F) (e := e) (s := s) hs hH (fun n => by show F n = F n - mono e n + mono e n; omega) 7
  have hs2 := c.shI hH (k := e + s) (by omega)
  refine c.1 _ _ (c.2.1 _ _ k1 hs2) (fun n => ?_)
  have : (K n + (fun n => F (n - (e + s)) - mono e (n - (e + s))) n) - (cvq F s 7 n - mono (2 * e + s) n) = 0 := by
    show (K n + (F (n - (e + s)) - mono e (n - (e + s)))) - (cvq F s 7 n - mono (2 * e + s) n) = 0
    rw [k2]
    have m1 : mono e (n - (e + s)) = mono (2 * e + s) n := by
      unfold mono
      by_cases c : n = 2 * e + s
      · rw [if_pos c, if_pos (by omega)]
      · rw [if_neg c, if_neg (by omega)]
    rw [m1, show n - e - s = n - (e + s) by omega]
    by_cases c : 0 ≤ n - (e + s) ∧ n - (e + s) < ((7 : Nat) : Int)
    · rw [if_pos c]
      omega
    · rw [if_neg c, hF _ (by omega)]
      omega
  rw [this]
  exact Int.dvd_zero p
theorem RQ.of {p : Int} {P F G : PL} {e c k : Int} (h : RQ p P F e) (hk : 0 ≤ k) (hc : ∀ n, p ∣ F n + c * P (n - k) - G n) : RQ p P G e := by
  intro S cl hP
  refine cl.comb (c := c) (h S cl hP) hP hk (fun n => ?_)
  have := hc n
  rw [show F n - mono e n + c * P (n - k) - (G n - mono e n) = F n + c * P (n - k) - G n by omega]
  exact this
theorem RQ.sh {p : Int} {P F : PL} {e : Int} (h : RQ p P F e) : RQ p P (fun n => F (n - 1)) (e + 1) := by
  intro S cl hP
  have := cl.2.2.2 _ (h S cl hP)
  refine cl.1 _ _ this (fun n => ?_)
  have m1 : mono e (n - 1) = mono (e + 1) n := by
    unfold mono
    by_cases c : n = e + 1
    · rw [if_pos c, if_pos (by omega)]
    · rw [if_neg c, if_neg (by omega)]
  show p ∣ (F (n - 1) - mono e (n - 1)) - (F (n - 1) - mono (e + 1) n)
  rw [m1, Int.sub_self]
  exact Int.dvd_zero p
theorem RQ.cong {p : Int} {P F G : PL} {e : Int} (h : RQ p P F e) (hc : ceq p F G) : RQ p P G e := by
  intro S cl hP
  refine cl.1 _ _ (h S cl hP) (fun n => ?_)
  rw [show F n - mono e n - (G n - mono e n) = F n - G n by omega]
  exact hc n
/-- a row as a polynomial -/
def PA (g : Int → Int) (n : Int) : PL := fun k => if 0 ≤ k ∧ k < n then g k else 0
noncomputable def rootsN (p : Int) (P : PL) : Int := @dite _ (∃ D, rtD p P (fun n => mono p n - mono 1 n) D) (Classical.propDecidable _) (fun h => Classical.choose h) (fun _ => 0)
theorem rootsN_eq {p : Int} {P : PL} {D : Int} (h : rtD p P (fun n => mono p n - mono 1 n) D) : rootsN p P = D := by
  unfold rootsN
  have hx : ∃ D, rtD p P (fun n => mono p n - mono 1 n) D := ⟨D, h⟩
  rw [dif_pos hx]
  exact rtD_uniq (Classical.choose_spec hx) h
