set_option maxRecDepth 100000
/-! rings' numbers; values of a ring: products (component) -/
def RG (r b d s : Int) : Prop := r = 16 * b + 4 * d + s ∧ (0 ≤ b ∧ b ≤ 20001) ∧ (0 ≤ d ∧ d ≤ 2) ∧ (0 ≤ s ∧ s ≤ 3)
theorem RG.ri {r b d s : Int} (h : RG r b d s) : RI r := by
  obtain ⟨h1, h2, h3, h4⟩ := h
  constructor <;> omega
section RINGC
variable {m : MM} {Q : Int → MM → Prop} {r b d s : Int}
theorem c_size (h : RG r b d s) (k : Q s m) : P_X11_size r m Q := by
  unfold P_X11_size
  rw [iAnd3, show r % 4 = s by obtain ⟨h1, h2, h3, h4⟩ := h; omega]
  exact k
theorem c_depth (h : RG r b d s) (k : Q d m) : P_X11_depth r m Q := by
  unfold P_X11_depth
  rw [iAnd3, iShr2 h.ri, show r / 4 % 4 = d by obtain ⟨h1, h2, h3, h4⟩ := h; omega]
  exact k
theorem c_base (h : RG r b d s) (k : Q b m) : P_X11_base r m Q := by
  unfold P_X11_base
  rw [iShr4 h.ri, show r / 16 = b by obtain ⟨h1, h2, h3, h4⟩ := h; omega]
  exact k
theorem c_coef (h : RG r b d s) (k : Q (cof d) m) : P_X11_coefficients r m Q := by
  unfold P_X11_coefficients
  unfold cof at k
  obtain ⟨-, -, hd, -⟩ := id h
  refine c_depth h ⟨by constructor <;> omega, ?_⟩
  split
  case isTrue c => rw [if_pos c] at k; exact k
  case isFalse c =>
    rw [if_neg c] at k
    refine c_depth h ⟨by constructor <;> omega, ?_⟩
    split
    case isTrue c1 => rw [if_pos c1] at k; exact k
    case isFalse c1 => rw [if_neg c1] at k; exact k
def enn (s : Int) : Int := if s = 0 then 1 else s * s
def rws (s : Int) : Int := max 1 s
theorem c_entries (h : RG r b d s) (k : Q (enn s) m) : P_X11_entries r m Q := by
  unfold P_X11_entries
  unfold enn at k
  obtain ⟨-, -, -, hs⟩ := id h
  refine c_size h ⟨by constructor <;> omega, ?_⟩
  split
  case isTrue c => rw [if_pos c] at k; exact k
  case isFalse c => rw [if_neg c] at k; exact c_size h (c_size h k)
theorem c_plain (h : RG r b d s) (k : Q (16 * b + 4 * d) m) : P_X11_plain r m Q := by
  unfold P_X11_plain
  obtain ⟨h1, h2, h3, h4⟩ := id h
  rw [iAndM4 (by omega) h.ri, show r - r % 4 = 16 * b + 4 * d by omega]
  exact k
theorem enn_cs (hs : 0 ≤ s ∧ s ≤ 3) : (s = 0 ∧ enn s = 1 ∧ rws s = 1) ∨ (s = 1 ∧ enn s = 1 ∧ rws s = 1) ∨ (s = 2 ∧ enn s = 4 ∧ rws s = 2) ∨ (s = 3 ∧ enn s = 9 ∧ rws s = 3) := by
  have : s = 0 ∨ s = 1 ∨ s = 2 ∨ s = 3 := by omega
  rcases this with rfl | rfl | rfl | rfl
  · left; exact ⟨rfl, rfl, rfl⟩
  · right; left; exact ⟨rfl, rfl, rfl⟩
  · right; right; left; exact ⟨rfl, rfl, rfl⟩
  · right; right; right; exact ⟨rfl, rfl, rfl⟩
end RINGC
/-- cells of a value -/
def VS (d s : Int) : Int := 2 * cof d * enn s
/-- where an entry lies -/
def EA (d s i j : Int) : Int := 2 * cof d * (s * i + j)
theorem EA_bd {d s i j : Int} (hd : 0 ≤ d ∧ d ≤ 2) (hs : 0 ≤ s ∧ s ≤ 3) (hi : 0 ≤ i ∧ i < rws s) (hj : 0 ≤ j ∧ j < rws s) : 0 ≤ EA d s i j ∧ EA d s i j + 2 * cof d ≤ VS d s := by
  unfold EA VS
  rcases cof_cs hd with ⟨-, e⟩ | ⟨-, e⟩ | ⟨-, e⟩ <;> rw [e] <;> rcases enn_cs hs with ⟨rfl, e1, e2⟩ | ⟨rfl, e1, e2⟩ | ⟨rfl, e1, e2⟩ | ⟨rfl, e1, e2⟩ <;> rw [e1] <;> rw [e2] at hi hj <;> omega
theorem EA_ne {d s i j k l : Int} (hd : 0 ≤ d ∧ d ≤ 2) (hs : 0 ≤ s ∧ s ≤ 3) (hi : 0 ≤ i ∧ i < rws s) (hj : 0 ≤ j ∧ j < rws s) (hk : 0 ≤ k ∧ k < rws s) (hl : 0 ≤ l ∧ l < rws s) (hne : ¬ (i = k ∧ j = l)) : Dj (EA d s i j) (2 * cof d) (EA d s k l) (2 * cof d) := by
  unfold EA
  rcases cof_cs hd with ⟨-, e⟩ | ⟨-, e⟩ | ⟨-, e⟩ <;> rw [e] <;> rcases enn_cs hs with ⟨rfl, e1, e2⟩ | ⟨rfl, e1, e2⟩ | ⟨rfl, e1, e2⟩ | ⟨rfl, e1, e2⟩ <;> rw [e2] at hi hj hk hl <;> omega
theorem VS_bd {d s : Int} (hd : 0 ≤ d ∧ d ≤ 2) (hs : 0 ≤ s ∧ s ≤ 3) : 2 ≤ VS d s ∧ VS d s ≤ 882 := by
  unfold VS
  rcases cof_cs hd with ⟨-, e⟩ | ⟨-, e⟩ | ⟨-, e⟩ <;> rw [e] <;> rcases enn_cs hs with ⟨rfl, e1, e2⟩ | ⟨rfl, e1, e2⟩ | ⟨rfl, e1, e2⟩ | ⟨rfl, e1, e2⟩ <;> rw [e1] <;> omega
theorem cof_bd {d : Int} (hd : 0 ≤ d ∧ d ≤ 2) : 1 ≤ cof d ∧ cof d ≤ 49 := by
  rcases cof_cs hd with ⟨-, e⟩ | ⟨-, e⟩ | ⟨-, e⟩ <;> rw [e] <;> decide
abbrev VV : Type := Int → Int → Int → PP
/-- a value lies there (component) -/
def VC (g : Int → Int) (at_ d s : Int) (V : VV) : Prop := ∀ i j, (0 ≤ i ∧ i < rws s) → (0 ≤ j ∧ j < rws s) → Rw g (at_ + EA d s i j) (V i j) (cof d)
/-- its numbers are good -/
def NV (mu d s : Int) (V : VV) : Prop := ∀ i j, (0 ≤ i ∧ i < rws s) → (0 ≤ j ∧ j < rws s) → NBs mu (V i j) (cof d)
def setE (U : VV) (i j : Int) (w : Int → PP) : VV := fun k l => if k = i ∧ l = j then w else U k l
def zV : VV := fun _ _ => zr
def colG (f : Int → Int → EX (Int → PP)) (i : Int) : Nat → Int → VV → EX VV
  | 0, _, U => .ok U
  | n + 1, j, U => match f i j with
    | .error e => .error e
    | .ok w => colG f i n (j + 1) (setE U i j w)
def rowG (f : Int → Int → EX (Int → PP)) (c : Nat) : Nat → Int → VV → EX VV
  | 0, _, U => .ok U
  | n + 1, i, U => match colG f i c 0 U with
    | .error e => .error e
    | .ok U' => rowG f c n (i + 1) U'
/-- entries one behind another, row by row -/
def matS (f : Int → Int → EX (Int → PP)) (n : Nat) : EX VV := rowG f n n 0 zV
theorem colG_ok {f : Int → Int → EX (Int → PP)} {i : Int} : ∀ (n : Nat) (j : Int) (U U' : VV), colG f i n j U = .ok U' → (∀ l, j ≤ l → l < j + n → f i l = .ok (U' i l)) ∧ ∀ k l, ¬ (k = i ∧ j ≤ l ∧ l < j + n) → U' k l = U k l := by
  intro n
  induction n with
  | zero => intro j U U' h; cases h; exact ⟨fun l a b => by omega, fun _ _ _ => rfl⟩
  | succ n ih =>
    intro j U U' h
    unfold colG at h
    split at h
    case h_1 => cases h
    case h_2 w hw =>
      obtain ⟨h1, h2⟩ := ih _ _ _ h
      refine ⟨fun l a b => ?_, fun k l hn => ?_⟩
      · by_cases c : l = j
        · subst c
          rw [h2 i l (by omega)]
          unfold setE
          rw [if_pos ⟨rfl, rfl⟩]
          exact hw
        · exact h1 l (by omega) (by omega)
      · rw [h2 k l (by omega)]
        unfold setE
        rw [if_neg (by omega)]
theorem rowG_ok {f : Int → Int → EX (Int → PP)} {c : Nat} : ∀ (n : Nat) (i : Int) (U U' : VV), rowG f c n i U = .ok U' → (∀ k l : Int, i ≤ k → k < i + n → 0 ≤ l → l < c → f k l = .ok (U' k l)) ∧ ∀ k l : Int, ¬ (i ≤ k ∧ k < i + n ∧ 0 ≤ l ∧ l < c) → U' k l = U k l := by
  intro n
  induction n with
  | zero => intro i U U' h; cases h; exact ⟨fun k l a b _ _ => by omega, fun _ _ _ => rfl⟩
  | succ n ih =>
    intro i U U' h
    unfold rowG at h
    split at h
    case h_1 => cases h
    case h_2 W hw =>
      obtain ⟨c1, c2⟩ := colG_ok _ _ _ _ hw
      obtain ⟨h1, h2⟩ := ih _ _ _ h
      refine ⟨fun k l a b a0 b0 => ?_, fun k l hn => ?_⟩
      · by_cases c : k = i
        · subst c
          rw [h2 k l (by omega)]
          exact c1 l a0 (by omega)
        · exact h1 k l (by omega) (by omega) a0 b0
      · rw [h2 k l (by omega), c2 k l (by omega)]
theorem matS_ok {f : Int → Int → EX (Int → PP)} {n : Nat} {U : VV} (h : matS f n = .ok U) : (∀ k l : Int, (0 ≤ k ∧ k < n) → (0 ≤ l ∧ l < n) → f k l = .ok (U k l)) ∧ ∀ k l : Int, ¬ ((0 ≤ k ∧ k < n) ∧ (0 ≤ l ∧ l < n)) → U k l = zr := by
  obtain ⟨h1, h2⟩ := rowG_ok _ _ _ _ h
  exact ⟨fun k l a b => h1 k l (by omega) (by omega) b.1 b.2, fun k l a => h2 k l (by omega)⟩
theorem colG_err {f : Int → Int → EX (Int → PP)} {i : Int} {P : Int → Prop} (hf : ∀ i j e, f i j = .error e → P e) : ∀ (n : Nat) (j : Int) (U : VV) (e : Int), colG f i n j U = .error e → P e := by
  intro n
  induction n with
  | zero => intro j U e h; cases h
  | succ n ih =>
    intro j U e h
    unfold colG at h
    split at h
    case h_1 he => cases h; exact hf _ _ _ he
    case h_2 w hw => exact ih _ _ _ h
theorem rowG_err {f : Int → Int → EX (Int → PP)} {c : Nat} {P : Int → Prop} (hf : ∀ i j e, f i j = .error e → P e) : ∀ (n : Nat) (i : Int) (U : VV) (e : Int), rowG f c n i U = .error e → P e := by
  intro n
  induction n with
  | zero => intro i U e h; cases h
  | succ n ih =>
    intro i U e h
    unfold rowG at h
    split at h
    case h_1 he => cases h; exact colG_err hf _ _ _ _ he
    case h_2 w hw => exact ih _ _ _ h
def entG (mu d : Int) (V W : VV) (i j : Int) : Nat → Int → (Int → PP) → EX (Int → PP)
  | 0, _, a => .ok a
  | n + 1, l, a => match prodS mu d (V i l) (W l j) with
    | .error e => .error e
    | .ok t => match addR mu 0 (cof d).toNat a t with
      | .error e => .error e
      | .ok b => entG mu d V W i j n (l + 1) b
def entS (mu d : Int) (n : Nat) (V W : VV) (i j : Int) : EX (Int → PP) := match prodS mu d (V i 0) (W 0 j) with
  | .error e => .error e
  | .ok t => entG mu d V W i j (n - 1) 1 t
def mulV (mu d s : Int) (V W : VV) : EX VV := matS (entS mu d (rws s).toNat V W) (rws s).toNat
theorem entG_NB {mu d s : Int} {V W : VV} {i j : Int} (hM : MU mu) (hd : 0 ≤ d ∧ d ≤ 2) (hV : NV mu d s V) (hW : NV mu d s W) (hi : 0 ≤ i ∧ i < rws s) (hj : 0 ≤ j ∧ j < rws s) : ∀ (n : Nat) (l : Int) (a w : Int → PP), 0 ≤ l → l + n ≤ rws s → (∀ k, NB mu (a k)) → (∀ k, cof d ≤ k → a k = (0, 1)) → entG mu d V W i j n l a = .ok w → (∀ k, NB mu (w k)) ∧ ∀ k, cof d ≤ k → w k = (0, 1) := by
  have hc := cof_bd hd
  intro n
  induction n with
  | zero => intro l a w _ _ ha hz h; cases h; exact ⟨ha, hz⟩
  | succ n ih =>
    intro l a w l0 l1 ha hz h
    unfold entG at h
    split at h
    case h_1 => cases h
    case h_2 t ht =>
      split at h
      case h_1 => cases h
      case h_2 b hb =>
        have nt := prodS_NB hM hd (hV i l hi (by omega)) (hW l j (by omega) hj) ht
        refine ih (l + 1) b w (by omega) (by omega) (addR_NB hM (fun j _ _ => ha j) (fun j _ _ => nt.1 j) hb) (fun k hk => (addR_ok hb).2 k (by omega)) h
theorem entS_NB {mu d s : Int} {V W : VV} {i j : Int} {w : Int → PP} (hM : MU mu) (hd : 0 ≤ d ∧ d ≤ 2) (hV : NV mu d s V) (hW : NV mu d s W) (hi : 0 ≤ i ∧ i < rws s) (hj : 0 ≤ j ∧ j < rws s) (h : entS mu d (rws s).toNat V W i j = .ok w) : (∀ k, NB mu (w k)) ∧ ∀ k, cof d ≤ k → w k = (0, 1) := by
  unfold entS at h
  split at h
  case h_1 => cases h
  case h_2 t ht =>
    have nt := prodS_NB hM hd (hV i 0 hi (by omega)) (hW 0 j (by omega) hj) ht
    exact entG_NB hM hd hV hW hi hj _ 1 t w (by decide) (by omega) nt.1 nt.2 h
theorem entG_err {mu d : Int} {V W : VV} {i j e : Int} : ∀ (n : Nat) (l : Int) (a : Int → PP), entG mu d V W i j n l a = .error e → e = 1 ∨ e = 4 := by
  intro n
  induction n with
  | zero => intro l a h; cases h
  | succ n ih =>
    intro l a h
    unfold entG at h
    split at h
    case h_1 he => cases h; exact prodS_err he
    case h_2 t ht =>
      split at h
      case h_1 he => cases h; exact Or.inl (addR_err he)
      case h_2 b hb => exact ih _ _ h
theorem entS_err {mu d : Int} {n : Nat} {V W : VV} (i j e : Int) (h : entS mu d n V W i j = .error e) : e = 1 ∨ e = 4 := by
  unfold entS at h
  split at h
  case h_1 he => cases h; exact prodS_err he
  case h_2 t ht => exact entG_err _ _ _ h
theorem mulV_err {mu d s e : Int} {V W : VV} (h : mulV mu d s V W = .error e) : e = 1 ∨ e = 4 := rowG_err (P := fun e => e = 1 ∨ e = 4) (fun i j e => entS_err i j e) _ _ _ _ h
/-- normal: its numbers are good, outside of its ring it is clear -/
def NN (mu d s : Int) (V : VV) : Prop := (∀ i j k, NB mu (V i j k)) ∧ (∀ i j k, ¬ ((0 ≤ i ∧ i < rws s) ∧ (0 ≤ j ∧ j < rws s) ∧ k < cof d) → V i j k = (0, 1))
theorem NN.nv {mu d s : Int} {V : VV} (h : NN mu d s V) : NV mu d s V := fun i j _ _ k _ _ => h.1 i j k
theorem mulV_NN {mu d s : Int} {V W U : VV} (hM : MU mu) (hd : 0 ≤ d ∧ d ≤ 2) (hV : NV mu d s V) (hW : NV mu d s W) (h : mulV mu d s V W = .ok U) : NN mu d s U := by
  obtain ⟨h1, h2⟩ := matS_ok h
  have hr : ((rws s).toNat : Int) = rws s := by unfold rws; omega
  refine ⟨fun i j k => ?_, fun i j k hn => ?_⟩
  · by_cases c : (0 ≤ i ∧ i < rws s) ∧ (0 ≤ j ∧ j < rws s)
    · exact (entS_NB hM hd hV hW c.1 c.2 (h1 i j (by omega) (by omega))).1 k
    · rw [h2 i j (by omega)]; exact NB_zr hM
  · by_cases c : (0 ≤ i ∧ i < rws s) ∧ (0 ≤ j ∧ j < rws s)
    · exact (entS_NB hM hd hV hW c.1 c.2 (h1 i j (by omega) (by omega))).2 k (by omega)
    · rw [h2 i j (by omega)]; rfl
/-! the component's product of values -/
def SE (i : Int) : Prop := SP i ∨ 1157184 ≤ i ∧ i < 1157282
section MULC
variable {Q : Int → MM → Prop} {base mu d s x y to : Int} {V W : VV}
theorem mulC_err83 {K45 : Int → Int → Int → Int → Int → Int → Int → Int → MM → Prop} {K55 : Int → Int → Int → Int → Int → Int → Int → Int → Int → MM → Prop} {m : MM} {r : Nat} {c i j at_ l : Int} (hl : RI l) (hs : RI s) (he : RI (m 378 2)) (h0 : m 378 2 ≠ 0) (k : K55 x y to s d base c i (j + 1) m) : P_X8_multiply_83 Q K45 K55 (r + 1) x y to s d base c i j at_ l m := by
  refine ⟨hl, hs, ?_⟩
  by_cases c : s ≤ l
  · rw [if_pos c]; exact k
  · rw [if_neg c]
    refine ⟨he, ?_⟩
    rw [if_neg h0]
    exact k
theorem mulC_err55 {K45 : Int → Int → Int → Int → Int → Int → Int → Int → MM → Prop} {m : MM} {c i : Int} (hs : 0 ≤ s ∧ s ≤ 3) (he : RI (m 378 2)) (h0 : m 378 2 ≠ 0) (k : K45 x y to s d base c (i + 1) m) : ∀ (r : Nat) (j : Int), 0 ≤ j → s - j ≤ r → j ≤ s → P_X8_multiply_55 Q K45 (r + 1) x y to s d base c i j m := by
  intro r
  induction r with
  | zero =>
    intro j j0 j1 j2
    refine ⟨by constructor <;> omega, by constructor <;> omega, ?_⟩
    rw [if_pos (by omega)]
    exact k
  | succ r ih =>
    intro j j0 j1 j2
    refine ⟨by constructor <;> omega, by constructor <;> omega, ?_⟩
    split
    · exact k
    · exact ⟨1, mulC_err83 (by decide) (by constructor <;> omega) he h0 (ih (j + 1) (by omega) (by omega) (by omega))⟩
theorem mulC_err45 {m : MM} {c : Int} (hs : 0 ≤ s ∧ s ≤ 3) (he : RI (m 378 2)) (h0 : m 378 2 ≠ 0) (k : Q 0 m) : ∀ (r : Nat) (i : Int), 0 ≤ i → s - i ≤ r → i ≤ s → P_X8_multiply_45 Q (r + 1) x y to s d base c i m := by
  intro r
  induction r with
  | zero =>
    intro j j0 j1 j2
    refine ⟨by constructor <;> omega, by constructor <;> omega, ?_⟩
    rw [if_pos (by omega)]
    exact k
  | succ r ih =>
    intro j j0 j1 j2
    refine ⟨by constructor <;> omega, by constructor <;> omega, ?_⟩
    split
    · exact k
    · exact ⟨s.toNat + 1, mulC_err55 hs he h0 (ih (j + 1) (by omega) (by omega) (by omega)) _ 0 (by decide) (by omega) (by omega)⟩
/-- what a walk of one entry may change -/
def SI (a d : Int) (i : Int) : Prop := SE i ∨ a ≤ i ∧ i < a + 2 * cof d
theorem mulC_in (hd : 0 ≤ d ∧ d ≤ 2) (hs : 1 ≤ s ∧ s ≤ 3) (hb : RI base) (hM : MU mu) (hx : Cl x (VS d s)) (hy : Cl y (VS d s)) (ht : Cl to (VS d s)) (dx : Dj x (VS d s) 1157184 396) (dy : Dj y (VS d s) 1157184 396) (dt : Dj to (VS d s) 1157184 396) (ex : Dj x (VS d s) to (VS d s)) (ey : Dj y (VS d s) to (VS d s)) (nV : NV mu d s V) (nW : NV mu d s W) {K45 : Int → Int → Int → Int → Int → Int → Int → Int → MM → Prop} {K55 : Int → Int → Int → Int → Int → Int → Int → Int → Int → MM → Prop} {i j : Int} (hi : 0 ≤ i ∧ i < s) (hj : 0 ≤ j ∧ j < s) : ∀ (r : Nat) (l : Int) (a : Int → PP) (m : MM), 1 ≤ l → l + r = s → muC m base = mu → m 378 2 = 0 → VC (m 379) x d s V → VC (m 379) y d s W → Rw (m 379) (to + EA d s i j) a (cof d) → (∀ k, NB mu (a k)) → (∀ w m', entG mu d V W i j r l a = .ok w → Fc (SI (to + EA d s i j) d) m m' → m' 378 2 = 0 → Rw (m' 379) (to + EA d s i j) w (cof d) → K55 x y to s d base (cof d) i (j + 1) m') → (∀ e m', entG mu d V W i j r l a = .error e → Fc (SI (to + EA d s i j) d) m m' → m' 378 2 = e → K55 x y to s d base (cof d) i (j + 1) m') → P_X8_multiply_83 Q K45 K55 (r + 1) x y to s d base (cof d) i j (to + EA d s i j) l m := by
  have hr : rws s = s := by unfold rws; omega
  have hc := cof_bd hd
  have hcN : ((cof d).toNat : Int) = cof d := by omega
  have bd := EA_bd (d := d) (s := s) (i := i) (j := j) hd (by omega) (by omega) (by omega)
  intro r
  induction r with
  | zero =>
    intro l a m l1 hl hu he vx wy ra na ok er
    refine ⟨by constructor <;> omega, by constructor <;> omega, ?_⟩
    rw [if_pos (by omega)]
    exact ok a m rfl (Fc.refl m) he ra
  | succ r ih =>
    intro l a m l1 hl hu he vx wy ra na ok er
    have b1 := EA_bd (d := d) (s := s) (i := i) (j := l) hd (by omega) (by omega) (by omega)
    have b2 := EA_bd (d := d) (s := s) (i := l) (j := j) hd (by omega) (by omega) (by omega)
    refine ⟨by constructor <;> omega, by constructor <;> omega, ?_⟩
    rw [if_neg (by omega)]
    refine ⟨by rw [he]; decide, ?_⟩
    rw [if_pos he, if_neg (show ¬ l = 0 by omega)]
    unfold entG at ok er
    refine c_X8_product (u := V i l) (v := W l j) hd hb hu hM he (show Cl (x + EA d s i l) (2 * cof d) by omega) (show Cl (y + EA d s l j) (2 * cof d) by omega) (by omega) (show Dj (x + EA d s i l) (2 * cof d) 1157380 200 by omega) (show Dj (y + EA d s l j) (2 * cof d) 1157380 200 by omega) (by omega) (show Dj (x + EA d s i l) (2 * cof d) 1157184 (2 * cof d) by omega) (show Dj (y + EA d s l j) (2 * cof d) 1157184 (2 * cof d) by omega) (vx i l (by omega) (by omega)) (wy l j (by omega) (by omega)) (nV i l (by omega) (by omega)) (nW l j (by omega) (by omega)) ⟨fun t m1 h1 f1 e1 r1 => ?_, fun e m1 h1 f1 e1 => ?_⟩
    · rw [h1] at ok er
      simp only at ok er
      have nt := prodS_NB hM hd (nV i l (by omega) (by omega)) (nW l j (by omega) (by omega)) h1
      have f1' : Fc (SI (to + EA d s i j) d) m m1 := f1.mono (fun q z => by unfold SI SE; unfold SP at z ⊢; omega)
      refine ⟨by rw [e1]; decide, ?_⟩
      rw [if_pos e1, if_neg (by omega)]
      have ra1 : Rw (m1 379) (to + EA d s i j) a (cof d) := ra.fr f1 (fun q q0 q1 z => by unfold SP at z; omega)
      rw [← hcN] at r1 ra1
      have key := c_X8_addAll (n := (cof d).toNat) (u := a) (v := t) (Q := fun r2 m2 => P_X8_multiply_83 Q K45 K55 (r + 1) x y to s d base (cof d) i j (to + EA d s i j) (l + 1) m2) (ls := 0) (to := to + EA d s i j) (x := to + EA d s i j) (y := 1157184) hb (by rw [f1.mu, hu]) hM (by decide) e1 (by omega) (by omega) (by omega) (Or.inl rfl) (by omega) ra1 r1 (fun q _ _ => na q) (fun q _ _ => nt.1 q) ⟨fun b m2 h2 f2 e2 r2 => ?_, fun e m2 h2 f2 e2 => ?_⟩
      · rw [hcN] at key
        exact key
      · rw [h2] at ok er
        simp only at ok er
        rw [hcN] at r2 f2
        have f2' : Fc (SI (to + EA d s i j) d) m m2 := f1'.trans (f2.mono (fun q z => by unfold SI; omega))
        refine ih (l + 1) b m2 (by omega) (by omega) (by rw [f2'.mu, hu]) e2 (fun i' j' hi' hj' => ?_) (fun i' j' hi' hj' => ?_) r2 (addR_NB hM (fun q _ _ => na q) (fun q _ _ => nt.1 q) h2) (fun w m' a1 a2 a3 a4 => ok w m' a1 (f2'.trans a2) a3 a4) (fun e m' a1 a2 a3 => er e m' a1 (f2'.trans a2) a3)
        · have b3 := EA_bd (d := d) (s := s) (i := i') (j := j') hd (by omega) hi' hj'
          exact (vx i' j' hi' hj').fr f2' (fun q q0 q1 z => by unfold SI SE SP at z; omega)
        · have b3 := EA_bd (d := d) (s := s) (i := i') (j := j') hd (by omega) hi' hj'
          exact (wy i' j' hi' hj').fr f2' (fun q q0 q1 z => by unfold SI SE SP at z; omega)
      · rw [h2] at er
        rw [hcN] at f2
        have := addR_err h2
        refine mulC_err83 (by constructor <;> omega) (by constructor <;> omega) (by rw [e2, this]; decide) (by rw [e2]; omega) ?_
        exact er e m2 rfl (f1'.trans (f2.mono (fun q z => by unfold SI; omega))) e2
    · rw [h1] at er
      have := prodS_err h1
      refine ⟨by rw [e1]; constructor <;> omega, ?_⟩
      rw [if_neg (by rw [e1]; omega)]
      refine mulC_err83 (by constructor <;> omega) (by constructor <;> omega) (by rw [e1]; constructor <;> omega) (by rw [e1]; omega) ?_
      exact er e m1 rfl (f1.mono (fun q z => by unfold SI SE; unfold SP at z ⊢; omega)) e1
theorem mulC_ent (hd : 0 ≤ d ∧ d ≤ 2) (hs : 1 ≤ s ∧ s ≤ 3) (hb : RI base) (hM : MU mu) (hx : Cl x (VS d s)) (hy : Cl y (VS d s)) (ht : Cl to (VS d s)) (dx : Dj x (VS d s) 1157184 396) (dy : Dj y (VS d s) 1157184 396) (dt : Dj to (VS d s) 1157184 396) (ex : Dj x (VS d s) to (VS d s)) (ey : Dj y (VS d s) to (VS d s)) (nV : NV mu d s V) (nW : NV mu d s W) {K45 : Int → Int → Int → Int → Int → Int → Int → Int → MM → Prop} {K55 : Int → Int → Int → Int → Int → Int → Int → Int → Int → MM → Prop} {i j : Int} (hi : 0 ≤ i ∧ i < s) (hj : 0 ≤ j ∧ j < s) {m : MM} (hu : muC m base = mu) (he : m 378 2 = 0) (vx : VC (m 379) x d s V) (wy : VC (m 379) y d s W) (ok : ∀ w m', entS mu d (rws s).toNat V W i j = .ok w → Fc (SI (to + EA d s i j) d) m m' → m' 378 2 = 0 → Rw (m' 379) (to + EA d s i j) w (cof d) → K55 x y to s d base (cof d) i (j + 1) m') (er : ∀ e m', entS mu d (rws s).toNat V W i j = .error e → Fc (SI (to + EA d s i j) d) m m' → m' 378 2 = e → K55 x y to s d base (cof d) i (j + 1) m') : ∃ nn, P_X8_multiply_83 Q K45 K55 nn x y to s d base (cof d) i j (to + EA d s i j) 0 m := by
  have hr : rws s = s := by unfold rws; omega
  have hc := cof_bd hd
  have bd := EA_bd (d := d) (s := s) (i := i) (j := j) hd (by omega) (by omega) (by omega)
  have b1 := EA_bd (d := d) (s := s) (i := i) (j := 0) hd (by omega) (by omega) (by omega)
  have b2 := EA_bd (d := d) (s := s) (i := 0) (j := j) hd (by omega) (by omega) (by omega)
  refine ⟨(s - 1).toNat + 1 + 1, ?_⟩
  refine ⟨by decide, by constructor <;> omega, ?_⟩
  rw [if_neg (by omega)]
  refine ⟨by rw [he]; decide, ?_⟩
  rw [if_pos he, if_pos rfl]
  unfold entS at ok er
  refine c_X8_product (u := V i 0) (v := W 0 j) hd hb hu hM he (show Cl (x + EA d s i 0) (2 * cof d) by omega) (show Cl (y + EA d s 0 j) (2 * cof d) by omega) (by omega) (show Dj (x + EA d s i 0) (2 * cof d) 1157380 200 by omega) (show Dj (y + EA d s 0 j) (2 * cof d) 1157380 200 by omega) (by omega) (show Dj (x + EA d s i 0) (2 * cof d) (to + EA d s i j) (2 * cof d) by omega) (show Dj (y + EA d s 0 j) (2 * cof d) (to + EA d s i j) (2 * cof d) by omega) (vx i 0 (by omega) (by omega)) (wy 0 j (by omega) (by omega)) (nV i 0 (by omega) (by omega)) (nW 0 j (by omega) (by omega)) ⟨fun t m1 h1 f1 e1 r1 => ?_, fun e m1 h1 f1 e1 => ?_⟩
  · rw [h1] at ok er
    simp only at ok er
    have nt := prodS_NB hM hd (nV i 0 (by omega) (by omega)) (nW 0 j (by omega) (by omega)) h1
    have f1' : Fc (SI (to + EA d s i j) d) m m1 := f1.mono (fun q z => by unfold SI SE; unfold SP at z ⊢; omega)
    refine ⟨by rw [e1]; decide, ?_⟩
    rw [if_pos e1, if_pos (by decide)]
    have key := mulC_in (Q := Q) (K45 := K45) (K55 := K55) hd hs hb hM hx hy ht dx dy dt ex ey nV nW hi hj (s - 1).toNat 1 t m1 (by decide) (by omega) (by rw [f1.mu, hu]) e1 (fun i' j' hi' hj' => ?_) (fun i' j' hi' hj' => ?_) r1 nt.1 (fun w m' a1 a2 a3 a4 => ok w m' (by rw [show (rws s).toNat - 1 = (s - 1).toNat by omega]; exact a1) (f1'.trans a2) a3 a4) (fun e m' a1 a2 a3 => er e m' (by rw [show (rws s).toNat - 1 = (s - 1).toNat by omega]; exact a1) (f1'.trans a2) a3)
    · exact key
    · have b3 := EA_bd (d := d) (s := s) (i := i') (j := j') hd (by omega) hi' hj'
      exact (vx i' j' hi' hj').fr f1' (fun q q0 q1 z => by unfold SI SE SP at z; omega)
    · have b3 := EA_bd (d := d) (s := s) (i := i') (j := j') hd (by omega) hi' hj'
      exact (wy i' j' hi' hj').fr f1' (fun q q0 q1 z => by unfold SI SE SP at z; omega)
  · rw [h1] at er
    have := prodS_err h1
    refine ⟨by rw [e1]; constructor <;> omega, ?_⟩
    rw [if_neg (by rw [e1]; omega)]
    refine mulC_err83 (by decide) (by constructor <;> omega) (by rw [e1]; constructor <;> omega) (by rw [e1]; omega) ?_
    exact er e m1 rfl (f1.mono (fun q z => by unfold SI SE; unfold SP at z ⊢; omega)) e1
/-- what is done ahead of an entry -/
def DE (g : Int → Int) (to d s i j : Int) (U : VV) : Prop := ∀ k l, 0 ≤ k → 0 ≤ l → l < s → (k < i ∨ k = i ∧ l < j) → Rw g (to + EA d s k l) (U k l) (cof d)
def SM (to d s : Int) (q : Int) : Prop := SE q ∨ to ≤ q ∧ q < to + VS d s
theorem mulC_55 (hd : 0 ≤ d ∧ d ≤ 2) (hs : 1 ≤ s ∧ s ≤ 3) (hb : RI base) (hM : MU mu) (hx : Cl x (VS d s)) (hy : Cl y (VS d s)) (ht : Cl to (VS d s)) (dx : Dj x (VS d s) 1157184 396) (dy : Dj y (VS d s) 1157184 396) (dt : Dj to (VS d s) 1157184 396) (ex : Dj x (VS d s) to (VS d s)) (ey : Dj y (VS d s) to (VS d s)) (nV : NV mu d s V) (nW : NV mu d s W) {K45 : Int → Int → Int → Int → Int → Int → Int → Int → MM → Prop} {i : Int} (hi : 0 ≤ i ∧ i < s) : ∀ (r : Nat) (j : Int) (U : VV) (m : MM), 0 ≤ j → j + r = s → muC m base = mu → m 378 2 = 0 → VC (m 379) x d s V → VC (m 379) y d s W → DE (m 379) to d s i j U → (∀ U' m', colG (entS mu d (rws s).toNat V W) i r j U = .ok U' → Fc (SM to d s) m m' → m' 378 2 = 0 → DE (m' 379) to d s (i + 1) 0 U' → K45 x y to s d base (cof d) (i + 1) m') → (∀ e m', colG (entS mu d (rws s).toNat V W) i r j U = .error e → Fc (SM to d s) m m' → m' 378 2 = e → K45 x y to s d base (cof d) (i + 1) m') → P_X8_multiply_55 Q K45 (r + 1) x y to s d base (cof d) i j m := by
  intro r
  induction r with
  | zero =>
    intro j U m j0 j1 hu he vx wy de ok er
    refine ⟨by constructor <;> omega, by constructor <;> omega, ?_⟩
    rw [if_pos (by omega)]
    exact ok U m rfl (Fc.refl m) he (fun k l k0 l0 l1 c => de k l k0 l0 l1 (by omega))
  | succ r ih =>
    intro j U m j0 j1 hu he vx wy de ok er
    have hr : rws s = s := by unfold rws; omega
    have bd := EA_bd (d := d) (s := s) (i := i) (j := j) hd (by omega) (by omega) (by omega)
    have hc := cof_bd hd
    refine ⟨by constructor <;> omega, by constructor <;> omega, ?_⟩
    rw [if_neg (by omega)]
    unfold colG at ok er
    refine mulC_ent hd hs hb hM hx hy ht dx dy dt ex ey nV nW hi (by omega) hu he vx wy (fun w m1 hw f1 e1 r1 => ?_) (fun e m1 hw f1 e1 => ?_)
    · rw [hw] at ok er
      simp only at ok er
      have f1' : Fc (SM to d s) m m1 := f1.mono (fun q z => Or.imp id (fun z => by omega) z)
      refine ih (j + 1) (setE U i j w) m1 (by omega) (by omega) (by rw [f1.mu, hu]) e1 (fun i' j' hi' hj' => ?_) (fun i' j' hi' hj' => ?_) (fun k l k0 l0 l1 c => ?_) (fun U' m' a1 a2 a3 a4 => ok U' m' a1 (f1'.trans a2) a3 a4) (fun e m' a1 a2 a3 => er e m' a1 (f1'.trans a2) a3)
      · have b3 := EA_bd (d := d) (s := s) (i := i') (j := j') hd (by omega) hi' hj'
        exact (vx i' j' hi' hj').fr f1 (fun q q0 q1 z => by unfold SI SE SP at z; omega)
      · have b3 := EA_bd (d := d) (s := s) (i := i') (j := j') hd (by omega) hi' hj'
        exact (wy i' j' hi' hj').fr f1 (fun q q0 q1 z => by unfold SI SE SP at z; omega)
      · unfold setE
        by_cases cc : k = i ∧ l = j
        · rw [if_pos cc, cc.1, cc.2]; exact r1
        · rw [if_neg cc]
          have b3 := EA_bd (d := d) (s := s) (i := k) (j := l) hd (by omega) (by omega) (by omega)
          have b4 := EA_ne (d := d) (s := s) (i := k) (j := l) (k := i) (l := j) hd (by omega) (by omega) (by omega) (by omega) (by omega) cc
          exact (de k l k0 l0 l1 (by omega)).fr f1 (fun q q0 q1 z => by unfold SI SE SP at z; omega)
    · rw [hw] at er
      have := entS_err _ _ _ hw
      refine mulC_err55 (by omega) (by rw [e1]; constructor <;> omega) (by rw [e1]; omega) (er e m1 rfl (f1.mono (fun q z => Or.imp id (fun z => by omega) z)) e1) _ _ (by omega) (by omega) (by omega)
/-- how it goes on: a value is made at a place, or an error is told -/
def OutV (S : Int → Prop) (m : MM) (r : EX VV) (to d s : Int) (Q : Int → MM → Prop) : Prop := (∀ U m', r = .ok U → Fc S m m' → m' 378 2 = 0 → VC (m' 379) to d s U → Q 0 m') ∧ (∀ e m', r = .error e → Fc S m m' → m' 378 2 = e → Q 0 m')
theorem c_X8_multiply {r b : Int} {m : MM} (hR : RG r b d s) (hmu : muC m b = mu) (hM : MU mu) (he : m 378 2 = 0) (hx : Cl x (VS d s)) (hy : Cl y (VS d s)) (ht : Cl to (VS d s)) (dx : Dj x (VS d s) 1157184 396) (dy : Dj y (VS d s) 1157184 396) (dt : Dj to (VS d s) 1157184 396) (ex : Dj x (VS d s) to (VS d s)) (ey : Dj y (VS d s) to (VS d s)) (vx : VC (m 379) x d s V) (wy : VC (m 379) y d s W) (nV : NV mu d s V) (nW : NV mu d s W) (h : OutV (SM to d s) m (mulV mu d s V W) to d s Q) : P_X8_multiply r x y to m Q := by
  obtain ⟨-, hb, hd, hs⟩ := id hR
  unfold P_X8_multiply
  refine c_size hR (c_depth hR (c_base hR (c_coef hR ⟨by constructor <;> omega, ?_⟩)))
  have hc := cof_bd hd
  by_cases c : s = 0
  · rw [if_pos c]
    subst c
    have hv : VS d 0 = 2 * cof d := by unfold VS enn; rw [if_pos rfl]; omega
    have hea : EA d 0 0 0 = 0 := by unfold EA; omega
    rw [hv] at hx hy ht dx dy dt ex ey
    have r0 : rws 0 = 1 := rfl
    have vx0 := vx 0 0 (by rw [r0]; decide) (by rw [r0]; decide)
    have wy0 := wy 0 0 (by rw [r0]; decide) (by rw [r0]; decide)
    rw [hea, Int.add_zero] at vx0 wy0
    refine c_X8_product hd (by constructor <;> omega) hmu hM he hx hy ht (by omega) (by omega) (by omega) ex ey vx0 wy0 (nV 0 0 (by rw [r0]; decide) (by rw [r0]; decide)) (nW 0 0 (by rw [r0]; decide) (by rw [r0]; decide)) ⟨fun t m1 h1 f1 e1 r1 => ?_, fun e m1 h1 f1 e1 => ?_⟩
    · refine h.1 (setE zV 0 0 t) m1 ?_ (f1.mono (fun q z => by unfold SM SE; unfold SP at z ⊢; omega)) e1 ?_
      · show rowG (entS mu d 1 V W) 1 1 0 zV = _
        unfold rowG colG entS
        rw [h1]
        rfl
      · intro i j hi hj
        rw [r0] at hi hj
        have : i = 0 := by omega
        subst this
        have : j = 0 := by omega
        subst this
        rw [hea, Int.add_zero]
        exact r1
    · refine h.2 e m1 ?_ (f1.mono (fun q z => by unfold SM SE; unfold SP at z ⊢; omega)) e1
      show rowG (entS mu d 1 V W) 1 1 0 zV = _
      unfold rowG colG entS
      rw [h1]
  · rw [if_neg c]
    have hr : rws s = s := by unfold rws; omega
    have L : ∀ (r : Nat) (i : Int) (U : VV) (m' : MM), 0 ≤ i → i + r = s → Fc (SM to d s) m m' → m' 378 2 = 0 → DE (m' 379) to d s i 0 U → rowG (entS mu d (rws s).toNat V W) (rws s).toNat r i U = mulV mu d s V W → P_X8_multiply_45 Q (r + 1) x y to s d b (cof d) i m' := by
      intro r
      induction r with
      | zero =>
        intro i U m' i0 i1 f e de hs'
        refine ⟨by constructor <;> omega, by constructor <;> omega, ?_⟩
        rw [if_pos (by omega)]
        exact h.1 U m' hs'.symm f e (fun k l hk hl => de k l hk.1 hl.1 (by omega) (by omega))
      | succ r ih =>
        intro i U m' i0 i1 f e de hs'
        refine ⟨by constructor <;> omega, by constructor <;> omega, ?_⟩
        rw [if_neg (by omega)]
        unfold rowG at hs'
        refine ⟨(rws s).toNat + 1, mulC_55 hd (by omega) (by constructor <;> omega) hM hx hy ht dx dy dt ex ey nV nW (by omega) _ 0 U m' (by decide) (by omega) (by rw [f.mu, hmu]) e (fun i' j' hi' hj' => ?_) (fun i' j' hi' hj' => ?_) de (fun U' m1 a1 a2 a3 a4 => ?_) (fun e1 m1 a1 a2 a3 => ?_)⟩
        · have b3 := EA_bd (d := d) (s := s) (i := i') (j := j') hd (by omega) hi' hj'
          exact (vx i' j' hi' hj').fr f (fun q q0 q1 z => by unfold SM SE SP at z; omega)
        · have b3 := EA_bd (d := d) (s := s) (i := i') (j := j') hd (by omega) hi' hj'
          exact (wy i' j' hi' hj').fr f (fun q q0 q1 z => by unfold SM SE SP at z; omega)
        · rw [a1] at hs'
          exact ih (i + 1) U' m1 (by omega) (by omega) (f.trans a2) a3 a4 hs'
        · rw [a1] at hs'
          have := colG_err (P := fun e => e = 1 ∨ e = 4) (fun i j e => entS_err i j e) _ _ _ _ a1
          refine mulC_err45 (by omega) (by rw [a3]; constructor <;> omega) (by rw [a3]; omega) (h.2 e1 m1 hs'.symm (f.trans a2) a3) _ _ (by omega) (by omega) (by omega)
    exact ⟨s.toNat + 1, L s.toNat 0 zV m (by decide) (by omega) (Fc.refl m) he (fun k l k0 l0 l1 cc => by omega) (by unfold mulV matS; rw [hr])⟩
end MULC
