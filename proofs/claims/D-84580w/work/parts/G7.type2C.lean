set_option maxRecDepth 100000
/-! the component's parser: rings over rings -/
section TYPE2C
variable {T : MM → Prop} {tk : Int → TK} {N b : Int}
/-- a ring that was read -/
def TyOk (tk : Int → TK) (N b k0 s : Int) (Q : Int → MM → Prop) (m : MM) (o : Int) (a : PT) (q : Int) : Prop := ∀ k m', PC m' tk N b q o → Fnw b k0 m m' → TN m' b a.1 a.2 k0 (m' b 0) k → m' (b + 3) k = -1 → m' b 0 + s ≤ q → Q k m'
def TyC (tk : Int → TK) (N b : Int) (T : MM → Prop) (f : Nat) (rec : Nat → List Int → MM → (Int → MM → Prop) → (MM → Prop) → Prop) : Prop := ∀ (p o k0 s : Int) (m : MM) (Q : Int → MM → Prop), 13 - o < f → PC m tk N b p o → m b 0 = k0 → 0 ≤ k0 ∧ 0 ≤ s ∧ k0 + s ≤ p → (∀ a q, pT tk f p o = .ok (a, q) → TyOk tk N b k0 s Q m o a q) → (∀ e, pT tk f p o = .error e → PEr T b m e) → rec 0 [] m Q T
theorem Fnw.trans {lo lo' : Int} {m m1 m2 : MM} (h : Fnw b lo m m1) (g : Fnw b lo' m1 m2) (hl : lo ≤ lo') : Fnw b lo m m2 := fun c i z z' z'' => (g c i (fun y => z ⟨y.1, by omega⟩) z' z'').trans (h c i z z' z'')
theorem Fnw.per {lo : Int} {m m' : MM} {e : Int × Int} (hb : isTx b) (h : Fnw b lo m m') (k : PEr T b m e) : PEr T b m' e := k.fr (fun c i z z' => h c i (fun y => z (by omega)) (fun y => z (by omega)) (fun y => z' y.1))
end TYPE2C
