/-! Plain law: what a text says -/
def skF (β : Nat → Nat) (n : Nat) : Nat → Nat → Nat
  | 0, p => p
  | f + 1, p => if p < n ∧ β p = 32 then skF β n f (p + 1) else p
/-- past the blanks -/
def skp (β : Nat → Nat) (n p : Nat) : Nat := skF β n (n - p) p
def rnF (β : Nat → Nat) (n lo hi : Nat) : Nat → Nat → Nat
  | 0, p => p
  | f + 1, p => if p < n ∧ lo ≤ β p ∧ β p ≤ hi then rnF β n lo hi f (p + 1) else p
/-- past a run of letters or digits -/
def rnn (β : Nat → Nat) (n lo hi p : Nat) : Nat := rnF β n lo hi (n - p) p
def chA (β : Nat → Nat) (n p : Nat) : Int := if p < n then (β p : Int) else -1
def dvl (β : Nat → Nat) (s : Nat) : Nat → Nat
  | 0 => 0
  | k + 1 => 10 * dvl β s k + (β (s + k) - 48)
def isW (β : Nat → Nat) (s e : Nat) (l : List Nat) : Bool := decide (e - s = l.length) && (List.range l.length).all (fun i => β (s + i) == l.getD i 0)
def wArc : List Nat := [97, 114, 99]
def wTrip : List Nat := [116, 114, 105, 112]
def wToll : List Nat := [116, 111, 108, 108]
def wNodes : List Nat := [110, 111, 100, 101, 115]
/-- a fault: its kind and place; or what was read -/
abbrev PR (α : Type) : Type := (Nat × Nat) ⊕ α
/-- a number: its value, where it ends; the place is kept -/
def pNum (β : Nat → Nat) (n lo hi p : Nat) : PR (Nat × Nat × Nat) :=
  if skp β n p < n ∧ 48 ≤ β (skp β n p) ∧ β (skp β n p) ≤ 57 then
    (if lo ≤ dvl β (skp β n p) (rnn β n 48 57 (skp β n p) - skp β n p) ∧ dvl β (skp β n p) (rnn β n 48 57 (skp β n p) - skp β n p) ≤ hi then .inr (dvl β (skp β n p) (rnn β n 48 57 (skp β n p) - skp β n p), skp β n p, rnn β n 48 57 (skp β n p)) else .inl (2, skp β n p))
  else .inl (1, skp β n p)
def pEnds (β : Nat → Nat) (n : Nat) (ρ : Nat → Nat) (p : Nat) : PR (Nat × Nat × Nat) := match pNum β n 0 (ρ 0 - 1) p with
  | .inl e => .inl e
  | .inr y => match pNum β n 0 (ρ 0 - 1) y.2.2 with
    | .inl e => .inl e
    | .inr z => if z.1 = y.1 then .inl (3, z.2.1) else .inr (y.1, z.1, z.2.2)
def adA (ρ : Nat → Nat) (f t c m : Nat) : Nat → Nat := upN (upN (upN (upN (upN ρ (4 + 6 * ρ 1) f) (4 + 6 * ρ 1 + 1) t) (4 + 6 * ρ 1 + 2) c) (4 + 6 * ρ 1 + 3) m) 1 (ρ 1 + 1)
def adT (ρ : Nat → Nat) (f t d v : Nat) : Nat → Nat := upN (upN (upN (upN (upN ρ (148 + 4 * ρ 2) f) (148 + 4 * ρ 2 + 1) t) (148 + 4 * ρ 2 + 2) d) (148 + 4 * ρ 2 + 3) v) 2 (ρ 2 + 1)
def pMax (β : Nat → Nat) (n p : Nat) : PR (Nat × Nat) :=
  if skp β n p < n ∧ 97 ≤ β (skp β n p) ∧ β (skp β n p) ≤ 122 then
    (if isW β (skp β n p) (rnn β n 97 122 (skp β n p)) wToll = true then (match pNum β n 1 9999 (rnn β n 97 122 (skp β n p)) with
      | .inl e => .inl e
      | .inr y => .inr (y.1, y.2.2)) else .inl (1, skp β n p))
  else .inr (0, skp β n p)
def pArc (β : Nat → Nat) (n : Nat) (ρ : Nat → Nat) (s p : Nat) : PR ((Nat → Nat) × Nat) := if 24 ≤ ρ 1 then .inl (4, s) else match pEnds β n ρ p with
  | .inl e => .inl e
  | .inr y => match pNum β n 1 999 y.2.2 with
    | .inl e => .inl e
    | .inr z => match pMax β n z.2.2 with
      | .inl e => .inl e
      | .inr u => .inr (adA ρ y.1 y.2.1 z.1 u.1, u.2)
def pTrp (β : Nat → Nat) (n : Nat) (ρ : Nat → Nat) (s p : Nat) : PR ((Nat → Nat) × Nat) := if 6 ≤ ρ 2 then .inl (4, s) else match pEnds β n ρ p with
  | .inl e => .inl e
  | .inr y => match pNum β n 0 999 y.2.2 with
    | .inl e => .inl e
    | .inr z => match pNum β n 1 20 z.2.2 with
      | .inl e => .inl e
      | .inr u => .inr (adT ρ y.1 y.2.1 z.1 u.1, u.2.2)
def pStm (β : Nat → Nat) (n : Nat) (ρ : Nat → Nat) (p : Nat) : PR ((Nat → Nat) × Nat) :=
  if isW β (skp β n p) (rnn β n 97 122 (skp β n p)) wArc = true then pArc β n ρ (skp β n p) (rnn β n 97 122 (skp β n p))
  else if isW β (skp β n p) (rnn β n 97 122 (skp β n p)) wTrip = true then pTrp β n ρ (skp β n p) (rnn β n 97 122 (skp β n p))
  else .inl (1, skp β n p)
/-- all statements: a fault (kind, place, which statement) or the row -/
def pLp (β : Nat → Nat) (n : Nat) : Nat → (Nat → Nat) → Nat → Nat → (Nat × Nat × Nat) ⊕ (Nat → Nat)
  | 0, ρ, _, _ => .inr ρ
  | f + 1, ρ, k, p => if n ≤ skp β n p then .inr ρ else if β (skp β n p) = 59 then (match pStm β n ρ (skp β n p + 1) with
    | .inl e => .inl (e.1, e.2, k + 1)
    | .inr y => pLp β n f y.1 (k + 1) y.2) else .inl (1, skp β n p, k)
def rw0 (v : Nat) : Nat → Nat := fun i => if i = 0 then v else if i = 3 then 1 else 0
def pAll (β : Nat → Nat) (n : Nat) : (Nat × Nat × Nat) ⊕ (Nat → Nat) :=
  if isW β (skp β n 0) (rnn β n 97 122 (skp β n 0)) wNodes = true then (match pNum β n 2 10 (rnn β n 97 122 (skp β n 0)) with
    | .inl e => .inl (e.1, e.2, 0)
    | .inr y => pLp β n (n + 2) (rw0 y.1) 0 y.2.2)
  else .inl (1, skp β n 0, 0)
/-- the state after a load, what it answers -/
def loS (σ : SG) : SG := match pAll (sgB σ) (sgL σ) with
  | .inl e => (σ.1, σ.2.1, σ.2.2.1, σ.2.2.2.1, (0, sgB σ), (e.1, (e.2.2 : Int)), sgO σ)
  | .inr ρ => (ρ, [], σ.2.2.1, σ.2.2.2.1, (0, sgB σ), (0, -1), sgO σ)
def loI (σ : SG) : Int := match pAll (sgB σ) (sgL σ) with
  | .inl e => -100 - (e.2.1 : Int)
  | .inr ρ => (ρ 1 : Int)
section
variable {β : Nat → Nat} {n p lo hi : Nat}
theorem skp_no (h : ¬ (p < n ∧ β p = 32)) : skp β n p = p := by
  unfold skp
  cases e : n - p with
  | zero => rfl
  | succ f => rw [skF, if_neg h]
theorem skp_st (h1 : p < n) (h2 : β p = 32) : skp β n p = skp β n (p + 1) := by
  unfold skp
  rw [show n - p = n - (p + 1) + 1 by omega, skF, if_pos ⟨h1, h2⟩]
theorem skp_le : ∀ (d p : Nat), n - p = d → p ≤ skp β n p ∧ (skp β n p ≤ n ∨ skp β n p = p) ∧ ¬ (skp β n p < n ∧ β (skp β n p) = 32)
  | 0, p, h => by
    rw [skp_no (fun h' => by omega)]
    exact ⟨Nat.le_refl _, .inr rfl, fun h' => by omega⟩
  | d + 1, p, h => by
    by_cases c : p < n ∧ β p = 32
    · rw [skp_st c.1 c.2]
      obtain ⟨h1, h2, h3⟩ := skp_le d (p + 1) (by omega)
      exact ⟨by omega, by omega, h3⟩
    · rw [skp_no c]
      exact ⟨Nat.le_refl _, .inr rfl, c⟩
theorem skp_id : skp β n (skp β n p) = skp β n p := skp_no (skp_le _ p rfl).2.2
theorem rnn_no (h : ¬ (p < n ∧ lo ≤ β p ∧ β p ≤ hi)) : rnn β n lo hi p = p := by
  unfold rnn
  cases e : n - p with
  | zero => rfl
  | succ f => rw [rnF, if_neg h]
theorem rnn_st (h : p < n ∧ lo ≤ β p ∧ β p ≤ hi) : rnn β n lo hi p = rnn β n lo hi (p + 1) := by
  unfold rnn
  rw [show n - p = n - (p + 1) + 1 by omega, rnF, if_pos h]
theorem rnn_le : ∀ (d p : Nat), n - p = d → p ≤ rnn β n lo hi p ∧ (rnn β n lo hi p ≤ n ∨ rnn β n lo hi p = p) ∧ (¬ (rnn β n lo hi p < n ∧ lo ≤ β (rnn β n lo hi p) ∧ β (rnn β n lo hi p) ≤ hi)) ∧ ∀ k, p ≤ k → k < rnn β n lo hi p → k < n ∧ lo ≤ β k ∧ β k ≤ hi
  | 0, p, h => by
    rw [rnn_no (fun h' => by omega)]
    exact ⟨Nat.le_refl _, .inr rfl, fun h' => by omega, fun k h1 h2 => by omega⟩
  | d + 1, p, h => by
    by_cases c : p < n ∧ lo ≤ β p ∧ β p ≤ hi
    · rw [rnn_st c]
      obtain ⟨h1, h2, h3, h4⟩ := rnn_le d (p + 1) (by omega)
      refine ⟨by omega, by omega, h3, fun k k1 k2 => ?_⟩
      by_cases e : k = p
      · rw [e]; exact c
      · exact h4 k (by omega) k2
    · rw [rnn_no c]
      exact ⟨Nat.le_refl _, .inr rfl, c, fun k h1 h2 => by omega⟩
theorem pNum_le {y : Nat × Nat × Nat} (h : pNum β n lo hi p = .inr y) (hp : p ≤ n) : lo ≤ y.1 ∧ y.1 ≤ hi ∧ p < y.2.2 ∧ y.2.2 ≤ n ∧ y.2.1 = skp β n p := by
  unfold pNum at h
  by_cases c : skp β n p < n ∧ 48 ≤ β (skp β n p) ∧ β (skp β n p) ≤ 57
  · rw [if_pos c] at h
    split at h
    next c2 =>
      have h := Sum.inr.inj h
      rw [← h]
      have s1 := skp_le (β := β) (n := n) _ p rfl
      have r1 := rnn_le (β := β) (n := n) (lo := 48) (hi := 57) _ (skp β n p + 1) rfl
      rw [← rnn_st c] at r1
      exact ⟨c2.1, c2.2, by show p < rnn β n 48 57 (skp β n p); omega, by show rnn β n 48 57 (skp β n p) ≤ n; omega, rfl⟩
    next => cases h
  · rw [if_neg c] at h
    cases h
end
