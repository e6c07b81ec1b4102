/-! Plain law: ties: the network of tight arcs; what the twin lays of it -/
/-- one node, from the values of the nodes behind it: how many ways, the greatest and the smallest sum -/
def tie1 (fr to : Nat → Nat) (ti : Nat → Bool) (tl : Nat → Int) (v : Nat → Int × Int × Int) (n : Nat) : Nat → Option (Int × Int × Int)
  | 0 => none
  | i + 1 => if fr i = n ∧ ti i = true then (match tie1 fr to ti tl v n i with
      | none => some ((v (to i)).1, (v (to i)).2.1 + tl i, (v (to i)).2.2 + tl i)
      | some q => some (q.1 + (v (to i)).1, (if q.2.1 < (v (to i)).2.1 + tl i then (v (to i)).2.1 + tl i else q.2.1), (if (v (to i)).2.2 + tl i < q.2.2 then (v (to i)).2.2 + tl i else q.2.2)))
    else tie1 fr to ti tl v n i
def tieV (A : Nat) (fr to : Nat → Nat) (ti : Nat → Bool) (tl : Nat → Int) (t : Nat) : Nat → Nat → Int × Int × Int
  | 0, _ => (0, 0, 0)
  | k + 1, n => if n = t then (1, 0, 0) else (tie1 fr to ti tl (tieV A fr to ti tl t k) n A).getD (0, 0, 0)
theorem tie1_congr {fr to : Nat → Nat} {ti : Nat → Bool} {tl : Nat → Int} {v v' : Nat → Int × Int × Int} {n : Nat} : ∀ i, (∀ a, a < i → fr a = n → ti a = true → v (to a) = v' (to a)) → tie1 fr to ti tl v n i = tie1 fr to ti tl v' n i
  | 0, _ => rfl
  | i + 1, h => by
    have ih := tie1_congr (tl := tl) i (fun a ha => h a (by omega))
    unfold tie1
    by_cases c : fr i = n ∧ ti i = true
    · rw [if_pos c, if_pos c, ih, h i (by omega) c.1 c.2]
    · rw [if_neg c, if_neg c, ih]
theorem tie1_some {fr to : Nat → Nat} {ti : Nat → Bool} {tl : Nat → Int} {v : Nat → Int × Int × Int} {n : Nat} : ∀ {i a : Nat}, a < i → fr a = n → ti a = true → ∃ q, tie1 fr to ti tl v n i = some q
  | 0, a, h, _, _ => by omega
  | i + 1, a, h, h1, h2 => by
    unfold tie1
    by_cases c : fr i = n ∧ ti i = true
    · rw [if_pos c]
      cases tie1 fr to ti tl v n i with
      | none => exact ⟨_, rfl⟩
      | some q => exact ⟨_, rfl⟩
    · rw [if_neg c]
      exact tie1_some (i := i) (a := a) (by
        by_cases e : a = i
        · subst e; exact absurd ⟨h1, h2⟩ c
        · omega) h1 h2
/-- bounds of one node -/
theorem tie1_rng {fr to : Nat → Nat} {ti : Nat → Bool} {tl : Nat → Int} {v : Nat → Int × Int × Int} {n : Nat} {W H D : Int} (hW : 0 ≤ W) (hD : ∀ a, ti a = true → 0 ≤ tl a ∧ tl a ≤ D) (hv : ∀ a, fr a = n → ti a = true → (1 ≤ (v (to a)).1 ∧ (v (to a)).1 ≤ W) ∧ (0 ≤ (v (to a)).2.1 ∧ (v (to a)).2.1 ≤ H) ∧ (0 ≤ (v (to a)).2.2 ∧ (v (to a)).2.2 ≤ H)) :
    ∀ i q, tie1 fr to ti tl v n i = some q → (1 ≤ q.1 ∧ q.1 ≤ W * i) ∧ (0 ≤ q.2.1 ∧ q.2.1 ≤ H + D) ∧ (0 ≤ q.2.2 ∧ q.2.2 ≤ H + D)
  | 0, q, h => by cases h
  | i + 1, q, h => by
    have e1 : W * ((i + 1 : Nat) : Int) = W * i + W := by rw [Int.natCast_add, Int.mul_add]; simp
    have e2 : 0 ≤ W * (i : Int) := Int.mul_nonneg hW (by omega)
    unfold tie1 at h
    by_cases c : fr i = n ∧ ti i = true
    · rw [if_pos c] at h
      have h1 := hv i c.1 c.2
      have h2 := hD i c.2
      cases e : tie1 fr to ti tl v n i with
      | none =>
        rw [e] at h
        have h := Option.some.inj h
        subst h
        dsimp only
        omega
      | some q' =>
        have ih := tie1_rng hW hD hv i q' e
        rw [e] at h
        have h := Option.some.inj h
        subst h
        dsimp only
        refine ⟨by omega, ?_, ?_⟩
        · split <;> omega
        · split <;> omega
    · rw [if_neg c] at h
      have ih := tie1_rng hW hD hv i q h
      exact ⟨by omega, ih.2⟩
section
variable {N A : Nat} {fr to : Nat → Nat} {u : Nat → Prop} {fe tl : Nat → Int} {t : Nat}
theorem tgt_step (h : GN N A fr to u fe tl t) {a : Nat} (ht : tgt fr to (wcd u fe tl 1 0 0) (dC A fr to u fe tl t) a = true) :
    ∃ y, dC A fr to u fe tl t (to a) = some y ∧ dC A fr to u fe tl t (fr a) = some (y + fe a) ∧ y < y + fe a ∧ u a ∧ cntB N (dC A fr to u fe tl t) y + 1 ≤ cntB N (dC A fr to u fe tl t) (y + fe a) := by
  obtain ⟨x, y, hx, hy, hz⟩ := tgt_iff.mp ht
  obtain ⟨ua, rfl⟩ := (wcd_some a x).mp hx
  have d := h.2.2.1 a (h.1 a ua)
  have e : y + (1 * fe a + 0 * tl a + 0) = y + fe a := by omega
  rw [e] at hz
  exact ⟨y, hy, hz, by omega, ua, cntB_step (h.2.1 a (h.1 a ua)).2 hy (by omega)⟩
/-- the fuel does not matter -/
theorem tieV_st (h : GN N A fr to u fe tl t) : ∀ (k k' n : Nat) (z : Int), dC A fr to u fe tl t n = some z → cntB N (dC A fr to u fe tl t) z < k → cntB N (dC A fr to u fe tl t) z < k' →
    tieV A fr to (tgt fr to (wcd u fe tl 1 0 0) (dC A fr to u fe tl t)) tl t k n = tieV A fr to (tgt fr to (wcd u fe tl 1 0 0) (dC A fr to u fe tl t)) tl t k' n := by
  intro k
  induction k with
  | zero => intro k' n z _ h1; omega
  | succ k ih =>
    intro k' n z hz h1 h2
    cases k' with
    | zero => omega
    | succ k' =>
      unfold tieV
      by_cases e : n = t
      · rw [if_pos e, if_pos e]
      · rw [if_neg e, if_neg e, tie1_congr (v' := tieV A fr to (tgt fr to (wcd u fe tl 1 0 0) (dC A fr to u fe tl t)) tl t k')]
        intro a ha hf ht
        obtain ⟨y, hy, hy2, -, ua, hc⟩ := tgt_step h ht
        rw [hf, hz] at hy2
        have hy2 := Option.some.inj hy2
        rw [← hy2] at hc
        exact ih k' (to a) y hy (by omega) (by omega)
theorem cntB_9 (h : GN N A fr to u fe tl t) {n : Nat} {z : Int} (hz : dC A fr to u fe tl t n = some z) : cntB N (dC A fr to u fe tl t) z < 10 ∧ n < N := by
  have hn : n < N := by
    rcases Nat.lt_or_ge n N with h' | h'
    · exact h'
    · rw [(dC_sol h).2.2.2.2 n h'] at hz; cases hz
  have := cntB_top hn hz
  have := h.2.2.2.1
  exact ⟨by omega, hn⟩
/-- a node's value from those behind it, at full fuel -/
theorem tieV_eq (h : GN N A fr to u fe tl t) {n : Nat} {z : Int} (hz : dC A fr to u fe tl t n = some z) :
    tieV A fr to (tgt fr to (wcd u fe tl 1 0 0) (dC A fr to u fe tl t)) tl t 10 n = if n = t then (1, 0, 0) else (tie1 fr to (tgt fr to (wcd u fe tl 1 0 0) (dC A fr to u fe tl t)) tl (tieV A fr to (tgt fr to (wcd u fe tl 1 0 0) (dC A fr to u fe tl t)) tl t 10) n A).getD (0, 0, 0) := by
  have h1 := cntB_9 h hz
  rw [tieV_st h 10 11 n z hz h1.1 (by omega)]
  rfl
theorem tie_has (h : GN N A fr to u fe tl t) {n : Nat} {z : Int} (hz : dC A fr to u fe tl t n = some z) (hn : n ≠ t) : ∃ a, a < A ∧ fr a = n ∧ tgt fr to (wcd u fe tl 1 0 0) (dC A fr to u fe tl t) a = true := by
  obtain ⟨a, ha, hf, x, y, hx, hy, e⟩ := (dC_sol h).1.2.2.1 n hn z hz
  exact ⟨a, ha, hf, tgt_iff.mpr ⟨x, y, hx, hy, by rw [hf, hz, e]⟩⟩
theorem tieV_rng (h : GN N A fr to u fe tl t) (hA : A ≤ 24) : ∀ (k n : Nat) (z : Int), dC A fr to u fe tl t n = some z → cntB N (dC A fr to u fe tl t) z < k →
    (1 ≤ (tieV A fr to (tgt fr to (wcd u fe tl 1 0 0) (dC A fr to u fe tl t)) tl t k n).1 ∧ (tieV A fr to (tgt fr to (wcd u fe tl 1 0 0) (dC A fr to u fe tl t)) tl t k n).1 ≤ ((24 ^ k : Nat) : Int)) ∧
    (0 ≤ (tieV A fr to (tgt fr to (wcd u fe tl 1 0 0) (dC A fr to u fe tl t)) tl t k n).2.1 ∧ (tieV A fr to (tgt fr to (wcd u fe tl 1 0 0) (dC A fr to u fe tl t)) tl t k n).2.1 ≤ 9999 * (k : Int)) ∧
    (0 ≤ (tieV A fr to (tgt fr to (wcd u fe tl 1 0 0) (dC A fr to u fe tl t)) tl t k n).2.2 ∧ (tieV A fr to (tgt fr to (wcd u fe tl 1 0 0) (dC A fr to u fe tl t)) tl t k n).2.2 ≤ 9999 * (k : Int)) := by
  intro k
  induction k with
  | zero => intro n z _ h1; omega
  | succ k ih =>
    intro n z hz h1
    have e24 : ((24 ^ (k + 1) : Nat) : Int) = ((24 ^ k : Nat) : Int) * 24 := by rw [Nat.pow_succ]; simp
    have p24 : 1 ≤ 24 ^ k := Nat.pos_of_ne_zero (by have := Nat.pow_pos (n := k) (show 0 < 24 by omega); omega)
    unfold tieV
    by_cases e : n = t
    · rw [if_pos e]
      dsimp only
      omega
    · rw [if_neg e]
      obtain ⟨a, ha, hf, ht⟩ := tie_has h hz e
      obtain ⟨q, hq⟩ := tie1_some (fr := fr) (to := to) (ti := tgt fr to (wcd u fe tl 1 0 0) (dC A fr to u fe tl t)) (tl := tl) (v := tieV A fr to (tgt fr to (wcd u fe tl 1 0 0) (dC A fr to u fe tl t)) tl t k) ha hf ht
      have hr := tie1_rng (W := ((24 ^ k : Nat) : Int)) (H := 9999 * (k : Int)) (D := 9999) (by omega) (fun a ht => by
        obtain ⟨y, hy, hy2, -, ua, hc⟩ := tgt_step h ht
        have := h.2.2.1 a (h.1 a ua)
        omega) (fun a hf ht => by
        obtain ⟨y, hy, hy2, -, ua, hc⟩ := tgt_step h ht
        rw [hf, hz] at hy2
        have hy2 := Option.some.inj hy2
        rw [← hy2] at hc
        exact ih (to a) y hy (by omega)) A q hq
      rw [hq, Option.getD_some]
      have hm : ((24 ^ k : Nat) : Int) * (A : Int) ≤ ((24 ^ k : Nat) : Int) * 24 := Int.mul_le_mul_of_nonneg_left (by omega) (by omega)
      omega
end
