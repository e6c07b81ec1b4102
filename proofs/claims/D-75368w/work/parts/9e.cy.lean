/-! Plain law: the component's nodes in reach -/
theorem cnB_sub {P Q : Nat → Bool} : ∀ n, (∀ i, i < n → P i = true → Q i = true) → cnB P n ≤ cnB Q n ∧ (cnB Q n ≤ cnB P n → ∀ i, i < n → P i = Q i)
  | 0, _ => ⟨Nat.le_refl _, fun _ i hi => by omega⟩
  | n + 1, h => by
    obtain ⟨h1, h2⟩ := cnB_sub n (fun i hi => h i (by omega))
    have hn := h n (by omega)
    unfold cnB
    cases ep : P n with
    | true =>
      rw [hn ep]
      refine ⟨Nat.add_le_add_right h1 _, fun hc i hi => ?_⟩
      by_cases c : i = n
      · subst c; rw [ep, hn ep]
      · exact h2 (by rw [if_pos rfl] at hc; omega) i (by omega)
    | false =>
      cases eq : Q n with
      | true =>
        rw [if_neg Bool.false_ne_true, if_pos rfl]
        exact ⟨by omega, fun hc => by omega⟩
      | false =>
        rw [if_neg Bool.false_ne_true]
        refine ⟨by omega, fun hc i hi => ?_⟩
        by_cases c : i = n
        · subst c; rw [ep, eq]
        · exact h2 (by omega) i (by omega)
theorem cnB_le10 {m : Nat} (h : m < 1024) : cnB m.testBit 64 ≤ 10 := by
  have hz : ∀ i, 10 ≤ i → m.testBit i = false := fun i hi => Nat.testBit_lt_two_pow (Nat.lt_of_lt_of_le h (Nat.pow_le_pow_right (by omega) hi : 2 ^ 10 ≤ 2 ^ i))
  have hk : ∀ k, cnB m.testBit (10 + k) ≤ 10 := fun k => by
    induction k with
    | zero =>
      have : ∀ n, cnB m.testBit n ≤ n := fun n => by
        induction n with
        | zero => exact Nat.le_refl _
        | succ n ih => unfold cnB; split <;> omega
      exact this 10
    | succ k ih =>
      show cnB m.testBit (10 + k) + (if m.testBit (10 + k) then 1 else 0) ≤ 10
      rw [hz (10 + k) (by omega), if_neg Bool.false_ne_true]
      omega
  exact hk 54
theorem cnB_pos {m n : Nat} (h : m.testBit n = true) (hn : n < 64) : 1 ≤ cnB m.testBit 64 := by
  have : ∀ k, n < k → 1 ≤ cnB m.testBit k := fun k => by
    induction k with
    | zero => intro h; omega
    | succ k ih =>
      intro hk
      unfold cnB
      by_cases c : n = k
      · subst c; rw [if_pos h]; omega
      · have := ih (by omega); omega
  exact this 64 hn
def leC (k set net : Nat) : hE := .inr (20, [.int (zN k), .ref set, .ref net])
section
variable {w : WH} {x s q F : Nat} {ρ : Nat → Nat} {ν : NH} {t a b ws m n I : Nat} {g : Nat → Int64} {st : Int32}
theorem c_card1 (hB : Bs w b ws g m st) (hm : m ≠ 0) : fJ17_cardinality b w = some (zN (cnB m.testBit 64), w) := by
  have h := c_card hB.n
  rw [show bit (fun k => if k = 0 then m else 0) = m.testBit from funext (bit_1 hB.2.2.2), show uM m = 1 from if_neg hm] at h
  exact h
theorem c_mkr (hB : Bs w b ws g m st) (hm : m < 2 ^ 31) : fX1_reachable_b119 b w = some (.inl (zN m), w) := by
  have r1 : hIs w b 0 = some () := c_C hB.1
  obtain ⟨r0, e0, hx0, -⟩ := c_nsb1 hB (f := 0) (by omega)
  have H : ∃ y, fX1_reachable_l129 b 0 (zI r0) w = some y ∧ y = (.inl (zN m), w) := by
    refine wh_dn (P := fun d y => ∃ fq r, d = 100 - fq ∧ fq ≤ 64 ∧ y = (zN (m % 2 ^ fq), zI r, w) ∧ NxB m.testBit fq r) ?_ 100 _ ⟨0, r0, rfl, by omega, by rw [Nat.pow_zero, Nat.mod_one]; rfl, hx0⟩
    rintro d y ⟨fq, r, rfl, hfq, rfl, hx⟩
    rcases msk_step hx with ⟨rfl, e⟩ | ⟨i, rfl, h1, h2, h3⟩
    · right
      refine ⟨_, ?_, rfl⟩
      rw [e]
      have n1 : (zI (-1) < zN 0) = True := eq_true (by decide)
      simp (disch := omega) only [b2_some, bd_some, nm_eq, Option.map_some, zN_lit, zN_add, zN_mul, zN_neg1, if_true, if_false, reduceIte, eq_self, Nat.reduceEqDiff, Nat.reduceAdd, Nat.reduceMul, Nat.reduceSub, Nat.reduceLeDiff, Nat.one_ne_zero, not_false_eq_true, Bool.false_eq_true, zN_eq, zN_lt, zN_le,  fX1_reachable_b129, n1]
    · left
      have hi : i < 31 := by
        by_cases c : i < 31
        · exact c
        · rw [Nat.testBit_lt_two_pow (Nat.lt_of_lt_of_le hm (Nat.pow_le_pow_right (by omega) (by omega)))] at h2
          cases h2
      obtain ⟨r', e4, hx4, -⟩ := c_nsb1 hB (f := i + 1) (by omega)
      have n1 : (zN i < zN 0) = False := by rw [zN_lt (by omega) (by omega)]; exact eq_false (by omega)
      refine ⟨(zN (m % 2 ^ (i + 1)), zI r', w), 100 - (i + 1), by omega, ?_, i + 1, r', rfl, by omega, rfl, hx4⟩
      rw [zI_cast, ← h3]
      simp (disch := omega) only [b2_some, bd_some, nm_eq, Option.map_some, zN_lit, zN_add, zN_mul, zN_neg1, if_true, if_false, reduceIte, eq_self, Nat.reduceEqDiff, Nat.reduceAdd, Nat.reduceMul, Nat.reduceSub, Nat.reduceLeDiff, Nat.one_ne_zero, not_false_eq_true, Bool.false_eq_true, zN_eq, zN_lt, zN_le,  fX1_reachable_b129, n1, zN_shlz, zN_or, r1, e4]
  obtain ⟨y, e, rfl⟩ := H
  simp (disch := omega) only [b2_some, bd_some, nm_eq, Option.map_some, zN_lit, zN_add, zN_mul, zN_neg1, if_true, if_false, reduceIte, eq_self, Nat.reduceEqDiff, Nat.reduceAdd, Nat.reduceMul, Nat.reduceSub, Nat.reduceLeDiff, Nat.one_ne_zero, not_false_eq_true, Bool.false_eq_true, zN_eq, zN_lt, zN_le,  fX1_reachable_b119, r1, e0]
  exact e
theorem c_beh (h : MR w x F s q ν ρ) (hB : Bs w b ws g m st) {k0 : Value} (hI : w.1 I = some (.inr (20, [k0, .ref b, .ref (nN ν)]))) {j : Nat} (hj : j ≤ ρ 1) : ∃ k, j ≤ k ∧ k ≤ ρ 1 ∧ fX13_behind I (zN j) w = some (zN k, w) ∧ (∀ c, j ≤ c → c < k → m.testBit (aFr ρ c) = false) ∧ (k < ρ 1 → m.testBit (aFr ρ k) = true) := by
  have hI' := h.inv
  have h1 := hI'.h1
  have r1 : gR w I 20 2 = some (some (nN ν)) := c_R hI 2
  have r2 : gR w I 20 1 = some (some b) := c_R hI 1
  have r3 : hIs w b 0 = some () := c_C hB.1
  have H : ∃ r, fX13_behind_l2 I (zN j) w = some r ∧ ∃ k, j ≤ k ∧ k ≤ ρ 1 ∧ r = (zN k, w) ∧ (∀ c, j ≤ c → c < k → m.testBit (aFr ρ c) = false) ∧ (k < ρ 1 → m.testBit (aFr ρ k) = true) := by
    refine wh_up (P := fun i y => i ≤ ρ 1 ∧ j ≤ i ∧ y = (zN i, w) ∧ ∀ c, j ≤ c → c < i → m.testBit (aFr ρ c) = false) (ρ 1) ?_ ?_ (ρ 1 - j) j _ (by omega) ⟨hj, Nat.le_refl _, rfl, fun c h1 h2 => by omega⟩
    · rintro i y hi ⟨-, hji, rfl, hc⟩
      have ci := hI'.ha hi
      have n1 : ¬ (ρ 1 ≤ i) := by omega
      have gt := c_get1 hB (k := aFr ρ i) (by omega)
      cases e : m.testBit (aFr ρ i) with
      | true =>
        right
        rw [e] at gt
        refine ⟨_, ?_, i, hji, by omega, rfl, hc, fun _ => e⟩
        simp (disch := omega) only [b2_some, bd_some, nm_eq, Option.map_some, zN_lit, zN_add, zN_mul, zN_neg1, if_true, if_false, reduceIte, eq_self, Nat.reduceEqDiff, Nat.reduceAdd, Nat.reduceMul, Nat.reduceSub, Nat.reduceLeDiff, Nat.one_ne_zero, not_false_eq_true, Bool.false_eq_true, zN_eq, zN_lt, zN_le,  fX13_behind_b2, r1, h.g0, h.g1, h.xI, h.1.FI, c_snet h.1.2.1, c_sI h.1.2.1, c_nal h.1.2.2.1, c_ntl h.1.2.2.1, c_nn h.1.2.2.1, c_alI h.1.2.2.1, c_tlI h.1.2.2.1, c_size h.1.2.2.1, c_size2 h.1.2.2.1, n1, r2, c_geta h.1.2.2.1 hI' hi, c_aI h.1.2.2.1 hi, c_from h.1.2.2.1 hi, r3, gt]
      | false =>
        left
        rw [e] at gt
        refine ⟨(zN (i + 1), w), ?_, by omega, by omega, rfl, fun c h1 h2 => ?_⟩
        · simp (disch := omega) only [b2_some, bd_some, nm_eq, Option.map_some, zN_lit, zN_add, zN_mul, zN_neg1, if_true, if_false, reduceIte, eq_self, Nat.reduceEqDiff, Nat.reduceAdd, Nat.reduceMul, Nat.reduceSub, Nat.reduceLeDiff, Nat.one_ne_zero, not_false_eq_true, Bool.false_eq_true, zN_eq, zN_lt, zN_le,  fX13_behind_b2, r1, h.g0, h.g1, h.xI, h.1.FI, c_snet h.1.2.1, c_sI h.1.2.1, c_nal h.1.2.2.1, c_ntl h.1.2.2.1, c_nn h.1.2.2.1, c_alI h.1.2.2.1, c_tlI h.1.2.2.1, c_size h.1.2.2.1, c_size2 h.1.2.2.1, n1, r2, c_geta h.1.2.2.1 hI' hi, c_aI h.1.2.2.1 hi, c_from h.1.2.2.1 hi, r3, gt]
        · by_cases d : c = i
          · subst d; exact e
          · exact hc c h1 (by omega)
    · rintro y ⟨-, hji, rfl, hc⟩
      refine ⟨_, ?_, ρ 1, hji, Nat.le_refl _, rfl, hc, fun h => by omega⟩
      simp (disch := omega) only [b2_some, bd_some, nm_eq, Option.map_some, zN_lit, zN_add, zN_mul, zN_neg1, if_true, if_false, reduceIte, eq_self, Nat.reduceEqDiff, Nat.reduceAdd, Nat.reduceMul, Nat.reduceSub, Nat.reduceLeDiff, Nat.one_ne_zero, not_false_eq_true, Bool.false_eq_true, zN_eq, zN_lt, zN_le,  fX13_behind_b2, r1, h.g0, h.g1, h.xI, h.1.FI, c_snet h.1.2.1, c_sI h.1.2.1, c_nal h.1.2.2.1, c_ntl h.1.2.2.1, c_nn h.1.2.2.1, c_alI h.1.2.2.1, c_tlI h.1.2.2.1, c_size h.1.2.2.1, c_size2 h.1.2.2.1, Nat.le_refl]
  obtain ⟨r, e, k, a1, a2, rfl, a3⟩ := H
  exact ⟨k, a1, a2, e, a3⟩
end
