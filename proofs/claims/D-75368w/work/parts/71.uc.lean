/-! Plain law: the twin counts ties -/
/-- behind a node in the order of what is felt from it on -/
def Bh (l : Nat → Int) (b f : Int) (n : Nat) : Prop := f < l n ∨ (l n = f ∧ b < (n : Int))
section
variable {T : TW} {ρ : Nat → Nat} {m fz : Nat} {aw : Int} {t : Nat}
theorem tw_nn (hR : RowT T ρ) (hI : Inv ρ) {l : Nat → Int} (hl : ∀ n, n < 10 → -1 ≤ l n ∧ l n ≤ 269811) (hL : ∀ n, n < 10 → tA T 9 n = zI (l n)) {b f : Int} (hb : -1 ≤ b ∧ b < 10) (hf : -1 ≤ f ∧ f ≤ 269811) :
    ∃ r : Int, fX5_nextNode (zI b) (zI f) T = some (zI r, T) ∧ ((r = -1 ∧ ∀ n, n < ρ 0 → l n ≠ -1 → ¬ Bh l b f n) ∨ (∃ n : Nat, r = n ∧ n < ρ 0 ∧ l n ≠ -1 ∧ Bh l b f n ∧ ∀ n', n' < ρ 0 → l n' ≠ -1 → Bh l b f n' → l n < l n' ∨ (l n = l n' ∧ n ≤ n'))) := by
  have h0 := hI.h0
  have H : ∃ r, fX5_nextNode_l5 (zI b) (zI f) (-1) 0 T = some r ∧ ∃ x : Int, r = (zI x, T) ∧ ((x = -1 ∧ ∀ n, n < ρ 0 → l n ≠ -1 → ¬ Bh l b f n) ∨ (∃ n : Nat, x = n ∧ n < ρ 0 ∧ l n ≠ -1 ∧ Bh l b f n ∧ ∀ n', n' < ρ 0 → l n' ≠ -1 → Bh l b f n' → l n < l n' ∨ (l n = l n' ∧ n ≤ n'))) := by
    refine wh_up (P := fun i s => i ≤ ρ 0 ∧ ∃ x : Int, s = (zI x, zN i, T) ∧ ((x = -1 ∧ ∀ n, n < i → l n ≠ -1 → ¬ Bh l b f n) ∨ (∃ n : Nat, x = n ∧ n < i ∧ l n ≠ -1 ∧ Bh l b f n ∧ ∀ n', n' < i → l n' ≠ -1 → Bh l b f n' → l n < l n' ∨ (l n = l n' ∧ n ≤ n')))) (ρ 0) ?_ ?_ (ρ 0) 0 _ (by omega) ⟨by omega, -1, rfl, .inl ⟨rfl, fun n hn => by omega⟩⟩
    · rintro i s hi ⟨-, x, rfl, hx⟩
      have n1 : ¬ (ρ 0 ≤ i) := by omega
      have hli := hl i (by omega)
      have q1 : (zI f < zI (l i)) = (f < l i) := zI_lt (by omega) (by omega)
      have q2 : (zI (l i) = zI f) = (l i = f) := zI_eq (by omega) (by omega)
      have q3 : (zN i ≤ zI b) = ((i : Int) ≤ b) := zI_le (by omega) (by omega)
      have q4 : (zI (l i) = zI (-1)) = (l i = -1) := zI_eq (by omega) (by omega)
      -- the body goes to b49 with whether it is behind
      have hB : (Bh l b f i → fX5_nextNode_b5 (zI b) (zI f) (zI x) (zN i) T = fX5_nextNode_b49 (zI b) (zI f) (zI x) (zN i) (zN 1) T) ∧ (¬ Bh l b f i → fX5_nextNode_b5 (zI b) (zI f) (zI x) (zN i) T = fX5_nextNode_b49 (zI b) (zI f) (zI x) (zN i) (zN 0) T) := by
        constructor
        · rintro (h | ⟨h, h'⟩)
          · rw [eq_true h] at q1
            simp (disch := omega) only [b2_some, bd_some, nm_eq, Option.map_some, zN_lit, zN_add, zN_mul, zN_neg1, if_true, if_false, reduceIte, eq_self, Nat.reduceEqDiff, Nat.reduceAdd, Nat.reduceMul, Nat.reduceSub, Nat.reduceLeDiff, Nat.one_ne_zero, not_false_eq_true, Bool.false_eq_true, zN_eq, zN_lt, zN_le,  fX5_nextNode_b5, tw_rd hR, n1, rd_N, hL, q1, fX5_nextNode_b44]
          · rw [eq_false (show ¬ (f < l i) by omega)] at q1
            rw [eq_true h] at q2
            rw [eq_false (show ¬ ((i : Int) ≤ b) by omega)] at q3
            simp (disch := omega) only [b2_some, bd_some, nm_eq, Option.map_some, zN_lit, zN_add, zN_mul, zN_neg1, if_true, if_false, reduceIte, eq_self, Nat.reduceEqDiff, Nat.reduceAdd, Nat.reduceMul, Nat.reduceSub, Nat.reduceLeDiff, Nat.one_ne_zero, not_false_eq_true, Bool.false_eq_true, zN_eq, zN_lt, zN_le,  fX5_nextNode_b5, tw_rd hR, n1, rd_N, hL, q1, q2, q3, fX5_nextNode_b44]
        · intro hn
          have h1 : ¬ (f < l i) := fun h => hn (.inl h)
          rw [eq_false h1] at q1
          by_cases h2 : l i = f
          · rw [eq_true h2] at q2
            rw [eq_true (show (i : Int) ≤ b by
              rcases Int.lt_or_le b i with h | h
              · exact absurd (.inr ⟨h2, h⟩) hn
              · exact h)] at q3
            simp (disch := omega) only [b2_some, bd_some, nm_eq, Option.map_some, zN_lit, zN_add, zN_mul, zN_neg1, if_true, if_false, reduceIte, eq_self, Nat.reduceEqDiff, Nat.reduceAdd, Nat.reduceMul, Nat.reduceSub, Nat.reduceLeDiff, Nat.one_ne_zero, not_false_eq_true, Bool.false_eq_true, zN_eq, zN_lt, zN_le,  fX5_nextNode_b5, tw_rd hR, n1, rd_N, hL, q1, q2, q3, fX5_nextNode_b48]
          · rw [eq_false h2] at q2
            simp (disch := omega) only [b2_some, bd_some, nm_eq, Option.map_some, zN_lit, zN_add, zN_mul, zN_neg1, if_true, if_false, reduceIte, eq_self, Nat.reduceEqDiff, Nat.reduceAdd, Nat.reduceMul, Nat.reduceSub, Nat.reduceLeDiff, Nat.one_ne_zero, not_false_eq_true, Bool.false_eq_true, zN_eq, zN_lt, zN_le,  fX5_nextNode_b5, tw_rd hR, n1, rd_N, hL, q1, q2, fX5_nextNode_b48]
      left
      by_cases hfin : l i = -1
      · rw [eq_true hfin] at q4
        refine ⟨(zI x, zN (i + 1), T), ?_, by omega, x, rfl, ?_⟩
        · by_cases hh : Bh l b f i
          · rw [hB.1 hh]; simp (disch := omega) only [b2_some, bd_some, nm_eq, Option.map_some, zN_lit, zN_add, zN_mul, zN_neg1, if_true, if_false, reduceIte, eq_self, Nat.reduceEqDiff, Nat.reduceAdd, Nat.reduceMul, Nat.reduceSub, Nat.reduceLeDiff, Nat.one_ne_zero, not_false_eq_true, Bool.false_eq_true, zN_eq, zN_lt, zN_le,  fX5_nextNode_b49, rd_N, hL, q4, fX5_nextNode_b91]
          · rw [hB.2 hh]; simp (disch := omega) only [b2_some, bd_some, nm_eq, Option.map_some, zN_lit, zN_add, zN_mul, zN_neg1, if_true, if_false, reduceIte, eq_self, Nat.reduceEqDiff, Nat.reduceAdd, Nat.reduceMul, Nat.reduceSub, Nat.reduceLeDiff, Nat.one_ne_zero, not_false_eq_true, Bool.false_eq_true, zN_eq, zN_lt, zN_le,  fX5_nextNode_b49, rd_N, hL, q4, fX5_nextNode_b91]
        · rcases hx with ⟨h1, h2⟩ | ⟨n, h1, h2, h3, h4, h5⟩
          · refine .inl ⟨h1, fun n hn hf' => ?_⟩
            by_cases e : n = i
            · subst e; exact absurd hfin hf'
            · exact h2 n (by omega) hf'
          · refine .inr ⟨n, h1, by omega, h3, h4, fun n' hn' hf' hb' => ?_⟩
            by_cases e : n' = i
            · subst e; exact absurd hfin hf'
            · exact h5 n' (by omega) hf' hb'
      · rw [eq_false hfin] at q4
        by_cases hh : Bh l b f i
        · rcases hx with ⟨h1, h2⟩ | ⟨n, h1, h2, h3, h4, h5⟩
          · refine ⟨(zN i, zN (i + 1), T), ?_, by omega, i, rfl, .inr ⟨i, rfl, by omega, hfin, hh, fun n' hn' hf' hb' => ?_⟩⟩
            · subst h1
              rw [hB.1 hh]; simp (disch := omega) only [b2_some, bd_some, nm_eq, Option.map_some, zN_lit, zN_add, zN_mul, zN_neg1, if_true, if_false, reduceIte, eq_self, Nat.reduceEqDiff, Nat.reduceAdd, Nat.reduceMul, Nat.reduceSub, Nat.reduceLeDiff, Nat.one_ne_zero, not_false_eq_true, Bool.false_eq_true, zN_eq, zN_lt, zN_le,  fX5_nextNode_b49, rd_N, hL, q4, fX5_nextNode_b88, fX5_nextNode_b91]
            · by_cases e : n' = i
              · subst e; exact .inr ⟨rfl, Nat.le_refl _⟩
              · exact absurd hb' (h2 n' (by omega) hf')
          · subst h1
            have hln := hl n (by omega)
            have q5 : (zN n = zI (-1)) = False := zN_ne_m1 (by omega)
            have q6 : (zI (l n) ≤ zI (l i)) = (l n ≤ l i) := zI_le (by omega) (by omega)
            by_cases hc : l n ≤ l i
            · rw [eq_true hc] at q6
              refine ⟨(zN n, zN (i + 1), T), ?_, by omega, n, rfl, .inr ⟨n, rfl, by omega, h3, h4, fun n' hn' hf' hb' => ?_⟩⟩
              · rw [hB.1 hh, zI_cast]; simp (disch := omega) only [b2_some, bd_some, nm_eq, Option.map_some, zN_lit, zN_add, zN_mul, zN_neg1, if_true, if_false, reduceIte, eq_self, Nat.reduceEqDiff, Nat.reduceAdd, Nat.reduceMul, Nat.reduceSub, Nat.reduceLeDiff, Nat.one_ne_zero, not_false_eq_true, Bool.false_eq_true, zN_eq, zN_lt, zN_le,  fX5_nextNode_b49, rd_N, hL, q4, q5, q6, fX5_nextNode_b91]
              · by_cases e : n' = i
                · subst e; omega
                · exact h5 n' (by omega) hf' hb'
            · rw [eq_false hc] at q6
              refine ⟨(zN i, zN (i + 1), T), ?_, by omega, i, rfl, .inr ⟨i, rfl, by omega, hfin, hh, fun n' hn' hf' hb' => ?_⟩⟩
              · rw [hB.1 hh, zI_cast]; simp (disch := omega) only [b2_some, bd_some, nm_eq, Option.map_some, zN_lit, zN_add, zN_mul, zN_neg1, if_true, if_false, reduceIte, eq_self, Nat.reduceEqDiff, Nat.reduceAdd, Nat.reduceMul, Nat.reduceSub, Nat.reduceLeDiff, Nat.one_ne_zero, not_false_eq_true, Bool.false_eq_true, zN_eq, zN_lt, zN_le,  fX5_nextNode_b49, rd_N, hL, q4, q5, q6, fX5_nextNode_b88, fX5_nextNode_b91]
              · by_cases e : n' = i
                · subst e; exact .inr ⟨rfl, Nat.le_refl _⟩
                · have := h5 n' (by omega) hf' hb'
                  omega
        · refine ⟨(zI x, zN (i + 1), T), ?_, by omega, x, rfl, ?_⟩
          · rw [hB.2 hh]; simp (disch := omega) only [b2_some, bd_some, nm_eq, Option.map_some, zN_lit, zN_add, zN_mul, zN_neg1, if_true, if_false, reduceIte, eq_self, Nat.reduceEqDiff, Nat.reduceAdd, Nat.reduceMul, Nat.reduceSub, Nat.reduceLeDiff, Nat.one_ne_zero, not_false_eq_true, Bool.false_eq_true, zN_eq, zN_lt, zN_le,  fX5_nextNode_b49, rd_N, hL, q4, fX5_nextNode_b91]
          · rcases hx with ⟨h1, h2⟩ | ⟨n, h1, h2, h3, h4, h5⟩
            · refine .inl ⟨h1, fun n hn hf' => ?_⟩
              by_cases e : n = i
              · subst e; exact hh
              · exact h2 n (by omega) hf'
            · refine .inr ⟨n, h1, by omega, h3, h4, fun n' hn' hf' hb' => ?_⟩
              by_cases e : n' = i
              · subst e; exact absurd hb' hh
              · exact h5 n' (by omega) hf' hb'
    · rintro s ⟨-, x, rfl, hx⟩
      refine ⟨_, ?_, x, rfl, hx⟩
      simp (disch := omega) only [b2_some, bd_some, nm_eq, Option.map_some, zN_lit, zN_add, zN_mul, zN_neg1, if_true, if_false, reduceIte, eq_self, Nat.reduceEqDiff, Nat.reduceAdd, Nat.reduceMul, Nat.reduceSub, Nat.reduceLeDiff, Nat.one_ne_zero, not_false_eq_true, Bool.false_eq_true, zN_eq, zN_lt, zN_le,  fX5_nextNode_b5, tw_rd hR, Nat.le_refl]
  obtain ⟨r, e, x, rfl, h⟩ := H
  exact ⟨x, e, h⟩
/-- a node's values lie in the arrays -/
def VAt (T : TW) (n : Nat) (q : Int × Int × Int) : Prop := tB T 12 n = zJ q.1 ∧ tA T 10 n = zI q.2.1 ∧ tA T 11 n = zI q.2.2
def tieZ (q0 : Int × Int × Int) (o : Option (Int × Int × Int)) : Int × Int × Int := o.getD q0
theorem lT_lI {n : Nat} {z : Int} (h : lT ρ m aw fz t n = some z) : lI ρ m aw fz t n = z := by unfold lI; rw [h]; rfl
theorem vT_rng (hI : Inv ρ) (ht : t < ρ 2) {n : Nat} {z : Int} (hz : lT ρ m aw fz t n = some z) : (1 ≤ (vT ρ m aw fz t n).1 ∧ (vT ρ m aw fz t n).1 ≤ ((24 ^ 10 : Nat) : Int)) ∧ (0 ≤ (vT ρ m aw fz t n).2.1 ∧ (vT ρ m aw fz t n).2.1 ≤ 99990) ∧ (0 ≤ (vT ρ m aw fz t n).2.2 ∧ (vT ρ m aw fz t n).2.2 ≤ 99990) := by
  have hG := tw_GN (m := m) (aw := aw) (fz := fz) hI ht
  exact tieV_rng hG hI.h1 10 n z hz (cntB_9 hG hz).1
theorem tiT_step (hI : Inv ρ) (ht : t < ρ 2) {a : Nat} (h : tiT ρ m aw fz t a = true) : ∃ y, lT ρ m aw fz t (aTo ρ a) = some y ∧ lT ρ m aw fz t (aFr ρ a) = some (y + feI ρ (pVa ρ t) a) ∧ y < y + feI ρ (pVa ρ t) a ∧ a < ρ 1 := by
  obtain ⟨y, h1, h2, h3, h4, -⟩ := tgt_step (tw_GN (m := m) (aw := aw) (fz := fz) hI ht) h
  exact ⟨y, h1, h2, h3, h4.1⟩
theorem lT_last (hI : Inv ρ) (ht : t < ρ 2) : lT ρ m aw fz t (pTo ρ t) = some 0 := (dC_sol (tw_GN (m := m) (aw := aw) (fz := fz) hI ht)).1.1
noncomputable def tieT (ρ : Nat → Nat) (m : Nat) (aw : Int) (fz t n i : Nat) : Option (Int × Int × Int) := tie1 (aFr ρ) (aTo ρ) (tiT ρ m aw fz t) (tlI ρ) (vT ρ m aw fz t) n i
theorem tieT_rng (hI : Inv ρ) (ht : t < ρ 2) {n i : Nat} {q : Int × Int × Int} (h : tieT ρ m aw fz t n i = some q) : (0 ≤ q.2.1 ∧ q.2.1 ≤ 109989) ∧ (0 ≤ q.2.2 ∧ q.2.2 ≤ 109989) := by
  have := tie1_rng (W := ((24 ^ 10 : Nat) : Int)) (H := 99990) (D := 9999) (by omega) (fun a ha => by
    obtain ⟨y, h1, h2, h3, h4⟩ := tiT_step hI ht ha
    have := hI.ha h4
    unfold tlI
    omega) (fun a _ ha => by
    obtain ⟨y, h1, h2, h3, h4⟩ := tiT_step hI ht ha
    exact vT_rng hI ht h1) i q h
  omega
/-- one node is laid, the next one is found -/
theorem tw_node (hQ : QT T ρ m aw fz) (ht : t < ρ 2) (hL : ∀ n, n < 10 → tA T 9 n = zI (lI ρ m aw fz t n)) {n : Nat} (hn : n < 10)
    (hd : ∀ a, a < ρ 1 → aFr ρ a = n → tiT ρ m aw fz t a = true → VAt T (aTo ρ a) (vT ρ m aw fz t (aTo ρ a))) {q0 : Int × Int × Int} (h0 : VAt T n q0) (hq0 : n ≠ pTo ρ t → q0 = (0, -2147483648, 2147483647)) (v2 : Int32) :
    ∃ (r : Int) (T' : TW), fX5_laysTies_l79 (zN t) v2 (zN n) 0 T = some (.inl (zI r, T')) ∧ K4 T T' ∧ tA T' 9 = tA T 9 ∧ VAt T' n (tieZ q0 (tieT ρ m aw fz t n (ρ 1))) ∧ (∀ n', n' ≠ n → ∀ q, VAt T n' q → VAt T' n' q) ∧
    ((r = -1 ∧ ∀ n', n' < ρ 0 → lI ρ m aw fz t n' ≠ -1 → ¬ Bh (lI ρ m aw fz t) n (lI ρ m aw fz t n) n') ∨ (∃ n' : Nat, r = n' ∧ n' < ρ 0 ∧ lI ρ m aw fz t n' ≠ -1 ∧ Bh (lI ρ m aw fz t) n (lI ρ m aw fz t n) n' ∧ ∀ n2, n2 < ρ 0 → lI ρ m aw fz t n2 ≠ -1 → Bh (lI ρ m aw fz t) n (lI ρ m aw fz t n) n2 → lI ρ m aw fz t n' < lI ρ m aw fz t n2 ∨ (lI ρ m aw fz t n' = lI ρ m aw fz t n2 ∧ n' ≤ n2))) := by
  have h1 := hQ.2.1.h1
  have H : ∃ x, fX5_laysTies_l79 (zN t) v2 (zN n) 0 T = some x ∧ ∃ (r : Int) (T' : TW), x = .inl (zI r, T') ∧ K4 T T' ∧ tA T' 9 = tA T 9 ∧ VAt T' n (tieZ q0 (tieT ρ m aw fz t n (ρ 1))) ∧ (∀ n', n' ≠ n → ∀ q, VAt T n' q → VAt T' n' q) ∧
    ((r = -1 ∧ ∀ n', n' < ρ 0 → lI ρ m aw fz t n' ≠ -1 → ¬ Bh (lI ρ m aw fz t) n (lI ρ m aw fz t n) n') ∨ (∃ n' : Nat, r = n' ∧ n' < ρ 0 ∧ lI ρ m aw fz t n' ≠ -1 ∧ Bh (lI ρ m aw fz t) n (lI ρ m aw fz t n) n' ∧ ∀ n2, n2 < ρ 0 → lI ρ m aw fz t n2 ≠ -1 → Bh (lI ρ m aw fz t) n (lI ρ m aw fz t n) n2 → lI ρ m aw fz t n' < lI ρ m aw fz t n2 ∨ (lI ρ m aw fz t n' = lI ρ m aw fz t n2 ∧ n' ≤ n2))) := by
    refine wh_up (P := fun i s => i ≤ ρ 1 ∧ ∃ T', s = (zN i, T') ∧ K4 T T' ∧ tA T' 9 = tA T 9 ∧ VAt T' n (tieZ q0 (tieT ρ m aw fz t n i)) ∧ (∀ n', n' ≠ n → ∀ q, VAt T n' q → VAt T' n' q)) (ρ 1) ?_ ?_ (ρ 1) 0 _ (by omega) ⟨by omega, T, rfl, K4.refl T, rfl, h0, fun n' _ q h => h⟩
    · rintro i s hi ⟨-, T', rfl, hK, h9, hV, hO⟩
      have hQ' := hK.q hQ
      have b := hQ.2.1.ha hi
      have n1 : ¬ (ρ 1 ≤ i) := by omega
      have hT := tw_tie hQ' ht (fun n hn => by rw [h9]; exact hL n hn) hi
      left
      by_cases c1 : aFr ρ i = n
      · cases ct : tiT ρ m aw fz t i with
        | false =>
          rw [ct] at hT
          have e1 : tieT ρ m aw fz t n (i + 1) = tieT ρ m aw fz t n i := by
            unfold tieT
            rw [tie1, if_neg (by rw [ct]; exact fun h => Bool.false_ne_true h.2)]
          refine ⟨(zN (i + 1), T'), ?_, by omega, T', rfl, hK, h9, by rw [e1]; exact hV, hO⟩
          simp (disch := omega) only [b2_some, bd_some, nm_eq, Option.map_some, zN_lit, zN_add, zN_mul, zN_neg1, if_true, if_false, reduceIte, eq_self, Nat.reduceEqDiff, Nat.reduceAdd, Nat.reduceMul, Nat.reduceSub, Nat.reduceLeDiff, Nat.one_ne_zero, not_false_eq_true, Bool.false_eq_true, zN_eq, zN_lt, zN_le,  fX5_laysTies_b79, tw_rd hQ'.1, n1, ta0 hQ'.1, c1, hT, fX5_laysTies_b202]
        | true =>
          rw [ct] at hT
          obtain ⟨y, g1, g2, g3, g4⟩ := tiT_step hQ.2.1 ht ct
          have hnt : n ≠ pTo ρ t := by
            intro e
            rw [c1, e, lT_last hQ.2.1 ht] at g2
            have := Option.some.inj g2
            have := lT_rng hQ.2.1 ht g1
            omega
          obtain ⟨u1, u2, u3⟩ := hO (aTo ρ i) (by omega) _ (hd i hi c1 ct)
          obtain ⟨w1, w2, w3⟩ := hV
          have hv := vT_rng hQ.2.1 ht g1
          generalize hvv : vT ρ m aw fz t (aTo ρ i) = v at u1 u2 u3 hv
          have hq : (-2147483648 ≤ (tieZ q0 (tieT ρ m aw fz t n i)).2.1 ∧ (tieZ q0 (tieT ρ m aw fz t n i)).2.1 ≤ 109989) ∧ (0 ≤ (tieZ q0 (tieT ρ m aw fz t n i)).2.2 ∧ (tieZ q0 (tieT ρ m aw fz t n i)).2.2 ≤ 2147483647) := by
            cases e : tieT ρ m aw fz t n i with
            | none =>
              unfold tieZ
              rw [Option.getD_none, hq0 hnt]
              decide
            | some q =>
              have := tieT_rng hQ.2.1 ht e
              unfold tieZ
              rw [Option.getD_some]
              omega
          have e1 : tieZ q0 (tieT ρ m aw fz t n (i + 1)) = ((tieZ q0 (tieT ρ m aw fz t n i)).1 + v.1, (if (tieZ q0 (tieT ρ m aw fz t n i)).2.1 < v.2.1 + tlI ρ i then v.2.1 + tlI ρ i else (tieZ q0 (tieT ρ m aw fz t n i)).2.1), (if v.2.2 + tlI ρ i < (tieZ q0 (tieT ρ m aw fz t n i)).2.2 then v.2.2 + tlI ρ i else (tieZ q0 (tieT ρ m aw fz t n i)).2.2)) := by
            show tieZ q0 (tie1 (aFr ρ) (aTo ρ) (tiT ρ m aw fz t) (tlI ρ) (vT ρ m aw fz t) n (i + 1)) = _
            rw [tie1, if_pos ⟨c1, ct⟩, hvv]
            cases e : tie1 (aFr ρ) (aTo ρ) (tiT ρ m aw fz t) (tlI ρ) (vT ρ m aw fz t) n i with
            | none =>
              have e' : tieT ρ m aw fz t n i = none := e
              rw [e', hq0 hnt]
              unfold tieZ tlI
              dsimp only [Option.getD]
              rw [if_pos (by omega), if_pos (by omega), Int.zero_add]
            | some q =>
              have e' : tieT ρ m aw fz t n i = some q := e
              rw [e']
              rfl
          generalize tieZ q0 (tieT ρ m aw fz t n i) = q at w1 w2 w3 hq e1
          have m1 := mxI_z (a := q.2.1) (b := v.2.1 + tlI ρ i) (by omega) (by unfold tlI; omega)
          have m2 := mnI_z (a := q.2.2) (b := v.2.2 + tlI ρ i) (by omega) (by unfold tlI; omega)
          have a1 : zI v.2.1 + zN (aTl ρ i) = zI (v.2.1 + tlI ρ i) := zI_add _ _
          have a2 : zI v.2.2 + zN (aTl ρ i) = zI (v.2.2 + tlI ρ i) := zI_add _ _
          have r1 : RowT (tsB T' 12 (vp_updL (tB T' 12) n (zJ (q.1 + v.1)))) ρ := hQ'.1
          have r2 : RowT (tsA (tsB T' 12 (vp_updL (tB T' 12) n (zJ (q.1 + v.1)))) 10 (upd (tA T' 10) n (zI (if q.2.1 < v.2.1 + tlI ρ i then v.2.1 + tlI ρ i else q.2.1)))) ρ := hQ'.1
          refine ⟨(zN (i + 1), tsA (tsA (tsB T' 12 (vp_updL (tB T' 12) n (zJ (q.1 + v.1)))) 10 (upd (tA T' 10) n (zI (if q.2.1 < v.2.1 + tlI ρ i then v.2.1 + tlI ρ i else q.2.1)))) 11 (upd (tA T' 11) n (zI (if v.2.2 + tlI ρ i < q.2.2 then v.2.2 + tlI ρ i else q.2.2)))), ?_, by omega, _, rfl, ((hK.trans (K4.B _ _ _)).trans (K4.A _ (by omega) _)).trans (K4.A _ (by omega) _), h9, ?_, ?_⟩
          · simp (disch := omega) only [b2_some, bd_some, nm_eq, Option.map_some, zN_lit, zN_add, zN_mul, zN_neg1, if_true, if_false, reduceIte, eq_self, Nat.reduceEqDiff, Nat.reduceAdd, Nat.reduceMul, Nat.reduceSub, Nat.reduceLeDiff, Nat.one_ne_zero, not_false_eq_true, Bool.false_eq_true, zN_eq, zN_lt, zN_le,  fX5_laysTies_b79, tw_rd hQ'.1, n1, ta0 hQ'.1, c1, hT, rd_N, ta1 hQ'.1, w1, u1, zJ_add, wrB_N, tA_B, w2, u2, ta1 r1, ta4 r1, a1, m1, wrA_N, tA_A, w3, ta1 r2, u3, ta4 r2, a2, m2, fX5_laysTies_b202]
          · rw [e1]
            refine ⟨?_, ?_, ?_⟩
            · rw [tB_A, tB_A, tB_B, if_pos rfl]
              exact if_pos rfl
            · rw [tA_A, if_neg (by omega), tA_A, if_pos rfl]
              exact if_pos rfl
            · rw [tA_A, if_pos rfl]
              exact if_pos rfl
          · intro n' hn' q' hq'
            obtain ⟨z1, z2, z3⟩ := hO n' hn' q' hq'
            refine ⟨?_, ?_, ?_⟩
            · rw [tB_A, tB_A, tB_B, if_pos rfl]
              exact (if_neg hn').trans z1
            · rw [tA_A, if_neg (by omega), tA_A, if_pos rfl]
              exact (if_neg hn').trans z2
            · rw [tA_A, if_pos rfl]
              exact (if_neg hn').trans z3
      · have e1 : tieT ρ m aw fz t n (i + 1) = tieT ρ m aw fz t n i := by
          unfold tieT
          rw [tie1, if_neg (fun h => c1 h.1)]
        refine ⟨(zN (i + 1), T'), ?_, by omega, T', rfl, hK, h9, by rw [e1]; exact hV, hO⟩
        simp (disch := omega) only [b2_some, bd_some, nm_eq, Option.map_some, zN_lit, zN_add, zN_mul, zN_neg1, if_true, if_false, reduceIte, eq_self, Nat.reduceEqDiff, Nat.reduceAdd, Nat.reduceMul, Nat.reduceSub, Nat.reduceLeDiff, Nat.one_ne_zero, not_false_eq_true, Bool.false_eq_true, zN_eq, zN_lt, zN_le,  fX5_laysTies_b79, tw_rd hQ'.1, n1, ta0 hQ'.1, c1, fX5_laysTies_b202]
    · rintro s ⟨-, T', rfl, hK, h9, hV, hO⟩
      have hQ' := hK.q hQ
      have hl := fun n => lI_rng (m := m) (aw := aw) (fz := fz) hQ.2.1 ht n
      have hL' : ∀ n, n < 10 → tA T' 9 n = zI (lI ρ m aw fz t n) := fun n hn => by rw [h9]; exact hL n hn
      obtain ⟨r, e, hr⟩ := tw_nn hQ'.1 hQ'.2.1 (fun n _ => hl n) hL' (b := n) (f := lI ρ m aw fz t n) (by omega) (hl n)
      refine ⟨.inl (zI r, T'), ?_, r, T', rfl, hK, h9, hV, hO, hr⟩
      have e' : fX5_nextNode (zN n) (zI (lI ρ m aw fz t n)) T' = some (zI r, T') := e
      simp (disch := omega) only [b2_some, bd_some, nm_eq, Option.map_some, zN_lit, zN_add, zN_mul, zN_neg1, if_true, if_false, reduceIte, eq_self, Nat.reduceEqDiff, Nat.reduceAdd, Nat.reduceMul, Nat.reduceSub, Nat.reduceLeDiff, Nat.one_ne_zero, not_false_eq_true, Bool.false_eq_true, zN_eq, zN_lt, zN_le,  fX5_laysTies_b79, tw_rd hQ'.1, Nat.le_refl, fX5_laysTies_b208, rd_N, hL', e']
  obtain ⟨x, e, r, T', rfl, h⟩ := H
  exact ⟨r, T', e, h⟩
end
