/-! Plain law: without an arc, other paths, on the twin's side -/
section
variable {T : TW} {ρ : Nat → Nat} {m fz : Nat} {aw : Int} {t : Nat}
theorem QT.away (hQ : QT T ρ m aw fz) {b : Int} (hb : -1 ≤ b ∧ b < 24) : QT (tsI T 18 (zI b)) ρ m b fz :=
  ⟨hQ.1, hQ.2.1, hQ.2.2.1, ⟨by rw [tI_s, if_pos rfl], hb⟩, hQ.2.2.2.2⟩
theorem K1.away {T T' : TW} {x y : Int32} (h : K1 (tsI T 18 x) T') (hy : y = tI T 18) : K1 T (tsI T' 18 y) := by
  refine ⟨fun k hk => ?_, h.2.1, h.2.2⟩
  rw [tI_s]
  by_cases e : k = 18
  · rw [if_pos e, hy, e]
  · rw [if_neg e, h.1 k hk, tI_s, if_neg e]
noncomputable def cptN (ρ : Nat → Nat) (m fz a : Nat) : Nat := msk (fun t => (PT ρ m (-1) fz t).isSome && !(PT ρ m a fz t).isSome) (ρ 2)
theorem tw_cpt (hQ : QT T ρ m (-1) fz) {a : Nat} (ha : a < 24) : ∃ T', fX5_captives_l19 (zN a) 0 0 T = some (zN (cptN ρ m fz a), T') ∧ K1 T T' := by
  have h2 := hQ.2.1.h2
  have H : ∃ r, fX5_captives_l19 (zN a) 0 0 T = some r ∧ ∃ T', r = (zN (cptN ρ m fz a), T') ∧ K1 T T' := by
    refine wh_up (P := fun i s => i ≤ ρ 2 ∧ ∃ T', s = (zN (msk (fun t => (PT ρ m (-1) fz t).isSome && !(PT ρ m a fz t).isSome) i), zN i, T') ∧ K1 T T') (ρ 2) ?_ ?_ (ρ 2) 0 _ (by omega) ⟨by omega, T, rfl, K1.refl T⟩
    · rintro i s hi ⟨-, T', rfl, hK⟩
      have hQ' := hK.q hQ
      obtain ⟨T2, e2, hK2, -⟩ := tw_lays hQ' hi
      have hQ3 := (hK2.q hQ').away (b := a) (by omega)
      obtain ⟨T4, e4, hK4, -⟩ := tw_lays hQ3 hi
      have n1 : ¬ (ρ 2 ≤ i) := by omega
      have e18 : zI (-1) = tI T2 18 := (hK2.q hQ').2.2.2.1.1.symm
      have e4' : fX5_laysPath (zN i) (tsI T2 18 (zN a)) = _ := e4
      left
      rw [msk]
      cases c1 : (PT ρ m (-1) fz i).isSome with
      | false =>
        rw [c1] at e2
        refine ⟨_, ?_, by omega, tsI (tsI T2 18 (zN a)) 18 (zI (-1)), rfl, (hK.trans hK2).trans (K1.away (x := zN a) (K1.refl _) e18)⟩
        simp (disch := omega) only [b2_some, bd_some, nm_eq, Option.map_some, zN_lit, zN_add, zN_mul, zN_neg1, if_true, if_false, reduceIte, eq_self, Nat.reduceEqDiff, Nat.reduceAdd, Nat.reduceMul, Nat.reduceSub, Nat.reduceLeDiff, Nat.one_ne_zero, not_false_eq_true, Bool.false_eq_true, zN_eq, zN_lt, zN_le,  fX5_captives_b19, tw_rd hQ'.1, n1, e2, fX5_captives_b61, fX5_captives_b62, Bool.false_and, zN_or]
      | true =>
        rw [c1] at e2
        refine ⟨_, ?_, by omega, tsI T4 18 (zI (-1)), rfl, (hK.trans hK2).trans (K1.away (x := zI a) hK4 e18)⟩
        cases c2 : (PT ρ m a fz i).isSome with
        | false =>
          rw [c2] at e4'
          simp (disch := omega) only [b2_some, bd_some, nm_eq, Option.map_some, zN_lit, zN_add, zN_mul, zN_neg1, if_true, if_false, reduceIte, eq_self, Nat.reduceEqDiff, Nat.reduceAdd, Nat.reduceMul, Nat.reduceSub, Nat.reduceLeDiff, Nat.one_ne_zero, not_false_eq_true, Bool.false_eq_true, zN_eq, zN_lt, zN_le,  fX5_captives_b19, tw_rd hQ'.1, n1, e2, e4', fX5_captives_b61, fX5_captives_b62, zN_or, zN_shlz, Bool.not_false, Bool.and_true, Bool.true_and]
        | true =>
          rw [c2] at e4'
          simp (disch := omega) only [b2_some, bd_some, nm_eq, Option.map_some, zN_lit, zN_add, zN_mul, zN_neg1, if_true, if_false, reduceIte, eq_self, Nat.reduceEqDiff, Nat.reduceAdd, Nat.reduceMul, Nat.reduceSub, Nat.reduceLeDiff, Nat.one_ne_zero, not_false_eq_true, Bool.false_eq_true, zN_eq, zN_lt, zN_le,  fX5_captives_b19, tw_rd hQ'.1, n1, e2, e4', fX5_captives_b61, fX5_captives_b62, zN_or, Bool.not_true, Bool.and_false]
    · rintro s ⟨-, T', rfl, hK⟩
      refine ⟨_, ?_, T', rfl, hK⟩
      simp (disch := omega) only [b2_some, bd_some, nm_eq, Option.map_some, zN_lit, zN_add, zN_mul, zN_neg1, if_true, if_false, reduceIte, eq_self, Nat.reduceEqDiff, Nat.reduceAdd, Nat.reduceMul, Nat.reduceSub, Nat.reduceLeDiff, Nat.one_ne_zero, not_false_eq_true, Bool.false_eq_true, zN_eq, zN_lt, zN_le,  fX5_captives_b19, tw_rd (hK.row hQ.1), Nat.le_refl]
      rfl
  obtain ⟨r, e, T', rfl, h⟩ := H
  exact ⟨T', e, h⟩
/-- the nodes that are reached -/
def Rch (ρ : Nat → Nat) (u : Nat → Prop) (n M : Nat) : Prop := M.testBit n = true ∧ (∀ a, u a → M.testBit (aFr ρ a) = true → M.testBit (aTo ρ a) = true) ∧ M < 1024 ∧
  ∀ M' : Nat, M'.testBit n = true → (∀ a, u a → M'.testBit (aFr ρ a) = true → M'.testBit (aTo ρ a) = true) → ∀ k, M.testBit k = true → M'.testBit k = true
theorem Rch.uniq {ρ : Nat → Nat} {u : Nat → Prop} {n M M' : Nat} (h : Rch ρ u n M) (h' : Rch ρ u n M') : M = M' := by
  apply Nat.eq_of_testBit_eq
  intro k
  have h1 := h.2.2.2 M' h'.1 h'.2.1 k
  have h2 := h'.2.2.2 M h.1 h.2.1 k
  cases e1 : M.testBit k with
  | true => exact (h1 e1).symm
  | false =>
    cases e2 : M'.testBit k with
    | false => rfl
    | true => rw [h2 e2] at e1; cases e1
theorem lt_pow10 {M : Nat} (h : ∀ k, 10 ≤ k → M.testBit k = false) : M < 1024 := Nat.lt_pow_two_of_testBit M (n := 10) h
theorem or_lt {a b : Nat} (ha : a < 1024) (hb : b < 1024) : a ||| b < 1024 := Nat.or_lt_two_pow (n := 10) ha hb
theorem tw_rch (hQ : QT T ρ m aw fz) {n : Nat} (hn : n < ρ 0) : ∃ M, fX5_reachable_l29 (zN (2 ^ n)) 1 T = some (zN M, T) ∧ Rch ρ (uT ρ m aw fz) n M := by
  have h0 := hQ.2.1.h0
  have h1 := hQ.2.1.h1
  have H : ∃ r, fX5_reachable_l29 (zN (2 ^ n)) 1 T = some r ∧ ∃ M, r = (zN M, T) ∧ Rch ρ (uT ρ m aw fz) n M := by
    refine wh_dn (P := fun k s => ∃ M b, s = (zN M, if b then 1 else 0, T) ∧ M < 1024 ∧ M.testBit n = true ∧ (∀ M' : Nat, M'.testBit n = true → (∀ a, uT ρ m aw fz a → M'.testBit (aFr ρ a) = true → M'.testBit (aTo ρ a) = true) → ∀ k, M.testBit k = true → M'.testBit k = true) ∧
      ((b = true ∧ k + M = 1025) ∨ (b = false ∧ k = 0 ∧ ∀ a, uT ρ m aw fz a → M.testBit (aFr ρ a) = true → M.testBit (aTo ρ a) = true))) ?_ (1025 - 2 ^ n) _ ⟨2 ^ n, true, rfl, Nat.pow_lt_pow_right (n := 10) (by omega) (by omega), Nat.testBit_two_pow_self, fun M' h _ k hk => ?_, .inl ⟨rfl, ?_⟩⟩
    · rintro k s ⟨M, b, rfl, hM, hMn, hmin, ⟨rfl, hk⟩ | ⟨rfl, rfl, hcl⟩⟩
      · left
        -- one pass over the arcs
        have G : ∃ r, fX5_reachable_l39 (zN M) (zN M) 0 T = some r ∧ ∃ M2, r = .inl (zN M2, if M2 = M then 0 else 1, T) ∧ M2 < 1024 ∧ M ≤ M2 ∧ (∀ k, M.testBit k = true → M2.testBit k = true) ∧ (∀ M' : Nat, M'.testBit n = true → (∀ a, uT ρ m aw fz a → M'.testBit (aFr ρ a) = true → M'.testBit (aTo ρ a) = true) → ∀ k, M2.testBit k = true → M'.testBit k = true) ∧ (M2 = M → ∀ a, uT ρ m aw fz a → M.testBit (aFr ρ a) = true → M.testBit (aTo ρ a) = true) := by
          refine wh_up (P := fun i s => i ≤ ρ 1 ∧ ∃ M2, s = (zN M2, zN i, T) ∧ M2 < 1024 ∧ M ≤ M2 ∧ (∀ k, M.testBit k = true → M2.testBit k = true) ∧ (∀ M' : Nat, M'.testBit n = true → (∀ a, uT ρ m aw fz a → M'.testBit (aFr ρ a) = true → M'.testBit (aTo ρ a) = true) → ∀ k, M2.testBit k = true → M'.testBit k = true) ∧ (∀ a, a < i → uT ρ m aw fz a → M.testBit (aFr ρ a) = true → M2.testBit (aTo ρ a) = true)) (ρ 1) ?_ ?_ (ρ 1) 0 _ (by omega) ⟨by omega, M, rfl, hM, Nat.le_refl _, fun k h => h, hmin, fun a ha => by omega⟩
          · rintro i s hi ⟨-, M2, rfl, hM2, hle, hsub, hmin2, hcl⟩
            have b := hQ.2.1.ha hi
            have n1 : ¬ (ρ 1 ≤ i) := by omega
            left
            by_cases hu : uT ρ m aw fz i
            · cases hb : M2.testBit (aFr ρ i) with
              | true =>
                have g := tw_has1 (T := T) hM2 (show aFr ρ i < 10 by omega) hb
                have hp : 2 ^ aTo ρ i < 1024 := Nat.pow_lt_pow_right (n := 10) (by omega) (by omega)
                refine ⟨(zN (M2 ||| 2 ^ aTo ρ i), zN (i + 1), T), ?_, by omega, M2 ||| 2 ^ aTo ρ i, rfl, or_lt hM2 hp, Nat.le_trans hle Nat.left_le_or, fun k hk => ?_, fun M' h1 h2 k hk => ?_, fun a ha hua hfa => ?_⟩
                · simp (disch := omega) only [b2_some, bd_some, nm_eq, Option.map_some, zN_lit, zN_add, zN_mul, zN_neg1, if_true, if_false, reduceIte, eq_self, Nat.reduceEqDiff, Nat.reduceAdd, Nat.reduceMul, Nat.reduceSub, Nat.reduceLeDiff, Nat.one_ne_zero, not_false_eq_true, Bool.false_eq_true, zN_eq, zN_lt, zN_le,  fX5_reachable_b39, tw_rd hQ.1, n1, to1 hQ.1 hQ.2.1 hQ.2.2 hu, ta0 hQ.1, g, ta1 hQ.1, fX5_reachable_b87, zN_shlz, zN_or]
                · rw [Nat.testBit_or, hsub k hk, Bool.true_or]
                · rw [Nat.testBit_or, Bool.or_eq_true] at hk
                  rcases hk with hk | hk
                  · exact hmin2 M' h1 h2 k hk
                  · rw [Nat.testBit_two_pow, decide_eq_true_iff] at hk
                    rw [← hk]
                    exact h2 i hu (hmin2 M' h1 h2 _ hb)
                · rw [Nat.testBit_or]
                  by_cases e : a = i
                  · subst e; rw [Nat.testBit_two_pow_self, Bool.or_true]
                  · rw [hcl a (by omega) hua hfa, Bool.true_or]
              | false =>
                have g := tw_has0 (T := T) hM2 (show aFr ρ i < 10 by omega) hb
                refine ⟨(zN M2, zN (i + 1), T), ?_, by omega, M2, rfl, hM2, hle, hsub, hmin2, fun a ha hua hfa => ?_⟩
                · simp (disch := omega) only [b2_some, bd_some, nm_eq, Option.map_some, zN_lit, zN_add, zN_mul, zN_neg1, if_true, if_false, reduceIte, eq_self, Nat.reduceEqDiff, Nat.reduceAdd, Nat.reduceMul, Nat.reduceSub, Nat.reduceLeDiff, Nat.one_ne_zero, not_false_eq_true, Bool.false_eq_true, zN_eq, zN_lt, zN_le,  fX5_reachable_b39, tw_rd hQ.1, n1, to1 hQ.1 hQ.2.1 hQ.2.2 hu, ta0 hQ.1, g, fX5_reachable_b86, fX5_reachable_b87, zN_or]
                  rw [Nat.or_zero]
                · by_cases e : a = i
                  · subst e; rw [hsub _ hfa] at hb; cases hb
                  · exact hcl a (by omega) hua hfa
            · refine ⟨(zN M2, zN (i + 1), T), ?_, by omega, M2, rfl, hM2, hle, hsub, hmin2, fun a ha hua hfa => ?_⟩
              · simp (disch := omega) only [b2_some, bd_some, nm_eq, Option.map_some, zN_lit, zN_add, zN_mul, zN_neg1, if_true, if_false, reduceIte, eq_self, Nat.reduceEqDiff, Nat.reduceAdd, Nat.reduceMul, Nat.reduceSub, Nat.reduceLeDiff, Nat.one_ne_zero, not_false_eq_true, Bool.false_eq_true, zN_eq, zN_lt, zN_le,  fX5_reachable_b39, tw_rd hQ.1, n1, to0 hQ.1 hQ.2.1 hQ.2.2 hi hu, fX5_reachable_b86, fX5_reachable_b87, zN_or]
                rw [Nat.or_zero]
              · by_cases e : a = i
                · subst e; exact absurd hua hu
                · exact hcl a (by omega) hua hfa
          · rintro s ⟨-, M2, rfl, hM2, hle, hsub, hmin2, hcl⟩
            refine ⟨_, ?_, M2, rfl, hM2, hle, hsub, hmin2, fun e a hua hfa => ?_⟩
            · by_cases e : M2 = M
              · simp (disch := omega) only [b2_some, bd_some, nm_eq, Option.map_some, zN_lit, zN_add, zN_mul, zN_neg1, if_true, if_false, reduceIte, eq_self, Nat.reduceEqDiff, Nat.reduceAdd, Nat.reduceMul, Nat.reduceSub, Nat.reduceLeDiff, Nat.one_ne_zero, not_false_eq_true, Bool.false_eq_true, zN_eq, zN_lt, zN_le,  fX5_reachable_b39, tw_rd hQ.1, Nat.le_refl, fX5_reachable_b95, e, fX5_reachable_b106]
              · simp (disch := omega) only [b2_some, bd_some, nm_eq, Option.map_some, zN_lit, zN_add, zN_mul, zN_neg1, if_true, if_false, reduceIte, eq_self, Nat.reduceEqDiff, Nat.reduceAdd, Nat.reduceMul, Nat.reduceSub, Nat.reduceLeDiff, Nat.one_ne_zero, not_false_eq_true, Bool.false_eq_true, zN_eq, zN_lt, zN_le,  fX5_reachable_b39, tw_rd hQ.1, Nat.le_refl, fX5_reachable_b95, e, fX5_reachable_b106]
            · rw [← e]
              rw [← e] at hfa
              have := hcl a hua.1 hua (by rw [← e]; exact hfa)
              exact this
        obtain ⟨r, e, M2, rfl, hM2, hle, hsub, hmin2, hcl⟩ := G
        by_cases e2 : M2 = M
        · refine ⟨(zN M2, 0, T), 0, by omega, ?_, M2, false, rfl, hM2, hsub n hMn, hmin2, .inr ⟨rfl, rfl, by rw [e2]; exact hcl e2⟩⟩
          rw [if_pos e2] at e
          exact e
        · refine ⟨(zN M2, 1, T), 1025 - M2, by omega, ?_, M2, true, rfl, hM2, hsub n hMn, hmin2, .inl ⟨rfl, by omega⟩⟩
          rw [if_neg e2] at e
          exact e
      · right
        exact ⟨(zN M, T), rfl, M, rfl, hMn, hcl, hM, hmin⟩
    · rw [Nat.testBit_two_pow, decide_eq_true_iff] at hk
      rw [← hk]; exact h
    · have : 2 ^ n < 2 ^ 10 := Nat.pow_lt_pow_right (n := 10) (by omega) (by omega)
      omega
  obtain ⟨r, e, M, rfl, h⟩ := H
  exact ⟨M, e, h⟩
end
