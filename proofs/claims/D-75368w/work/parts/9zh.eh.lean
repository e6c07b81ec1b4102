/-! Plain law: the component's parser: looking ahead, requiring, numbers -/
def psC (net pos st m x : Nat) : hE := .inr (25, [.ref net, .int (zN pos), .int (zN st), .int (zN m), .ref x])
theorem sb32 : ∀ b, b < 256 → (zI (sb b) = zN 32) = (b = 32) := by decide +kernel
section
variable {w0 w w' : WH} {x s q F c k P net p st m : Nat} {ν : NH} {σ : SG} {η : RH}
theorem ps_tx (h : RcP w x σ F s q ν η) : gI w x 17 5 = some (zN (sgL σ)) ∧ gR w x 17 4 = some (some (hTx η)) ∧ sgL σ ≤ 600 ∧ ∀ j, j < sgL σ → sgB σ j < 256 ∧ ldI w (hTx η) 2 (zN j) = some (zI (sb (sgB σ j))) := by
  obtain ⟨f, t1, t2, t3⟩ := h.2.2.2.2.2.2.2.1
  refine ⟨c_I h.2.2.1 5, c_R h.2.2.1 4, t2, fun j hj => ⟨(t3 j hj).1, ?_⟩⟩
  rw [c_ldI t1 (by omega) (by omega), (t3 j hj).2]
theorem ps_at (h : w.1 P = some (psC net p st m x)) : hIs w P 25 = some () ∧ gR w P 25 0 = some (some net) ∧ gI w P 25 1 = some (zN p) ∧ gI w P 25 2 = some (zN st) ∧ gI w P 25 3 = some (zN m) ∧ gR w P 25 4 = some (some x) := ⟨c_C h, c_R h 0, c_I h 1, c_I h 2, c_I h 3, c_R h 4⟩
/-- the parser's cell changes -/
theorem ps_up (h0 : RcP w0 x σ F s q ν η) (hK : Kg F nQ w0 w c k) (hP : w.1 P = some (psC net p st m x)) (hb : wN w0 ≤ P) (net' p' st' m' : Nat) : Kg F nQ w0 (hUp w P (psC net' p' st' m' x)) c k ∧ RcP (hUp w P (psC net' p' st' m' x)) x σ F s q ν η ∧ (hUp w P (psC net' p' st' m' x)).1 P = some (psC net' p' st' m' x) ∧ Kg F (fun a => a = P) w (hUp w P (psC net' p' st' m' x)) 0 0 := by
  have K1 := hK.up hP rfl (.inl hb) (psC net' p' st' m' x)
  exact ⟨K1, h0.kg K1, hUp_eq _ _ _, (Kg.refl (Q := fun a => a = P) hK.2.1 hK.2.2.1).up hP rfl (.inr rfl) _⟩
theorem c_peek (h0 : RcP w0 x σ F s q ν η) (hK : Kg F nQ w0 w c k) (hP : w.1 P = some (psC net p st m x)) (hb : wN w0 ≤ P) (hp : p ≤ sgL σ + 2) :
    fX6_peek P w = some (zI (chA (sgB σ) (sgL σ) (skp (sgB σ) (sgL σ) p)), hUp w P (psC net (skp (sgB σ) (sgL σ) p) (skp (sgB σ) (sgL σ) p) m x)) := by
  have hL := (ps_tx h0).2.2.1
  have H : ∃ r, fX6_peek_l0 P w = some r ∧ r = (zI (chA (sgB σ) (sgL σ) (skp (sgB σ) (sgL σ) p)), hUp w P (psC net (skp (sgB σ) (sgL σ) p) (skp (sgB σ) (sgL σ) p) m x)) := by
    refine wh_dn (P := fun d y => ∃ p', d = sgL σ - p' ∧ p ≤ p' ∧ p' ≤ sgL σ + 2 ∧ skp (sgB σ) (sgL σ) p' = skp (sgB σ) (sgL σ) p ∧ y = hUp w P (psC net p' st m x)) ?_ (sgL σ - p) _ ⟨p, rfl, Nat.le_refl _, hp, rfl, (hUp_self hP).symm⟩
    rintro d y ⟨p', rfl, h1, h2, h3, rfl⟩
    obtain ⟨K1, R1, c1, -⟩ := ps_up h0 hK hP hb net p' st m
    obtain ⟨t1, t2, t3, t4⟩ := ps_tx R1
    obtain ⟨a0, a1, a2, a3, a4, a5⟩ := ps_at c1
    have b44 : skp (sgB σ) (sgL σ) p' = p' → fX6_peek_b44 P (hUp w P (psC net p' st m x)) = some (zI (chA (sgB σ) (sgL σ) (skp (sgB σ) (sgL σ) p)), hUp w P (psC net (skp (sgB σ) (sgL σ) p) (skp (sgB σ) (sgL σ) p) m x)) := by
      intro hs
      rw [← h3, hs]
      have p1 : hPut (hUp w P (psC net p' st m x)) P 25 2 (.int (zN p')) = some (hUp w P (psC net p' p' m x)) := by
        have := c_P c1 (k := 2) (show 2 < 5 by decide) (.int (zN p'))
        rw [hUp_hUp] at this
        exact this
      obtain ⟨K2, R2, c2, -⟩ := ps_up h0 hK hP hb net p' p' m
      obtain ⟨u1, u2, u3, u4⟩ := ps_tx R2
      obtain ⟨b0, b1, b2, b3, b4, b5⟩ := ps_at c2
      unfold chA
      by_cases e : sgL σ ≤ p'
      · rw [if_neg (by omega)]
        simp (disch := omega) only [b2_some, bd_some, nm_eq, Option.map_some, zN_lit, zN_add, zN_mul, zN_neg1, if_true, if_false, reduceIte, eq_self, Nat.reduceEqDiff, Nat.reduceAdd, Nat.reduceMul, Nat.reduceSub, Nat.reduceLeDiff, Nat.one_ne_zero, not_false_eq_true, Bool.false_eq_true, zN_eq, zN_lt, zN_le,  fX6_peek_b44, a2, p1, b2, b5, u1, e]
      · rw [if_pos (by omega)]
        obtain ⟨l1, l2⟩ := u4 p' (by omega)
        simp (disch := omega) only [b2_some, bd_some, nm_eq, Option.map_some, zN_lit, zN_add, zN_mul, zN_neg1, if_true, if_false, reduceIte, eq_self, Nat.reduceEqDiff, Nat.reduceAdd, Nat.reduceMul, Nat.reduceSub, Nat.reduceLeDiff, Nat.one_ne_zero, not_false_eq_true, Bool.false_eq_true, zN_eq, zN_lt, zN_le,  fX6_peek_b44, a2, p1, b2, b5, u1, e, u2, l2, sb_255]
        rfl
    by_cases e : sgL σ ≤ p'
    · right
      have hs : skp (sgB σ) (sgL σ) p' = p' := skp_no (fun h => by omega)
      refine ⟨_, ?_, rfl⟩
      have b := b44 hs
      simp (disch := omega) only [b2_some, bd_some, nm_eq, Option.map_some, zN_lit, zN_add, zN_mul, zN_neg1, if_true, if_false, reduceIte, eq_self, Nat.reduceEqDiff, Nat.reduceAdd, Nat.reduceMul, Nat.reduceSub, Nat.reduceLeDiff, Nat.one_ne_zero, not_false_eq_true, Bool.false_eq_true, zN_eq, zN_lt, zN_le,  fX6_peek_b0, a2, a5, t1, e, b]
    · obtain ⟨l1, l2⟩ := t4 p' (by omega)
      have e32 := sb32 _ l1
      by_cases e2 : sgB σ p' = 32
      · left
        rw [eq_true e2] at e32
        have p1 : hPut (hUp w P (psC net p' st m x)) P 25 1 (.int (zN (p' + 1))) = some (hUp w P (psC net (p' + 1) st m x)) := by
          have := c_P c1 (k := 1) (show 1 < 5 by decide) (.int (zN (p' + 1)))
          rw [hUp_hUp] at this
          exact this
        refine ⟨hUp w P (psC net (p' + 1) st m x), sgL σ - (p' + 1), by omega, ?_, p' + 1, rfl, by omega, by omega, by rw [← h3]; exact (skp_st (by omega) e2).symm, rfl⟩
        simp (disch := omega) only [b2_some, bd_some, nm_eq, Option.map_some, zN_lit, zN_add, zN_mul, zN_neg1, if_true, if_false, reduceIte, eq_self, Nat.reduceEqDiff, Nat.reduceAdd, Nat.reduceMul, Nat.reduceSub, Nat.reduceLeDiff, Nat.one_ne_zero, not_false_eq_true, Bool.false_eq_true, zN_eq, zN_lt, zN_le,  fX6_peek_b0, a2, a5, t1, e, t2, l2, e32, p1]
      · right
        rw [eq_false e2] at e32
        have hs : skp (sgB σ) (sgL σ) p' = p' := skp_no (fun h => e2 h.2)
        refine ⟨_, ?_, rfl⟩
        have b := b44 hs
        simp (disch := omega) only [b2_some, bd_some, nm_eq, Option.map_some, zN_lit, zN_add, zN_mul, zN_neg1, if_true, if_false, reduceIte, eq_self, Nat.reduceEqDiff, Nat.reduceAdd, Nat.reduceMul, Nat.reduceSub, Nat.reduceLeDiff, Nat.one_ne_zero, not_false_eq_true, Bool.false_eq_true, zN_eq, zN_lt, zN_le,  fX6_peek_b0, a2, a5, t1, e, t2, l2, e32, b]
  obtain ⟨r, e, rfl⟩ := H
  exact e
end
