/-! Plain law: what the twin sums over trips -/
theorem zN_J {n : Nat} (h : n < 2147483648) : (zN n).toInt64 = zJ n := zI_J (by omega)
theorem zI_J' {x : Int} (h : -2147483648 ≤ x ∧ x < 2147483648) : (zI x).toInt64 = zJ x := zI_J h
theorem zJ_I (x : Int) : (zJ x).toInt32 = zI x := Int64.toInt32_ofInt
theorem zJ_div {a b : Int} (ha : 0 ≤ a ∧ a < 9223372036854775808) (hb : 0 < b ∧ b < 9223372036854775808) : zJ a / zJ b = zJ (a / b) := by
  have h0 : 0 ≤ a / b := Int.ediv_nonneg ha.1 (by omega)
  have h1 : a / b ≤ a := Int.ediv_le_self _ ha.1
  apply Int64.toInt_inj.mp
  rw [Int64.toInt_div, zJ_toInt ⟨by omega, ha.2⟩, zJ_toInt ⟨by omega, hb.2⟩, zJ_toInt ⟨by omega, by omega⟩, Int.tdiv_eq_ediv_of_nonneg ha.1]
  exact Int.bmod_eq_of_le (by omega) (by omega)
theorem nzL_J {a : Int} (h : 0 < a ∧ a < 9223372036854775808) : nzL (zJ a) = some () := by
  unfold nzL
  rw [if_neg]
  show ¬ (zJ a = zJ 0)
  rw [zJ_eq ⟨by omega, h.2⟩ ⟨by omega, by omega⟩]
  omega
theorem upd_row (T : TW) (ρ : Nat → Nat) (k x : Nat) (hR : RowT T ρ) (hk : k < 172) : RowT (tsA T 1 (upd (tA T 1) k (zN x))) (upN ρ k x) := by
  intro i hi
  rw [tA_A, if_pos rfl]
  unfold upd upN
  by_cases e : i = k
  · rw [if_pos e, if_pos e]
  · rw [if_neg e, if_neg e]; exact hR i hi
/-- the row is put back -/
theorem K1.back {T T' : TW} {k : Nat} {x y : Int32} (h : K1 (tsA T 1 (upd (tA T 1) k x)) T') (hy : y = tA T 1 k) : K1 T (tsA T' 1 (upd (tA T' 1) k y)) := by
  refine ⟨h.1, h.2.1, fun p hp => ?_⟩
  rw [tA_A]
  by_cases e : p = 1
  · subst e
    rw [if_pos rfl, h.2.2 1 (by omega), tA_A, if_pos rfl]
    funext j
    unfold upd
    by_cases e' : j = k
    · rw [if_pos e', hy, e']
    · rw [if_neg e', if_neg e']
  · rw [if_neg e, h.2.2 p hp, tA_A, if_neg e]
section
variable {T : TW} {ρ : Nat → Nat} {m fz : Nat} {aw : Int} {t : Nat}
theorem tw_flw (hQ : QT T ρ m aw fz) {a : Nat} (h24 : a < 24) : ∃ T', fX5_flowOn (zN a) T = some (zN (flwN ρ m aw fz a), T') ∧ K1 T T' := by
  obtain ⟨T', e, hK⟩ := tw_usr hQ h24
  have h2 := hQ.2.1.h2
  have hR' := hK.row hQ.1
  have hlt := msk_lt (fun t => useB ρ m aw fz t a) (ρ 2)
  have h26 : (2 : Nat) ^ ρ 2 ≤ 2 ^ 6 := Nat.pow_le_pow_right (by omega) h2
  have H : fX5_flowOn_l11 (zN (usrN ρ m aw fz a)) 0 0 T' = some (zN (flwN ρ m aw fz a), T') := by
    refine wh_run (fun i => (zN (sgN (fun t => if useB ρ m aw fz t a then pDe ρ t else 0) i), zN i, T')) (ρ 2) _ (fun i hi => ?_) ?_ (ρ 2) 0 (by omega)
    · have n1 : ¬ (ρ 2 ≤ i) := by omega
      have hb : (usrN ρ m aw fz a).testBit i = useB ρ m aw fz i a := by
        unfold usrN
        rw [msk_bit, decide_eq_true hi, Bool.true_and]
      have hlt' : usrN ρ m aw fz a < 1024 := by unfold usrN; omega
      rw [sgN]
      cases hu : useB ρ m aw fz i a with
      | true =>
        have g := tw_has1 (T := T') hlt' (show i < 10 by omega) (by rw [hb, hu])
        simp (disch := omega) only [b2_some, bd_some, nm_eq, Option.map_some, zN_lit, zN_add, zN_mul, zN_neg1, if_true, if_false, reduceIte, eq_self, Nat.reduceEqDiff, Nat.reduceAdd, Nat.reduceMul, Nat.reduceSub, Nat.reduceLeDiff, Nat.one_ne_zero, not_false_eq_true, Bool.false_eq_true, zN_eq, zN_lt, zN_le,  fX5_flowOn_b11, tw_rd hR', n1, g, fX5_flowOn_b43, tp2 hR']
      | false =>
        have g := tw_has0 (T := T') hlt' (show i < 10 by omega) (by rw [hb, hu])
        simp (disch := omega) only [b2_some, bd_some, nm_eq, Option.map_some, zN_lit, zN_add, zN_mul, zN_neg1, if_true, if_false, reduceIte, eq_self, Nat.reduceEqDiff, Nat.reduceAdd, Nat.reduceMul, Nat.reduceSub, Nat.reduceLeDiff, Nat.one_ne_zero, not_false_eq_true, Bool.false_eq_true, zN_eq, zN_lt, zN_le,  fX5_flowOn_b11, tw_rd hR', n1, g, fX5_flowOn_b43, tp2 hR']
    · simp (disch := omega) only [b2_some, bd_some, nm_eq, Option.map_some, zN_lit, zN_add, zN_mul, zN_neg1, if_true, if_false, reduceIte, eq_self, Nat.reduceEqDiff, Nat.reduceAdd, Nat.reduceMul, Nat.reduceSub, Nat.reduceLeDiff, Nat.one_ne_zero, not_false_eq_true, Bool.false_eq_true, zN_eq, zN_lt, zN_le,  fX5_flowOn_b11, tw_rd hR', Nat.le_refl]
      rfl
  refine ⟨T', ?_, hK⟩
  have H' : fX5_flowOn_l11 (zN (usrN ρ m aw fz a)) (zN 0) (zN 0) T' = some (zN (flwN ρ m aw fz a), T') := H
  simp (disch := omega) only [b2_some, bd_some, nm_eq, Option.map_some, zN_lit, zN_add, zN_mul, zN_neg1, if_true, if_false, reduceIte, eq_self, Nat.reduceEqDiff, Nat.reduceAdd, Nat.reduceMul, Nat.reduceSub, Nat.reduceLeDiff, Nat.one_ne_zero, not_false_eq_true, Bool.false_eq_true, zN_eq, zN_lt, zN_le,  fX5_flowOn, e, H']
theorem ptl_le (hI : Inv ρ) (ht : t < ρ 2) {p : List Nat} (hp : PT ρ m aw fz t = some p) : ptl ρ p ≤ 89991 ∧ pco ρ p ≤ 8991 ∧ pVa ρ t * pco ρ p + ptl ρ p ≤ 269811 ∧ pVa ρ t * pco ρ p ≤ 179820 := by
  obtain ⟨h1, h2, h3, h4, -⟩ := PT_all hI ht hp
  have h0 := hI.h0
  have c := hI.ht ht
  have h5 : pco ρ p ≤ p.length * 999 := sgN_le _ (fun k hk => by
    have := hI.ha (h4 _ (getD_mem hk)).1
    omega)
  have h6 : p.length * 999 ≤ 9 * 999 := Nat.mul_le_mul_right _ (by omega)
  have h7 : pVa ρ t * pco ρ p ≤ 20 * 8991 := Nat.mul_le_mul (by omega) (by omega)
  omega
theorem brI_rng (hI : Inv ρ) (ht : t < ρ 2) : 0 ≤ brI ρ m aw fz t ∧ brI ρ m aw fz t ≤ 89901009 := by
  unfold brI
  cases hp : PT ρ m aw fz t with
  | none => exact ⟨Int.le_refl _, (by decide : (0 : Int) ≤ 89901009)⟩
  | some p =>
    have h1 := ptl_le hI ht hp
    have c := hI.ht ht
    have h2 : pDe ρ t * ptl ρ p ≤ 999 * 89991 := Nat.mul_le_mul (by omega) h1.1
    dsimp only
    have h3 : (pDe ρ t : Int) * ptl ρ p = ((pDe ρ t * ptl ρ p : Nat) : Int) := (Int.natCast_mul ..).symm
    omega
theorem tw_brings (hQ : QT T ρ m aw fz) (ht : t < ρ 2) : ∃ T', fX5_brings (zN t) T = some (zJ (brI ρ m aw fz t), T') ∧ K1 T T' := by
  obtain ⟨T', h1, h2, h3⟩ := tw_lays hQ ht
  refine ⟨T', ?_, h2⟩
  have c := hQ.2.1.ht ht
  unfold brI
  cases hp : PT ρ m aw fz t with
  | none =>
    rw [hp] at h1
    simp (disch := omega) only [b2_some, bd_some, nm_eq, Option.map_some, zN_lit, zN_add, zN_mul, zN_neg1, if_true, if_false, reduceIte, eq_self, Nat.reduceEqDiff, Nat.reduceAdd, Nat.reduceMul, Nat.reduceSub, Nat.reduceLeDiff, Nat.one_ne_zero, not_false_eq_true, Bool.false_eq_true, zN_eq, zN_lt, zN_le,  fX5_brings, h1, Option.isSome_none]
    rfl
  | some p =>
    rw [hp] at h1
    obtain ⟨h4, h5⟩ := h3 p hp
    have h6 := tw_sumT (h2.q hQ) ht hp h4 h5
    have h7 := ptl_le hQ.2.1 ht hp
    simp (disch := omega) only [b2_some, bd_some, nm_eq, Option.map_some, zN_lit, zN_add, zN_mul, zN_neg1, if_true, if_false, reduceIte, eq_self, Nat.reduceEqDiff, Nat.reduceAdd, Nat.reduceMul, Nat.reduceSub, Nat.reduceLeDiff, Nat.one_ne_zero, not_false_eq_true, Bool.false_eq_true, zN_eq, zN_lt, zN_le,  fX5_brings, h1, Option.isSome_some, h6, tp2 (h2.row hQ.1), zN_J, zJ_mul]
theorem allI_rng (hI : Inv ρ) : 0 ≤ allI ρ m aw fz ∧ allI ρ m aw fz ≤ 539406054 := by
  have h2 := hI.h2
  have := sgI_le (f := brI ρ m aw fz) (D := 89901009) (ρ 2) (fun k hk => brI_rng hI hk)
  unfold allI
  omega
theorem tw_all (hQ : QT T ρ m aw fz) : ∃ T', fX5_all T = some (zJ (allI ρ m aw fz), T') ∧ K1 T T' := by
  have h2 := hQ.2.1.h2
  have H : ∃ r, fX5_all_l4 0 0 T = some r ∧ ∃ T', r = (zJ (allI ρ m aw fz), T') ∧ K1 T T' := by
    refine wh_up (P := fun i s => i ≤ ρ 2 ∧ ∃ T', s = (zJ (sgI (brI ρ m aw fz) i), zN i, T') ∧ K1 T T') (ρ 2) ?_ ?_ (ρ 2) 0 _ (by omega) ⟨by omega, T, rfl, K1.refl T⟩
    · rintro i s hi ⟨-, T', rfl, hK⟩
      obtain ⟨T2, e2, hK2⟩ := tw_brings (hK.q hQ) hi
      left
      refine ⟨_, ?_, by omega, T2, rfl, hK.trans hK2⟩
      have n1 : ¬ (ρ 2 ≤ i) := by omega
      rw [sgI]
      simp (disch := omega) only [b2_some, bd_some, nm_eq, Option.map_some, zN_lit, zN_add, zN_mul, zN_neg1, if_true, if_false, reduceIte, eq_self, Nat.reduceEqDiff, Nat.reduceAdd, Nat.reduceMul, Nat.reduceSub, Nat.reduceLeDiff, Nat.one_ne_zero, not_false_eq_true, Bool.false_eq_true, zN_eq, zN_lt, zN_le,  fX5_all_b4, tw_rd (hK.row hQ.1), n1, e2, zJ_add]
    · rintro s ⟨-, T', rfl, hK⟩
      refine ⟨_, ?_, T', rfl, hK⟩
      simp (disch := omega) only [b2_some, bd_some, nm_eq, Option.map_some, zN_lit, zN_add, zN_mul, zN_neg1, if_true, if_false, reduceIte, eq_self, Nat.reduceEqDiff, Nat.reduceAdd, Nat.reduceMul, Nat.reduceSub, Nat.reduceLeDiff, Nat.one_ne_zero, not_false_eq_true, Bool.false_eq_true, zN_eq, zN_lt, zN_le,  fX5_all_b4, tw_rd (hK.row hQ.1), Nat.le_refl]
      rfl
  obtain ⟨r, e, T', rfl, h⟩ := H
  exact ⟨T', e, h⟩
theorem QT.stl (hQ : QT T ρ m aw fz) {a x : Nat} (ha : a < ρ 1) (hx : x ≤ aMx ρ a) : QT (tsA T 1 (upd (tA T 1) (4 + 6 * a + 4) (zN x))) (stl ρ a x) m aw fz := by
  have b := hQ.2.1.ha ha
  exact ⟨upd_row T ρ _ x hQ.1 (by omega), hQ.2.1.stl ha hx, hQ.2.2⟩
theorem tw_useW (hQ : QT T ρ m aw fz) (ht : t < ρ 2) {a x : Nat} (ha : a < ρ 1) (hx : x ≤ aMx ρ a) : ∃ T', fX5_doesUseWith (zN t) (zN a) (zN x) T = some (zN (if useB (stl ρ a x) m aw fz t a then 1 else 0), T') ∧ K1 T T' := by
  have c := hQ.2.1.ha ha
  obtain ⟨T', e, hK⟩ := tw_use (hQ.stl ha hx) (t := t) (by rw [stl_low ρ a x (by omega)]; exact ht) (a := a) (by omega)
  have hbz : bz_ (zN (if useB (stl ρ a x) m aw fz t a then 1 else 0)) = some (zN (if useB (stl ρ a x) m aw fz t a then 1 else 0)) := by
    cases useB (stl ρ a x) m aw fz t a
    · exact bz_0
    · exact bz_1
  refine ⟨_, ?_, hK.back (y := zN (aTl ρ a)) (hQ.1 _ (by omega)).symm⟩
  simp (disch := omega) only [b2_some, bd_some, nm_eq, Option.map_some, zN_lit, zN_add, zN_mul, zN_neg1, if_true, if_false, reduceIte, eq_self, Nat.reduceEqDiff, Nat.reduceAdd, Nat.reduceMul, Nat.reduceSub, Nat.reduceLeDiff, Nat.one_ne_zero, not_false_eq_true, Bool.false_eq_true, zN_eq, zN_lt, zN_le,  fX5_doesUseWith, ta4 hQ.1, fX5_atArc, wrA_N, e, hbz]
theorem tw_allW (hQ : QT T ρ m aw fz) {a x : Nat} (ha : a < ρ 1) (hx : x ≤ aMx ρ a) : ∃ T', fX5_allWith (zN a) (zN x) T = some (zJ (allI (stl ρ a x) m aw fz), T') ∧ K1 T T' := by
  have c := hQ.2.1.ha ha
  obtain ⟨T', e, hK⟩ := tw_all (hQ.stl ha hx)
  refine ⟨_, ?_, hK.back (y := zN (aTl ρ a)) (hQ.1 _ (by omega)).symm⟩
  simp (disch := omega) only [b2_some, bd_some, nm_eq, Option.map_some, zN_lit, zN_add, zN_mul, zN_neg1, if_true, if_false, reduceIte, eq_self, Nat.reduceEqDiff, Nat.reduceAdd, Nat.reduceMul, Nat.reduceSub, Nat.reduceLeDiff, Nat.one_ne_zero, not_false_eq_true, Bool.false_eq_true, zN_eq, zN_lt, zN_le,  fX5_allWith, ta4 hQ.1, fX5_atArc, wrA_N, e]
end
