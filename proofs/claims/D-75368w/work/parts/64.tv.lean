/-! Plain law: the twin's greatest toll kept; busiest, unused -/
theorem lgc_le' {a b : Int} (ha : bJ a) (hb : bJ b) : (lg_cmp (zJ a) (zJ b) ≤ zN 0) = (a ≤ b) := lgc_le ha hb
section
variable {T : TW} {ρ : Nat → Nat} {m fz : Nat} {aw : Int} {t : Nat}
theorem tw_kp87 (hQ : QT T ρ m (-1) fz) (ht : t < ρ 2) {a : Nat} (ha : a < ρ 1) (hu0 : useB (stl ρ a 0) m (-1) fz t a = true) {z0 : Int} (hz0 : dT (stl ρ a 0) m (-1) fz t (pFr ρ t) = some z0) {s : Int} (hs : 1000000000 + s = eachI ρ) {v6 : Int64} (hv6 : v6 = encF (dT (stl ρ a 0) m a fz t (pFr ρ t))) :
    ∃ T', fX5_keeps0_b87 (zN t) (zN a) (zJ z0) v6 (zJ 1000000000) (zJ s) T = some (zI (kpI ρ m fz t a), T') ∧ K1 T T' := by
  have b := hQ.2.1.ha ha
  have c := hQ.2.1.ht ht
  have hE := eachI_rng ρ
  have hI0 : Inv (stl ρ a 0) := hQ.2.1.stl ha (by omega)
  have ht0 : t < (stl ρ a 0) 2 := by rw [stl_low ρ a 0 (by omega)]; exact ht
  have hin := dT_in (m := m) (aw := a) (fz := fz) hI0 ht0 (pFr ρ t)
  have hin0 := dT_in (m := m) (aw := -1) (fz := fz) hI0 ht0 (pFr ρ t) z0 hz0
  have c1 := encF_ge hin
  have eF : (2305843009213693951 : Int64) = zJ FAR := rfl
  rw [← hv6] at c1
  cases hw : dT (stl ρ a 0) m a fz t (pFr ρ t) with
  | none =>
    rw [hw] at c1
    refine ⟨T, ?_, K1.refl T⟩
    rw [kq_inf hQ.2.1 ha ht hu0 hw]
    simp (disch := omega) only [b2_some, bd_some, nm_eq, Option.map_some, zN_lit, zN_add, zN_mul, zN_neg1, if_true, if_false, reduceIte, eq_self, Nat.reduceEqDiff, Nat.reduceAdd, Nat.reduceMul, Nat.reduceSub, Nat.reduceLeDiff, Nat.one_ne_zero, not_false_eq_true, Bool.false_eq_true, zN_eq, zN_lt, zN_le,  fX5_keeps0_b87, c1, eF, fX5_keeps0_b118, ta3 hQ.1]
    rfl
  | some zi =>
    rw [hw] at c1
    rw [hw, encF_some] at hv6
    subst hv6
    have hzi := hin zi hw
    obtain ⟨k0, k1, k2⟩ := kq_fin2 hQ.2.1 ha ht hu0 hz0 hw
    have hq0 : 0 ≤ (zi - z0) / eachI ρ := Int.ediv_nonneg (by omega) (by omega)
    have hq1 : (zi - z0) / eachI ρ ≤ zi - z0 := Int.ediv_le_self _ (by omega)
    have c2 : ¬ (some zi = none) := by simp
    have hc := lgc_le' (a := (zi - z0) / eachI ρ) (b := (aMx ρ a : Nat)) ⟨by omega, by omega⟩ ⟨by omega, by omega⟩
    have hdiv := zJ_div (a := zi - z0) (b := eachI ρ) (by omega) (by omega)
    by_cases hle : (zi - z0) / eachI ρ ≤ ((aMx ρ a : Nat) : Int)
    · rw [eq_true hle] at hc
      have hqe : zI ((zi - z0) / eachI ρ) = zN ((zi - z0) / eachI ρ).toNat := zI_nn hq0
      obtain ⟨T', e, hK⟩ := tw_useW hQ ht ha (x := ((zi - z0) / eachI ρ).toNat) (by omega)
      have hk := k2 ((zi - z0) / eachI ρ).toNat (by omega) (by omega)
      refine ⟨T', ?_, hK⟩
      rw [hk]
      cases hu : useB (stl ρ a ((zi - z0) / eachI ρ).toNat) m (-1) fz t a with
      | true =>
        rw [hu] at e
        simp (disch := omega) only [b2_some, bd_some, nm_eq, Option.map_some, zN_lit, zN_add, zN_mul, zN_neg1, if_true, if_false, reduceIte, eq_self, Nat.reduceEqDiff, Nat.reduceAdd, Nat.reduceMul, Nat.reduceSub, Nat.reduceLeDiff, Nat.one_ne_zero, not_false_eq_true, Bool.false_eq_true, zN_eq, zN_lt, zN_le,  fX5_keeps0_b87, c1, c2, eF, zJ_add, hs, nzL_J, ta3 hQ.1, zJ_sub, hdiv, zN_J, hc, zJ_I, hqe, e]
        exact congrArg (fun z => some (z, T')) (zI_cast _).symm
      | false =>
        rw [hu] at e
        simp (disch := omega) only [b2_some, bd_some, nm_eq, Option.map_some, zN_lit, zN_add, zN_mul, zN_neg1, if_true, if_false, reduceIte, eq_self, Nat.reduceEqDiff, Nat.reduceAdd, Nat.reduceMul, Nat.reduceSub, Nat.reduceLeDiff, Nat.one_ne_zero, not_false_eq_true, Bool.false_eq_true, zN_eq, zN_lt, zN_le,  fX5_keeps0_b87, c1, c2, eF, zJ_add, hs, nzL_J, ta3 hQ.1, zJ_sub, hdiv, zN_J, hc, zJ_I, hqe, e]
        have e3 : zN ((zi - z0) / eachI ρ).toNat - zN 1 = zI ((((zi - z0) / eachI ρ).toNat : Int) - 1) := by
          show zI _ - zI _ = _
          rw [zI_sub]
          rfl
        rw [e3]
    · rw [eq_false hle] at hc
      refine ⟨T, ?_, K1.refl T⟩
      rw [k1 (by omega)]
      simp (disch := omega) only [b2_some, bd_some, nm_eq, Option.map_some, zN_lit, zN_add, zN_mul, zN_neg1, if_true, if_false, reduceIte, eq_self, Nat.reduceEqDiff, Nat.reduceAdd, Nat.reduceMul, Nat.reduceSub, Nat.reduceLeDiff, Nat.one_ne_zero, not_false_eq_true, Bool.false_eq_true, zN_eq, zN_lt, zN_le,  fX5_keeps0_b87, c1, c2, eF, zJ_add, hs, nzL_J, ta3 hQ.1, zJ_sub, hdiv, zN_J, hc, fX5_keeps0_b118]
      rfl
theorem tw_keep (hQ : QT T ρ m (-1) fz) (ht : t < ρ 2) {a : Nat} (ha : a < ρ 1) :
    ∃ T', fX5_keeps0 (zN t) (zN a) T = some (zI (kpI ρ m fz t a), T') ∧ K1 T T' := by
  have b := hQ.2.1.ha ha
  have c := hQ.2.1.ht ht
  obtain ⟨T2, e2, hK2⟩ := tw_useW hQ ht ha (x := 0) (by omega)
  cases hu0 : useB (stl ρ a 0) m (-1) fz t a with
  | false =>
    rw [hu0] at e2
    refine ⟨T2, ?_, hK2⟩
    rw [kq_none hQ.2.1 ha ht hu0]
    simp (disch := omega) only [b2_some, bd_some, nm_eq, Option.map_some, zN_lit, zN_add, zN_mul, zN_neg1, if_true, if_false, reduceIte, eq_self, Nat.reduceEqDiff, Nat.reduceAdd, Nat.reduceMul, Nat.reduceSub, Nat.reduceLeDiff, Nat.one_ne_zero, not_false_eq_true, Bool.false_eq_true, zN_eq, zN_lt, zN_le,  fX5_keeps0, e2]
  | true =>
    rw [hu0] at e2
    obtain ⟨z0, hz0⟩ := kq_fin hQ.2.1 ha ht (x := 0) (by omega) hu0
    have hQ2 := hK2.q hQ
    have hQ3 := hQ2.stl ha (x := 0) (by omega)
    have ht0 : t < (stl ρ a 0) 2 := by rw [stl_low ρ a 0 (by omega)]; exact ht
    obtain ⟨f1, e4, -⟩ := tw_best hQ3.1 hQ3.2.1 hQ3.2.2 ht0
    rw [stl_pF ρ a 0 t (by omega), hz0, encF_some] at e4
    have hR5 : RowT (tsI (tsB (tsA T2 1 (upd (tA T2 1) (4 + 6 * a + 4) (zN 0))) 7 f1) 18 (zN a)) (stl ρ a 0) := hQ3.1
    have hO5 : OptT (tsI (tsB (tsA T2 1 (upd (tA T2 1) (4 + 6 * a + 4) (zN 0))) 7 f1) 18 (zN a)) m a fz := by
      obtain ⟨o1, o2, o3⟩ := hQ3.2.2
      refine ⟨o1, ⟨by rw [tI_s, if_pos rfl]; rfl, by omega, by omega⟩, o3⟩
    obtain ⟨f2, e5, -⟩ := tw_best hR5 hQ3.2.1 hO5 ht0
    rw [stl_pF ρ a 0 t (by omega)] at e5
    generalize hT6 : tsI (tsB (tsI (tsB (tsA T2 1 (upd (tA T2 1) (4 + 6 * a + 4) (zN 0))) 7 f1) 18 (zN a)) 7 f2) 18 (zI (-1)) = T6
    have hK6 : K1 (tsA T2 1 (upd (tA T2 1) (4 + 6 * a + 4) (zN 0))) T6 := by
      subst hT6
      refine ⟨fun k hk => ?_, rfl, fun p hp => rfl⟩
      rw [tI_s]
      by_cases e : k = 18
      · subst e
        rw [if_pos rfl]
        exact hQ3.2.2.2.1.1.symm
      · rw [if_neg e, tI_B, tI_s, if_neg e, tI_B]
    have hK7 := hK6.back (y := zN (aTl ρ a)) (hQ2.1 _ (by omega)).symm
    have hQ7 := hK7.q hQ2
    have h3 := hQ.2.1.h3
    have e7 : sgn ρ = (if ρ 3 = 1 then -1 else 1) := rfl
    by_cases h31 : ρ 3 = 1
    · rw [if_pos h31] at e7
      obtain ⟨T', e8, hK8⟩ := tw_kp87 hQ7 ht ha hu0 hz0 (s := -100) (by unfold eachI; omega) rfl
      refine ⟨T', ?_, (hK2.trans hK7).trans hK8⟩
      simp (disch := omega) only [b2_some, bd_some, nm_eq, Option.map_some, zN_lit, zN_add, zN_mul, zN_neg1, if_true, if_false, reduceIte, eq_self, Nat.reduceEqDiff, Nat.reduceAdd, Nat.reduceMul, Nat.reduceSub, Nat.reduceLeDiff, Nat.one_ne_zero, not_false_eq_true, Bool.false_eq_true, zN_eq, zN_lt, zN_le,  fX5_keeps0, e2, ta4 hQ2.1, fX5_atArc, wrA_N, e4, e5, hT6, tw_rd hQ7.1, h31, show (1000000000 : Int64) = zJ 1000000000 from rfl, show (-100 : Int64) = zJ (-100) from rfl, e8]
    · rw [if_neg h31] at e7
      obtain ⟨T', e8, hK8⟩ := tw_kp87 hQ7 ht ha hu0 hz0 (s := 100) (by unfold eachI; omega) rfl
      refine ⟨T', ?_, (hK2.trans hK7).trans hK8⟩
      simp (disch := omega) only [b2_some, bd_some, nm_eq, Option.map_some, zN_lit, zN_add, zN_mul, zN_neg1, if_true, if_false, reduceIte, eq_self, Nat.reduceEqDiff, Nat.reduceAdd, Nat.reduceMul, Nat.reduceSub, Nat.reduceLeDiff, Nat.one_ne_zero, not_false_eq_true, Bool.false_eq_true, zN_eq, zN_lt, zN_le,  fX5_keeps0, e2, ta4 hQ2.1, fX5_atArc, wrA_N, e4, e5, hT6, tw_rd hQ7.1, h31, show (1000000000 : Int64) = zJ 1000000000 from rfl, show (100 : Int64) = zJ 100 from rfl, e8]
end
/-- the first of the greatest -/
def bsy (f : Nat → Int) : Nat → Int × Int
  | 0 => (-1, -1)
  | k + 1 => (if (bsy f k).2 < f k then (k : Int) else (bsy f k).1, if (bsy f k).2 < f k then f k else (bsy f k).2)
theorem bsy_rng {f : Nat → Int} {D : Int} (hD : -1 ≤ D) : ∀ n, (∀ k, k < n → -1 ≤ f k ∧ f k ≤ D) → (-1 ≤ (bsy f n).1 ∧ (bsy f n).1 < n) ∧ -1 ≤ (bsy f n).2 ∧ (bsy f n).2 ≤ D
  | 0, _ => ⟨⟨(by decide : (-1 : Int) ≤ -1), (by decide : (-1 : Int) < ((0 : Nat) : Int))⟩, (by decide : (-1 : Int) ≤ -1), hD⟩
  | n + 1, h => by
    have h1 := bsy_rng hD n (fun k hk => h k (by omega))
    have h2 := h n (by omega)
    unfold bsy
    dsimp only
    split <;> omega
theorem mxI_z {a b : Int} (ha : -2147483648 ≤ a ∧ a < 2147483648) (hb : -2147483648 ≤ b ∧ b < 2147483648) : mxI (zI a) (zI b) = zI (if a < b then b else a) := by
  unfold mxI
  simp only [zI_lt ha hb]
  split <;> rfl
theorem mnI_z {a b : Int} (ha : -2147483648 ≤ a ∧ a < 2147483648) (hb : -2147483648 ≤ b ∧ b < 2147483648) : mnI (zI a) (zI b) = zI (if b < a then b else a) := by
  unfold mnI
  simp only [zI_lt hb ha]
  split <;> rfl
section
variable {T : TW} {ρ : Nat → Nat} {m fz : Nat} {aw : Int} {t : Nat}
theorem flwN_le (hI : Inv ρ) (a : Nat) : flwN ρ m aw fz a ≤ 5994 := by
  have h2 := hI.h2
  have : flwN ρ m aw fz a ≤ ρ 2 * 999 := sgN_le _ (fun k hk => by
    have := hI.ht hk
    split <;> omega)
  have h3 : ρ 2 * 999 ≤ 6 * 999 := Nat.mul_le_mul_right _ h2
  omega
noncomputable def bsyI (ρ : Nat → Nat) (m : Nat) (aw : Int) (fz : Nat) : Int := (bsy (fun a => (flwN ρ m aw fz a : Int)) (ρ 1)).1
theorem tw_busy (hQ : QT T ρ m aw fz) : ∃ T', fX5_busiest_l11 (-1) (-1) 0 T = some (zI (bsyI ρ m aw fz), T') ∧ K1 T T' := by
  have h1 := hQ.2.1.h1
  have H : ∃ r, fX5_busiest_l11 (-1) (-1) 0 T = some r ∧ ∃ T', r = (zI (bsyI ρ m aw fz), T') ∧ K1 T T' := by
    refine wh_up (P := fun i s => i ≤ ρ 1 ∧ ∃ T', s = (zI (bsy (fun a => (flwN ρ m aw fz a : Int)) i).1, zI (bsy (fun a => (flwN ρ m aw fz a : Int)) i).2, zN i, T') ∧ K1 T T') (ρ 1) ?_ ?_ (ρ 1) 0 _ (by omega) ⟨by omega, T, rfl, K1.refl T⟩
    · rintro i s hi ⟨-, T', rfl, hK⟩
      obtain ⟨T2, e2, hK2⟩ := tw_flw (hK.q hQ) (a := i) (by omega)
      left
      have hr := bsy_rng (f := fun a => (flwN ρ m aw fz a : Int)) (D := 5994) (by omega) i (fun k hk => by have := flwN_le (m := m) (aw := aw) (fz := fz) hQ.2.1 k; omega)
      have hf := flwN_le (m := m) (aw := aw) (fz := fz) hQ.2.1 i
      have n1 : ¬ (ρ 1 ≤ i) := by omega
      have n2 : (zN (flwN ρ m aw fz i) ≤ zI (bsy (fun a => (flwN ρ m aw fz a : Int)) i).2) = ((flwN ρ m aw fz i : Int) ≤ (bsy (fun a => (flwN ρ m aw fz a : Int)) i).2) := zI_le (by omega) (by omega)
      have n3 : mxI (zI (bsy (fun a => (flwN ρ m aw fz a : Int)) i).2) (zN (flwN ρ m aw fz i)) = _ := mxI_z (b := (flwN ρ m aw fz i : Int)) (by omega) (by omega)
      refine ⟨_, ?_, by omega, T2, rfl, hK.trans hK2⟩
      rw [bsy]
      by_cases hc : (flwN ρ m aw fz i : Int) ≤ (bsy (fun a => (flwN ρ m aw fz a : Int)) i).2
      · have hc' : ¬ ((bsy (fun a => (flwN ρ m aw fz a : Int)) i).2 < (flwN ρ m aw fz i : Int)) := by omega
        simp (disch := omega) only [b2_some, bd_some, nm_eq, Option.map_some, zN_lit, zN_add, zN_mul, zN_neg1, if_true, if_false, reduceIte, eq_self, Nat.reduceEqDiff, Nat.reduceAdd, Nat.reduceMul, Nat.reduceSub, Nat.reduceLeDiff, Nat.one_ne_zero, not_false_eq_true, Bool.false_eq_true, zN_eq, zN_lt, zN_le,  fX5_busiest_b11, tw_rd (hK.row hQ.1), n1, e2, n2, n3, hc, hc', fX5_busiest_b39]
      · have hc' : (bsy (fun a => (flwN ρ m aw fz a : Int)) i).2 < (flwN ρ m aw fz i : Int) := by omega
        simp (disch := omega) only [b2_some, bd_some, nm_eq, Option.map_some, zN_lit, zN_add, zN_mul, zN_neg1, if_true, if_false, reduceIte, eq_self, Nat.reduceEqDiff, Nat.reduceAdd, Nat.reduceMul, Nat.reduceSub, Nat.reduceLeDiff, Nat.one_ne_zero, not_false_eq_true, Bool.false_eq_true, zN_eq, zN_lt, zN_le,  fX5_busiest_b11, tw_rd (hK.row hQ.1), n1, e2, n2, n3, hc, hc', fX5_busiest_b39]
        rfl
    · rintro s ⟨-, T', rfl, hK⟩
      refine ⟨_, ?_, T', rfl, hK⟩
      simp (disch := omega) only [b2_some, bd_some, nm_eq, Option.map_some, zN_lit, zN_add, zN_mul, zN_neg1, if_true, if_false, reduceIte, eq_self, Nat.reduceEqDiff, Nat.reduceAdd, Nat.reduceMul, Nat.reduceSub, Nat.reduceLeDiff, Nat.one_ne_zero, not_false_eq_true, Bool.false_eq_true, zN_eq, zN_lt, zN_le,  fX5_busiest_b11, tw_rd (hK.row hQ.1), Nat.le_refl]
      rfl
  obtain ⟨r, e, T', rfl, h⟩ := H
  exact ⟨T', e, h⟩
noncomputable def unuN (ρ : Nat → Nat) (m : Nat) (aw : Int) (fz : Nat) : Nat := msk (fun a => usrN ρ m aw fz a == 0) (ρ 1)
theorem usrN_lt (hI : Inv ρ) (a : Nat) : usrN ρ m aw fz a < 64 := by
  have h2 := hI.h2
  have hlt := msk_lt (fun t => useB ρ m aw fz t a) (ρ 2)
  have h26 : (2 : Nat) ^ ρ 2 ≤ 2 ^ 6 := Nat.pow_le_pow_right (by omega) h2
  unfold usrN
  omega
theorem tw_unu (hQ : QT T ρ m aw fz) : ∃ T', fX5_unused_l9 0 0 T = some (zN (unuN ρ m aw fz), T') ∧ K1 T T' := by
  have h1 := hQ.2.1.h1
  have H : ∃ r, fX5_unused_l9 0 0 T = some r ∧ ∃ T', r = (zN (unuN ρ m aw fz), T') ∧ K1 T T' := by
    refine wh_up (P := fun i s => i ≤ ρ 1 ∧ ∃ T', s = (zN (msk (fun a => usrN ρ m aw fz a == 0) i), zN i, T') ∧ K1 T T') (ρ 1) ?_ ?_ (ρ 1) 0 _ (by omega) ⟨by omega, T, rfl, K1.refl T⟩
    · rintro i s hi ⟨-, T', rfl, hK⟩
      obtain ⟨T2, e2, hK2⟩ := tw_usr (hK.q hQ) (a := i) (by omega)
      left
      have hlt := usrN_lt (m := m) (aw := aw) (fz := fz) hQ.2.1 i
      have n1 : ¬ (ρ 1 ≤ i) := by omega
      refine ⟨_, ?_, by omega, T2, rfl, hK.trans hK2⟩
      rw [msk]
      by_cases hc : usrN ρ m aw fz i = 0
      · simp (disch := omega) only [b2_some, bd_some, nm_eq, Option.map_some, zN_lit, zN_add, zN_mul, zN_neg1, if_true, if_false, reduceIte, eq_self, Nat.reduceEqDiff, Nat.reduceAdd, Nat.reduceMul, Nat.reduceSub, Nat.reduceLeDiff, Nat.one_ne_zero, not_false_eq_true, Bool.false_eq_true, zN_eq, zN_lt, zN_le,  fX5_unused_b9, tw_rd (hK.row hQ.1), n1, e2, hc, fX5_unused_b35, zN_shlz, zN_or, beq_self_eq_true]
      · have hc' : (usrN ρ m aw fz i == 0) = false := beq_false_of_ne hc
        simp (disch := omega) only [b2_some, bd_some, nm_eq, Option.map_some, zN_lit, zN_add, zN_mul, zN_neg1, if_true, if_false, reduceIte, eq_self, Nat.reduceEqDiff, Nat.reduceAdd, Nat.reduceMul, Nat.reduceSub, Nat.reduceLeDiff, Nat.one_ne_zero, not_false_eq_true, Bool.false_eq_true, zN_eq, zN_lt, zN_le,  fX5_unused_b9, tw_rd (hK.row hQ.1), n1, e2, hc, hc', fX5_unused_b35, zN_shlz, zN_or]
    · rintro s ⟨-, T', rfl, hK⟩
      refine ⟨_, ?_, T', rfl, hK⟩
      simp (disch := omega) only [b2_some, bd_some, nm_eq, Option.map_some, zN_lit, zN_add, zN_mul, zN_neg1, if_true, if_false, reduceIte, eq_self, Nat.reduceEqDiff, Nat.reduceAdd, Nat.reduceMul, Nat.reduceSub, Nat.reduceLeDiff, Nat.one_ne_zero, not_false_eq_true, Bool.false_eq_true, zN_eq, zN_lt, zN_le,  fX5_unused_b9, tw_rd (hK.row hQ.1), Nat.le_refl]
      rfl
  obtain ⟨r, e, T', rfl, h⟩ := H
  exact ⟨T', e, h⟩
end
