/-! Plain law: burden, dearest; turns and best tolls on the twin's side -/
noncomputable def burI (ρ : Nat → Nat) (m : Nat) (aw : Int) (fz t : Nat) : Int := match PT ρ m aw fz t with
  | some p => (pDe ρ t : Int) * ((pVa ρ t * pco ρ p + ptl ρ p : Nat) : Int)
  | none => 0
noncomputable def dea (ρ : Nat → Nat) (m : Nat) (aw : Int) (fz : Nat) : Nat → Int × Int × Int
  | 0 => (-1, 0, 1)
  | k + 1 => match PT ρ m aw fz k with
    | none => dea ρ m aw fz k
    | some p => if (dea ρ m aw fz k).1 = -1 ∨ ¬ ((ptl ρ p : Int) * (dea ρ m aw fz k).2.2 ≤ (dea ρ m aw fz k).2.1 * ((pVa ρ k * pco ρ p + ptl ρ p : Nat) : Int)) then ((k : Int), (ptl ρ p : Int), ((pVa ρ k * pco ρ p + ptl ρ p : Nat) : Int)) else dea ρ m aw fz k
theorem zN_dec {i : Nat} (h : 1 ≤ i) : zN i + zI (-1) = zN (i - 1) := by
  unfold zN
  rw [zI_add]
  congr 1
  omega
section
variable {T : TW} {ρ : Nat → Nat} {m fz : Nat} {aw : Int} {t : Nat}
theorem tw_bur (hQ : QT T ρ m aw fz) : ∃ T', fX5_burden_l9 0 0 T = some (zJ (sgI (burI ρ m aw fz) (ρ 2)), T') ∧ K1 T T' := by
  have h2 := hQ.2.1.h2
  have H : ∃ r, fX5_burden_l9 0 0 T = some r ∧ ∃ T', r = (zJ (sgI (burI ρ m aw fz) (ρ 2)), T') ∧ K1 T T' := by
    refine wh_up (P := fun i s => i ≤ ρ 2 ∧ ∃ T', s = (zJ (sgI (burI ρ m aw fz) i), zN i, T') ∧ K1 T T') (ρ 2) ?_ ?_ (ρ 2) 0 _ (by omega) ⟨by omega, T, rfl, K1.refl T⟩
    · rintro i s hi ⟨-, T', rfl, hK⟩
      obtain ⟨T2, e2, hK2, h3⟩ := tw_lays (hK.q hQ) hi
      have c := hQ.2.1.ht hi
      left
      refine ⟨_, ?_, by omega, T2, rfl, hK.trans hK2⟩
      have n1 : ¬ (ρ 2 ≤ i) := by omega
      rw [sgI, burI]
      cases hp : PT ρ m aw fz i with
      | none =>
        rw [hp] at e2
        simp (disch := omega) only [b2_some, bd_some, nm_eq, Option.map_some, zN_lit, zN_add, zN_mul, zN_neg1, if_true, if_false, reduceIte, eq_self, Nat.reduceEqDiff, Nat.reduceAdd, Nat.reduceMul, Nat.reduceSub, Nat.reduceLeDiff, Nat.one_ne_zero, not_false_eq_true, Bool.false_eq_true, zN_eq, zN_lt, zN_le,  fX5_burden_b9, tw_rd (hK.row hQ.1), n1, e2, Option.isSome_none, fX5_burden_b46, show (0 : Int64) = zJ 0 from rfl, zJ_add]
      | some p =>
        rw [hp] at e2
        obtain ⟨h4, h5⟩ := h3 p hp
        have h6 := tw_feltNow (hK2.q (hK.q hQ)) hi hp h4 h5
        have h7 := ptl_le hQ.2.1 hi hp
        simp (disch := omega) only [b2_some, bd_some, nm_eq, Option.map_some, zN_lit, zN_add, zN_mul, zN_neg1, if_true, if_false, reduceIte, eq_self, Nat.reduceEqDiff, Nat.reduceAdd, Nat.reduceMul, Nat.reduceSub, Nat.reduceLeDiff, Nat.one_ne_zero, not_false_eq_true, Bool.false_eq_true, zN_eq, zN_lt, zN_le,  fX5_burden_b9, tw_rd (hK.row hQ.1), n1, e2, Option.isSome_some, tp2 (hK2.row (hK.row hQ.1)), h6, fX5_burden_b46, zN_J, zJ_add, zJ_mul]
    · rintro s ⟨-, T', rfl, hK⟩
      refine ⟨_, ?_, T', rfl, hK⟩
      simp (disch := omega) only [b2_some, bd_some, nm_eq, Option.map_some, zN_lit, zN_add, zN_mul, zN_neg1, if_true, if_false, reduceIte, eq_self, Nat.reduceEqDiff, Nat.reduceAdd, Nat.reduceMul, Nat.reduceSub, Nat.reduceLeDiff, Nat.one_ne_zero, not_false_eq_true, Bool.false_eq_true, zN_eq, zN_lt, zN_le,  fX5_burden_b9, tw_rd (hK.row hQ.1), Nat.le_refl]
  obtain ⟨r, e, T', rfl, h⟩ := H
  exact ⟨T', e, h⟩
theorem dea_rng (hI : Inv ρ) : ∀ n, n ≤ ρ 2 → (-1 ≤ (dea ρ m aw fz n).1 ∧ (dea ρ m aw fz n).1 < 6) ∧ (0 ≤ (dea ρ m aw fz n).2.1 ∧ (dea ρ m aw fz n).2.1 ≤ 89991) ∧ (0 ≤ (dea ρ m aw fz n).2.2 ∧ (dea ρ m aw fz n).2.2 ≤ 269811)
  | 0, _ => ⟨⟨(by decide : (-1 : Int) ≤ -1), (by decide : (-1 : Int) < 6)⟩, ⟨(by decide : (0 : Int) ≤ 0), (by decide : (0 : Int) ≤ 89991)⟩, ⟨(by decide : (0 : Int) ≤ 1), (by decide : (1 : Int) ≤ 269811)⟩⟩
  | n + 1, h => by
    have h1 := dea_rng hI n (by omega)
    have h2 := hI.h2
    unfold dea
    cases hp : PT ρ m aw fz n with
    | none => exact h1
    | some p =>
      have h7 := ptl_le hI (show n < ρ 2 by omega) hp
      dsimp only
      split
      · dsimp only; omega
      · exact h1
theorem tw_dea (hQ : QT T ρ m aw fz) : ∃ T', fX5_dearest_l15 (-1) 0 1 0 T = some (zI (dea ρ m aw fz (ρ 2)).1, T') ∧ K1 T T' := by
  have h2 := hQ.2.1.h2
  have H : ∃ r, fX5_dearest_l15 (-1) 0 1 0 T = some r ∧ ∃ T', r = (zI (dea ρ m aw fz (ρ 2)).1, T') ∧ K1 T T' := by
    refine wh_up (P := fun i s => i ≤ ρ 2 ∧ ∃ T', s = (zI (dea ρ m aw fz i).1, zJ (dea ρ m aw fz i).2.1, zJ (dea ρ m aw fz i).2.2, zN i, T') ∧ K1 T T') (ρ 2) ?_ ?_ (ρ 2) 0 _ (by omega) ⟨by omega, T, rfl, K1.refl T⟩
    · rintro i s hi ⟨-, T', rfl, hK⟩
      obtain ⟨T2, e2, hK2, h3⟩ := tw_lays (hK.q hQ) hi
      have c := hQ.2.1.ht hi
      have hr := dea_rng (m := m) (aw := aw) (fz := fz) hQ.2.1 i (by omega)
      left
      refine ⟨_, ?_, by omega, T2, rfl, hK.trans hK2⟩
      have n1 : ¬ (ρ 2 ≤ i) := by omega
      rw [dea]
      cases hp : PT ρ m aw fz i with
      | none =>
        rw [hp] at e2
        simp (disch := omega) only [b2_some, bd_some, nm_eq, Option.map_some, zN_lit, zN_add, zN_mul, zN_neg1, if_true, if_false, reduceIte, eq_self, Nat.reduceEqDiff, Nat.reduceAdd, Nat.reduceMul, Nat.reduceSub, Nat.reduceLeDiff, Nat.one_ne_zero, not_false_eq_true, Bool.false_eq_true, zN_eq, zN_lt, zN_le,  fX5_dearest_b15, tw_rd (hK.row hQ.1), n1, e2, Option.isSome_none, fX5_dearest_b81]
      | some p =>
        rw [hp] at e2
        obtain ⟨h4, h5⟩ := h3 p hp
        have hQ2 := hK2.q (hK.q hQ)
        have h6 := tw_feltNow hQ2 hi hp h4 h5
        have h6' := tw_sumT hQ2 hi hp h4 h5
        have h7 := ptl_le hQ.2.1 hi hp
        dsimp only
        have n2 : (zI (dea ρ m aw fz i).1 = zI (-1)) = ((dea ρ m aw fz i).1 = -1) := zI_eq (by omega) (by omega)
        by_cases hb : (dea ρ m aw fz i).1 = -1
        · rw [eq_true hb] at n2
          rw [if_pos (.inl hb)]
          simp (disch := omega) only [b2_some, bd_some, nm_eq, Option.map_some, zN_lit, zN_add, zN_mul, zN_neg1, if_true, if_false, reduceIte, eq_self, Nat.reduceEqDiff, Nat.reduceAdd, Nat.reduceMul, Nat.reduceSub, Nat.reduceLeDiff, Nat.one_ne_zero, not_false_eq_true, Bool.false_eq_true, zN_eq, zN_lt, zN_le,  fX5_dearest_b15, tw_rd (hK.row hQ.1), n1, e2, Option.isSome_some, n2, fX5_dearest_b62, h6, h6', zN_J, fX5_dearest_b81]
          rfl
        · rw [eq_false hb] at n2
          have m1 : 0 ≤ (ptl ρ p : Int) * (dea ρ m aw fz i).2.2 := Int.mul_nonneg (by omega) (by omega)
          have m2 : (ptl ρ p : Int) * (dea ρ m aw fz i).2.2 ≤ 89991 * 269811 := Int.mul_le_mul (by omega) (by omega) (by omega) (by omega)
          have m3 : 0 ≤ (dea ρ m aw fz i).2.1 * ((pVa ρ i * pco ρ p + ptl ρ p : Nat) : Int) := Int.mul_nonneg (by omega) (by omega)
          have m4 : (dea ρ m aw fz i).2.1 * ((pVa ρ i * pco ρ p + ptl ρ p : Nat) : Int) ≤ 89991 * 269811 := Int.mul_le_mul (by omega) (by omega) (by omega) (by omega)
          have n3 := lgc_le' (a := (ptl ρ p : Int) * (dea ρ m aw fz i).2.2) (b := (dea ρ m aw fz i).2.1 * ((pVa ρ i * pco ρ p + ptl ρ p : Nat) : Int)) ⟨by omega, by omega⟩ ⟨by omega, by omega⟩
          by_cases hc : (ptl ρ p : Int) * (dea ρ m aw fz i).2.2 ≤ (dea ρ m aw fz i).2.1 * ((pVa ρ i * pco ρ p + ptl ρ p : Nat) : Int)
          · rw [eq_true hc] at n3
            rw [if_neg (by rintro (h | h); exact hb h; exact h hc)]
            simp (disch := omega) only [b2_some, bd_some, nm_eq, Option.map_some, zN_lit, zN_add, zN_mul, zN_neg1, if_true, if_false, reduceIte, eq_self, Nat.reduceEqDiff, Nat.reduceAdd, Nat.reduceMul, Nat.reduceSub, Nat.reduceLeDiff, Nat.one_ne_zero, not_false_eq_true, Bool.false_eq_true, zN_eq, zN_lt, zN_le,  fX5_dearest_b15, tw_rd (hK.row hQ.1), n1, e2, Option.isSome_some, n2, h6, h6', zN_J, zJ_mul, n3, fX5_dearest_b81]
          · rw [eq_false hc] at n3
            rw [if_pos (.inr hc)]
            simp (disch := omega) only [b2_some, bd_some, nm_eq, Option.map_some, zN_lit, zN_add, zN_mul, zN_neg1, if_true, if_false, reduceIte, eq_self, Nat.reduceEqDiff, Nat.reduceAdd, Nat.reduceMul, Nat.reduceSub, Nat.reduceLeDiff, Nat.one_ne_zero, not_false_eq_true, Bool.false_eq_true, zN_eq, zN_lt, zN_le,  fX5_dearest_b15, tw_rd (hK.row hQ.1), n1, e2, Option.isSome_some, n2, fX5_dearest_b62, h6, h6', zN_J, zJ_mul, n3, fX5_dearest_b81]
            rfl
    · rintro s ⟨-, T', rfl, hK⟩
      refine ⟨_, ?_, T', rfl, hK⟩
      simp (disch := omega) only [b2_some, bd_some, nm_eq, Option.map_some, zN_lit, zN_add, zN_mul, zN_neg1, if_true, if_false, reduceIte, eq_self, Nat.reduceEqDiff, Nat.reduceAdd, Nat.reduceMul, Nat.reduceSub, Nat.reduceLeDiff, Nat.one_ne_zero, not_false_eq_true, Bool.false_eq_true, zN_eq, zN_lt, zN_le,  fX5_dearest_b15, tw_rd (hK.row hQ.1), Nat.le_refl]
  obtain ⟨r, e, T', rfl, h⟩ := H
  exact ⟨T', e, h⟩
end
/-- the turns: so many, ascending -/
def Srt (T : TW) (n : Nat) (g : Nat → Nat) : Prop := tI T 28 = zN n ∧ n ≤ 14 ∧ (∀ k, k < n → tA T 14 k = zN (g k) ∧ g k ≤ 9999) ∧ (∀ i j, i < j → j < n → g i < g j)
theorem K1.srt {T T' : TW} {n : Nat} {g : Nat → Nat} (h : K1 T T') (hS : Srt T n g) : Srt T' n g := by
  unfold Srt
  rw [h.1 28 (by omega), h.2.2 14 (by omega)]
  exact hS
/-- all but the turns is kept -/
def K3 (T T' : TW) : Prop := (∀ k, k ≠ 28 → tI T' k = tI T k) ∧ tR T' = tR T ∧ (∀ p, p ≠ 14 → tA T' p = tA T p)
theorem K3.k2 {T T' : TW} (h : K3 T T') : K2 T T' := ⟨fun k _ hk => h.1 k hk, fun p hp => h.2.2 p (by omega)⟩
theorem K3.A (T : TW) (f : Nat → Int32) : K3 T (tsA T 14 f) := ⟨fun _ _ => rfl, rfl, fun p hp => by rw [tA_A, if_neg hp]⟩
theorem K3.trans {T T' T2 : TW} (h : K3 T T') (h' : K3 T' T2) : K3 T T2 := ⟨fun k hk => (h'.1 k hk).trans (h.1 k hk), h'.2.1.trans h.2.1, fun p hp => (h'.2.2 p hp).trans (h.2.2 p hp)⟩
section
variable {T : TW} {n : Nat} {g : Nat → Nat}
theorem tw_ins (hS : Srt T n g) (hn : n < 14) {v k : Nat} (hv : v ≤ 9999) (hk : k ≤ n) (h1 : ∀ j, j < k → g j < v) (h2 : ∀ j, k ≤ j → j < n → v < g j) :
    ∃ T' g', fX5_addsTurn_b44 (zN v) (zN k) T = some T' ∧ Srt T' (n + 1) g' ∧ K3 T T' ∧ ∀ x, (∃ j, j < n + 1 ∧ g' j = x) ↔ (x = v ∨ ∃ j, j < n ∧ g j = x) := by
  obtain ⟨s1, s2, s3, s4⟩ := hS
  have H : ∃ r, fX5_addsTurn_l49 (zN v) (zN k) (zN n) T = some r ∧ (Srt r (n + 1) (fun j => if j < k then g j else if j = k then v else g (j - 1)) ∧ K3 T r) := by
    refine wh_dn (P := fun i s => i + k ≤ n ∧ ∃ T', s = (zN (k + i), T') ∧ K3 T T' ∧ tI T' 28 = zN n ∧ (∀ j, j ≤ n → j ≠ k + i → tA T' 14 j = zN (if k + i < j then g (j - 1) else g j))) ?_ (n - k) _ ⟨by omega, T, by rw [show k + (n - k) = n by omega], ⟨fun _ _ => rfl, rfl, fun _ _ => rfl⟩, s1, fun j hj hj' => by
      rw [if_neg (by omega)]
      exact (s3 j (by omega)).1⟩
    rintro i s ⟨hi, T', rfl, hK, h28, hA⟩
    by_cases e : i = 0
    · right
      subst e
      refine ⟨tsI (tsA T' 14 (upd (tA T' 14) k (zN v))) 28 (zN (n + 1)), ?_, ⟨?_, by omega, fun j hj => ?_, fun i j hij hj => ?_⟩, ?_⟩
      · simp (disch := omega) only [b2_some, bd_some, nm_eq, Option.map_some, zN_lit, zN_add, zN_mul, zN_neg1, if_true, if_false, reduceIte, eq_self, Nat.reduceEqDiff, Nat.reduceAdd, Nat.reduceMul, Nat.reduceSub, Nat.reduceLeDiff, Nat.one_ne_zero, not_false_eq_true, Bool.false_eq_true, zN_eq, zN_lt, zN_le,  fX5_addsTurn_b49, Nat.add_zero, Nat.le_refl, fX5_addsTurn_b74, wrA_N, tI_A, h28]
      · rw [tI_s, if_pos rfl]
      · rw [tA_s, tA_A, if_pos rfl]
        unfold upd
        dsimp only
        by_cases e1 : j = k
        · rw [if_pos e1, if_neg (show ¬ j < k by omega), if_pos e1]
          exact ⟨rfl, hv⟩
        · rw [if_neg e1, hA j (by omega) (by omega), Nat.add_zero]
          by_cases e2 : j < k
          · rw [if_neg (by omega), if_pos e2]
            exact ⟨rfl, (s3 j (by omega)).2⟩
          · rw [if_pos (by omega), if_neg e2, if_neg e1]
            exact ⟨rfl, (s3 (j - 1) (by omega)).2⟩
      · dsimp only
        by_cases a1 : i < k
        · rw [if_pos a1]
          by_cases b1 : j < k
          · rw [if_pos b1]; exact s4 i j hij (by omega)
          · rw [if_neg b1]
            by_cases b2 : j = k
            · rw [if_pos b2]; exact h1 i a1
            · rw [if_neg b2]; exact s4 i (j - 1) (by omega) (by omega)
        · rw [if_neg a1, if_neg (show ¬ j < k by omega), if_neg (show ¬ j = k by omega)]
          by_cases a2 : i = k
          · rw [if_pos a2]; exact h2 (j - 1) (by omega) (by omega)
          · rw [if_neg a2]; exact s4 (i - 1) (j - 1) (by omega) (by omega)
      · refine ⟨fun q hq => ?_, hK.2.1, fun p hp => ?_⟩
        · rw [tI_s, if_neg hq, tI_A]; exact hK.1 q hq
        · rw [tA_s, tA_A, if_neg hp]; exact hK.2.2 p hp
    · left
      have n1 : ¬ (k + i ≤ k) := by omega
      have g1 : tA T' 14 (k + i - 1) = zN (g (k + i - 1)) := by rw [hA _ (by omega) (by omega), if_neg (by omega)]
      refine ⟨(zN (k + i - 1), tsA T' 14 (upd (tA T' 14) (k + i) (zN (g (k + i - 1))))), i - 1, by omega, ?_, by omega, _, by rw [show k + (i - 1) = k + i - 1 by omega], hK.trans (K3.A _ _), h28, fun j hj hj' => ?_⟩
      · simp (disch := omega) only [b2_some, bd_some, nm_eq, Option.map_some, zN_lit, zN_add, zN_mul, zN_neg1, if_true, if_false, reduceIte, eq_self, Nat.reduceEqDiff, Nat.reduceAdd, Nat.reduceMul, Nat.reduceSub, Nat.reduceLeDiff, Nat.one_ne_zero, not_false_eq_true, Bool.false_eq_true, zN_eq, zN_lt, zN_le,  fX5_addsTurn_b49, n1, zN_sub, rd_N, g1, wrA_N, zN_dec]
      · rw [tA_A, if_pos rfl]
        unfold upd
        by_cases e1 : j = k + i
        · rw [if_pos e1, if_pos (by omega), e1]
        · rw [if_neg e1, hA j hj e1]
          by_cases e2 : k + i < j
          · rw [if_pos e2, if_pos (by omega)]
          · rw [if_neg e2, if_neg (by omega)]
  obtain ⟨T', e, hS', hK⟩ := H
  refine ⟨T', _, ?_, hS', hK, fun x => ⟨?_, ?_⟩⟩
  · simp (disch := omega) only [b2_some, bd_some, nm_eq, Option.map_some, zN_lit, zN_add, zN_mul, zN_neg1, if_true, if_false, reduceIte, eq_self, Nat.reduceEqDiff, Nat.reduceAdd, Nat.reduceMul, Nat.reduceSub, Nat.reduceLeDiff, Nat.one_ne_zero, not_false_eq_true, Bool.false_eq_true, zN_eq, zN_lt, zN_le,  fX5_addsTurn_b44, s1, e]
  · rintro ⟨j, hj, rfl⟩
    by_cases e1 : j < k
    · rw [if_pos e1]; exact .inr ⟨j, by omega, rfl⟩
    · rw [if_neg e1]
      by_cases e2 : j = k
      · rw [if_pos e2]; exact .inl rfl
      · rw [if_neg e2]; exact .inr ⟨j - 1, by omega, rfl⟩
  · rintro (rfl | ⟨j, hj, rfl⟩)
    · exact ⟨k, by omega, by rw [if_neg (by omega), if_pos rfl]⟩
    · by_cases e1 : j < k
      · exact ⟨j, by omega, by rw [if_pos e1]⟩
      · exact ⟨j + 1, by omega, by rw [if_neg (by omega), if_neg (by omega)]; rfl⟩
theorem tw_turn (hS : Srt T n g) (hn : n < 14) {v : Nat} (hv : v ≤ 9999) :
    ∃ T' n' g', fX5_addsTurn (zN v) T = some T' ∧ Srt T' n' g' ∧ n' ≤ n + 1 ∧ K3 T T' ∧ ∀ x, (∃ j, j < n' ∧ g' j = x) ↔ (x = v ∨ ∃ j, j < n ∧ g j = x) := by
  have hS0 := hS
  obtain ⟨s1, s2, s3, s4⟩ := hS
  have H : ∃ r, fX5_addsTurn_l5 (zN v) (zN n) T = some r ∧ ∃ n' g', Srt r n' g' ∧ n' ≤ n + 1 ∧ K3 T r ∧ ∀ x, (∃ j, j < n' ∧ g' j = x) ↔ (x = v ∨ ∃ j, j < n ∧ g j = x) := by
    refine wh_dn (P := fun k s => k ≤ n ∧ s = (zN k, T) ∧ ∀ j, k ≤ j → j < n → v < g j) ?_ n _ ⟨Nat.le_refl _, rfl, fun j h1 h2 => by omega⟩
    rintro k s ⟨hk, rfl, h2⟩
    by_cases e : k = 0
    · right
      subst e
      obtain ⟨T', g', e1, hS', hK, hx⟩ := tw_ins hS0 hn (v := v) (k := 0) hv (by omega) (fun j hj => by omega) h2
      refine ⟨T', ?_, n + 1, g', hS', Nat.le_refl _, hK, hx⟩
      simp (disch := omega) only [b2_some, bd_some, nm_eq, Option.map_some, zN_lit, zN_add, zN_mul, zN_neg1, if_true, if_false, reduceIte, eq_self, Nat.reduceEqDiff, Nat.reduceAdd, Nat.reduceMul, Nat.reduceSub, Nat.reduceLeDiff, Nat.one_ne_zero, not_false_eq_true, Bool.false_eq_true, zN_eq, zN_lt, zN_le,  fX5_addsTurn_b5, Nat.le_refl, fX5_addsTurn_b27, e1]
    · have n1 : ¬ (k ≤ 0) := by omega
      have g1 := s3 (k - 1) (by omega)
      by_cases hlt : v < g (k - 1)
      · left
        have n2 : ¬ (g (k - 1) ≤ v) := by omega
        refine ⟨(zN (k - 1), T), k - 1, by omega, ?_, by omega, rfl, fun j h3 h4 => ?_⟩
        · simp (disch := omega) only [b2_some, bd_some, nm_eq, Option.map_some, zN_lit, zN_add, zN_mul, zN_neg1, if_true, if_false, reduceIte, eq_self, Nat.reduceEqDiff, Nat.reduceAdd, Nat.reduceMul, Nat.reduceSub, Nat.reduceLeDiff, Nat.one_ne_zero, not_false_eq_true, Bool.false_eq_true, zN_eq, zN_lt, zN_le,  fX5_addsTurn_b5, n1, zN_sub, rd_N, g1.1, n2, zN_dec]
        · by_cases e2 : j = k - 1
          · rw [e2]; exact hlt
          · exact h2 j (by omega) h4
      · right
        have n2 : g (k - 1) ≤ v := by omega
        by_cases he : g (k - 1) = v
        · refine ⟨T, ?_, n, g, hS0, by omega, ⟨fun _ _ => rfl, rfl, fun _ _ => rfl⟩, fun x => ⟨fun h => .inr h, ?_⟩⟩
          · simp (disch := omega) only [b2_some, bd_some, nm_eq, Option.map_some, zN_lit, zN_add, zN_mul, zN_neg1, if_true, if_false, reduceIte, eq_self, Nat.reduceEqDiff, Nat.reduceAdd, Nat.reduceMul, Nat.reduceSub, Nat.reduceLeDiff, Nat.one_ne_zero, not_false_eq_true, Bool.false_eq_true, zN_eq, zN_lt, zN_le,  fX5_addsTurn_b5, n1, zN_sub, rd_N, g1.1, n2, fX5_addsTurn_b27, he, Nat.le_refl]
          · rintro (rfl | h)
            · exact ⟨k - 1, by omega, he⟩
            · exact h
        · obtain ⟨T', g', e1, hS', hK, hx⟩ := tw_ins hS0 hn (v := v) (k := k) hv hk (fun j hj => by
            by_cases e3 : j = k - 1
            · rw [e3]; omega
            · have := s4 j (k - 1) (by omega) (by omega); omega) h2
          refine ⟨T', ?_, n + 1, g', hS', Nat.le_refl _, hK, hx⟩
          simp (disch := omega) only [b2_some, bd_some, nm_eq, Option.map_some, zN_lit, zN_add, zN_mul, zN_neg1, if_true, if_false, reduceIte, eq_self, Nat.reduceEqDiff, Nat.reduceAdd, Nat.reduceMul, Nat.reduceSub, Nat.reduceLeDiff, Nat.one_ne_zero, not_false_eq_true, Bool.false_eq_true, zN_eq, zN_lt, zN_le,  fX5_addsTurn_b5, n1, zN_sub, rd_N, g1.1, n2, fX5_addsTurn_b27, he, e1]
  obtain ⟨T', e, n', g', h⟩ := H
  refine ⟨T', n', g', ?_, h⟩
  simp (disch := omega) only [b2_some, bd_some, nm_eq, Option.map_some, zN_lit, zN_add, zN_mul, zN_neg1, if_true, if_false, reduceIte, eq_self, Nat.reduceEqDiff, Nat.reduceAdd, Nat.reduceMul, Nat.reduceSub, Nat.reduceLeDiff, Nat.one_ne_zero, not_false_eq_true, Bool.false_eq_true, zN_eq, zN_lt, zN_le,  fX5_addsTurn, s1, e]
end
