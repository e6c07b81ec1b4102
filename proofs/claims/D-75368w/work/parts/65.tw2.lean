/-! Plain law: pledges, bound, burden, dearest on the twin's side -/
/-- all but what is scratch is kept -/
def K2 (T T' : TW) : Prop := (∀ k, k ≠ 21 → k ≠ 28 → tI T' k = tI T k) ∧ (∀ p, (p ≤ 6 ∨ p = 16) → tA T' p = tA T p)
theorem K1.k2 {T T' : TW} (h : K1 T T') : K2 T T' := ⟨fun k hk _ => h.1 k hk, fun p hp => h.2.2 p (by omega)⟩
theorem K2.refl (T : TW) : K2 T T := ⟨fun _ _ _ => rfl, fun _ _ => rfl⟩
theorem K2.trans {T T' T2 : TW} (h : K2 T T') (h' : K2 T' T2) : K2 T T2 := ⟨fun k hk hk' => (h'.1 k hk hk').trans (h.1 k hk hk'), fun p hp => (h'.2 p hp).trans (h.2 p hp)⟩
theorem K2.q {T T' : TW} {ρ : Nat → Nat} {m fz : Nat} {aw : Int} (h : K2 T T') (hQ : QT T ρ m aw fz) : QT T' ρ m aw fz := by
  refine ⟨fun i hi => ?_, hQ.2.1, ?_⟩
  · rw [h.2 1 (by omega)]
    exact hQ.1 i hi
  · unfold OptT
    rw [h.1 17 (by omega) (by omega), h.1 18 (by omega) (by omega), h.1 19 (by omega) (by omega)]
    exact hQ.2.2
def zms {α : Type} (z : α) (lo hi : Nat) (f : Nat → α) : Nat → α := fun j => if lo ≤ j ∧ j < hi ∧ j % 6 = 2 then z else f j
def ztl (ρ : Nat → Nat) : Nat → Nat := zms 0 4 148 ρ
section
variable {T : TW} {ρ : Nat → Nat} {m fz : Nat} {aw : Int} {t : Nat}
theorem tw_drop (hR : RowT T ρ) : ∃ T', fX5_dropsTolls T = some T' ∧ tA T' 1 = zms (zN 0) 4 148 (tA T 1) ∧ (∀ a, a < 24 → tA T' 13 a = zN (aTl ρ a)) ∧ (∀ k, tI T' k = tI T k) ∧ (∀ p, p ≠ 1 → p ≠ 13 → tA T' p = tA T p) := by
  have H : ∃ r, fX5_dropsTolls_l2 0 T = some r ∧ (tA r 1 = zms (zN 0) 4 148 (tA T 1) ∧ (∀ a, a < 24 → tA r 13 a = zN (aTl ρ a)) ∧ (∀ k, tI r k = tI T k) ∧ (∀ p, p ≠ 1 → p ≠ 13 → tA r p = tA T p)) := by
    refine wh_up (P := fun i s => i ≤ 24 ∧ ∃ T', s = (zN i, T') ∧ tA T' 1 = zms (zN 0) 4 (4 + 6 * i) (tA T 1) ∧ (∀ a, a < i → tA T' 13 a = zN (aTl ρ a)) ∧ (∀ k, tI T' k = tI T k) ∧ (∀ p, p ≠ 1 → p ≠ 13 → tA T' p = tA T p)) 24 ?_ ?_ 24 0 _ (by omega) ⟨by omega, T, rfl, ?_, fun a ha => by omega, fun k => rfl, fun p _ _ => rfl⟩
    · rintro i s hi ⟨-, T', rfl, h1, h2, h3, h4⟩
      left
      have n1 : ¬ (24 ≤ i) := by omega
      have g : tA T' 1 (4 + 6 * i + 4) = zN (aTl ρ i) := by
        rw [h1]
        unfold zms
        rw [if_neg (by omega)]
        exact hR _ (by omega)
      refine ⟨(zN (i + 1), tsA (tsA T' 13 (upd (tA T' 13) i (zN (aTl ρ i)))) 1 (upd (tA T' 1) (4 + 6 * i + 4) (zN 0))), ?_, by omega, _, rfl, ?_, fun a ha => ?_, h3, fun p hp hp' => ?_⟩
      · simp (disch := omega) only [b2_some, bd_some, nm_eq, Option.map_some, zN_lit, zN_add, zN_mul, zN_neg1, if_true, if_false, reduceIte, eq_self, Nat.reduceEqDiff, Nat.reduceAdd, Nat.reduceMul, Nat.reduceSub, Nat.reduceLeDiff, Nat.one_ne_zero, not_false_eq_true, Bool.false_eq_true, zN_eq, zN_lt, zN_le,  fX5_dropsTolls_b2, n1, fX5_arc, fX5_atArc, rd_N, g, wrA_N, tA_A]
      · rw [tA_A, if_pos rfl, h1]
        funext j
        unfold upd zms
        by_cases e : j = 4 + 6 * i + 4
        · rw [if_pos e, if_pos (by omega)]
        · rw [if_neg e]
          by_cases e2 : 4 ≤ j ∧ j < 4 + 6 * i ∧ j % 6 = 2
          · rw [if_pos e2, if_pos (by omega)]
          · rw [if_neg e2, if_neg (by omega)]
      · rw [tA_A, if_neg (by omega), tA_A, if_pos rfl]
        unfold upd
        by_cases e : a = i
        · rw [if_pos e, e]
        · rw [if_neg e]; exact h2 a (by omega)
      · rw [tA_A, if_neg hp, tA_A, if_neg hp']
        exact h4 p hp hp'
    · rintro s ⟨-, T', rfl, h1, h2, h3, h4⟩
      refine ⟨_, ?_, h1, h2, h3, h4⟩
      simp (disch := omega) only [b2_some, bd_some, nm_eq, Option.map_some, zN_lit, zN_add, zN_mul, zN_neg1, if_true, if_false, reduceIte, eq_self, Nat.reduceEqDiff, Nat.reduceAdd, Nat.reduceMul, Nat.reduceSub, Nat.reduceLeDiff, Nat.one_ne_zero, not_false_eq_true, Bool.false_eq_true, zN_eq, zN_lt, zN_le,  fX5_dropsTolls_b2, Nat.le_refl]
    · funext j
      unfold zms
      rw [if_neg (by omega)]
  exact H
theorem tw_take {f : Nat → Int32} (hf : ∀ a, a < 24 → tA T 13 a = f (4 + 6 * a + 4)) (h1 : tA T 1 = zms (zN 0) 4 148 f) : ∃ T', fX5_takesTolls T = some T' ∧ tA T' 1 = f ∧ (∀ k, tI T' k = tI T k) ∧ (∀ p, p ≠ 1 → tA T' p = tA T p) := by
  have H : ∃ r, fX5_takesTolls_l2 0 T = some r ∧ (tA r 1 = f ∧ (∀ k, tI r k = tI T k) ∧ (∀ p, p ≠ 1 → tA r p = tA T p)) := by
    refine wh_up (P := fun i s => i ≤ 24 ∧ ∃ T', s = (zN i, T') ∧ tA T' 1 = zms (zN 0) (4 + 6 * i) 148 f ∧ (∀ k, tI T' k = tI T k) ∧ (∀ p, p ≠ 1 → tA T' p = tA T p)) 24 ?_ ?_ 24 0 _ (by omega) ⟨by omega, T, rfl, h1, fun k => rfl, fun p _ => rfl⟩
    · rintro i s hi ⟨-, T', rfl, h1, h3, h4⟩
      left
      have n1 : ¬ (24 ≤ i) := by omega
      have g := hf i hi
      refine ⟨(zN (i + 1), tsA T' 1 (upd (tA T' 1) (4 + 6 * i + 4) (f (4 + 6 * i + 4)))), ?_, by omega, _, rfl, ?_, h3, fun p hp => ?_⟩
      · simp (disch := omega) only [b2_some, bd_some, nm_eq, Option.map_some, zN_lit, zN_add, zN_mul, zN_neg1, if_true, if_false, reduceIte, eq_self, Nat.reduceEqDiff, Nat.reduceAdd, Nat.reduceMul, Nat.reduceSub, Nat.reduceLeDiff, Nat.one_ne_zero, not_false_eq_true, Bool.false_eq_true, zN_eq, zN_lt, zN_le,  fX5_takesTolls_b2, n1, fX5_atArc, rd_N, h4 13 (by omega), g, wrA_N]
      · rw [tA_A, if_pos rfl, h1]
        funext j
        unfold upd zms
        by_cases e : j = 4 + 6 * i + 4
        · rw [if_pos e, if_neg (by omega), e]
        · rw [if_neg e]
          by_cases e2 : 4 + 6 * i ≤ j ∧ j < 148 ∧ j % 6 = 2
          · rw [if_pos e2, if_pos (by omega)]
          · rw [if_neg e2, if_neg (by omega)]
      · rw [tA_A, if_neg hp]
        exact h4 p hp
    · rintro s ⟨-, T', rfl, h1, h3, h4⟩
      refine ⟨_, ?_, ?_, h3, h4⟩
      · simp (disch := omega) only [b2_some, bd_some, nm_eq, Option.map_some, zN_lit, zN_add, zN_mul, zN_neg1, if_true, if_false, reduceIte, eq_self, Nat.reduceEqDiff, Nat.reduceAdd, Nat.reduceMul, Nat.reduceSub, Nat.reduceLeDiff, Nat.one_ne_zero, not_false_eq_true, Bool.false_eq_true, zN_eq, zN_lt, zN_le,  fX5_takesTolls_b2, Nat.le_refl]
      · rw [h1]
        funext j
        unfold zms
        rw [if_neg (by omega)]
  exact H
section
variable (ρ : Nat → Nat) (b : Nat)
theorem ztl_low {k : Nat} (h : k < 4) : ztl ρ k = ρ k := if_neg (by omega)
theorem ztl_F : aFr (ztl ρ) b = aFr ρ b := if_neg (by omega)
theorem ztl_T : aTo (ztl ρ) b = aTo ρ b := if_neg (by omega)
theorem ztl_C : aCo (ztl ρ) b = aCo ρ b := if_neg (by omega)
theorem ztl_M : aMx (ztl ρ) b = aMx ρ b := if_neg (by omega)
theorem ztl_X : aCl (ztl ρ) b = aCl ρ b := if_neg (by omega)
theorem ztl_L (h : b < 24) : aTl (ztl ρ) b = 0 := if_pos (by omega)
theorem ztl_pF : pFr (ztl ρ) b = pFr ρ b := if_neg (by omega)
theorem ztl_pT : pTo (ztl ρ) b = pTo ρ b := if_neg (by omega)
theorem ztl_pD : pDe (ztl ρ) b = pDe ρ b := if_neg (by omega)
theorem ztl_pV : pVa (ztl ρ) b = pVa ρ b := if_neg (by omega)
end
theorem Inv.ztl (hI : Inv ρ) : Inv (ztl ρ) := by
  unfold Inv
  simp (disch := omega) only [ztl_low, ztl_F, ztl_T, ztl_C, ztl_M, ztl_X, ztl_pF, ztl_pT, ztl_pD, ztl_pV]
  obtain ⟨h0, h1, h2, h3, h4, h5, h6, h7, h8⟩ := hI
  refine ⟨h0, h1, h2, h3, fun b hb => ?_, h5, h6, h7, fun b hb hb' => ?_⟩
  · have := h4 b hb
    rw [ztl_L ρ b hb]
    omega
  · rw [ztl_L ρ b hb']
    exact ⟨rfl, (h8 b hb hb').2⟩
theorem fltI_rng (hI : Inv ρ) (ht : t < ρ 2) : -1 ≤ fltI ρ m aw fz t ∧ fltI ρ m aw fz t ≤ 269811 := by
  unfold fltI
  cases hp : PT ρ m aw fz t with
  | none => exact ⟨(by decide : (-1 : Int) ≤ -1), (by decide : (-1 : Int) ≤ 269811)⟩
  | some p =>
    have h1 := ptl_le hI ht hp
    dsimp only
    omega
/-- the most that a trip can bring -/
noncomputable def plgI (ρ : Nat → Nat) (m : Nat) (aw : Int) (t : Nat) : Int := if fltI ρ m aw 1 t = -1 then -1 else (pDe ρ t : Int) * (fltI ρ m aw 1 t - fltI (ztl ρ) m aw 0 t)
theorem tw_plg (hQ : QT T ρ m aw 0) (ht : t < ρ 2) : ∃ T', fX5_pledged (zN t) T = some (zJ (plgI ρ m aw t), T') ∧ K2 T T' := by
  have c := hQ.2.1.ht ht
  have hO1 : OptT (tsI T 19 (zN 1)) m aw 1 := ⟨hQ.2.2.1, hQ.2.2.2.1, by rw [tI_s, if_pos rfl], by omega⟩
  obtain ⟨T2, e2, hK2⟩ := tw_felts (m := m) (aw := aw) (fz := 1) (ρ := ρ) (T := tsI T 19 (zN 1)) ⟨hQ.1, hQ.2.1, hO1⟩ ht
  obtain ⟨T3, e3, a1, a2, a3, a4⟩ := tw_drop (T := tsI T2 19 (zN 0)) (ρ := ρ) (hK2.row hQ.1)
  have e1 : tA T2 1 = tA T 1 := hK2.2.2 1 (by omega)
  have r3 : RowT T3 (ztl ρ) := by
    intro i hi
    rw [a1, tA_s, e1]
    unfold zms ztl zms
    split
    · rfl
    · exact hQ.1 i hi
  have i3 : ∀ k, k ≠ 21 → tI T3 k = tI T k := fun k hk => by
    rw [a3, tI_s]
    by_cases e : k = 19
    · rw [if_pos e, e]
      exact hQ.2.2.2.2.1.symm
    · rw [if_neg e, hK2.1 k hk, tI_s, if_neg e]
  have O3 : OptT T3 m aw 0 := by
    unfold OptT
    rw [i3 17 (by omega), i3 18 (by omega), i3 19 (by omega)]
    exact hQ.2.2
  obtain ⟨T4, e4, hK4⟩ := tw_felts (m := m) (aw := aw) (fz := 0) (ρ := ztl ρ) (T := T3) ⟨r3, hQ.2.1.ztl, O3⟩ (t := t) (by rw [ztl_low ρ (by omega)]; exact ht)
  obtain ⟨T5, e5, b1, b3, b4⟩ := tw_take (T := T4) (f := tA T 1) (fun a ha => by rw [hK4.2.2 13 (by omega), a2 a ha]; exact (hQ.1 _ (by omega)).symm) (by rw [hK4.2.2 1 (by omega), a1, tA_s, e1])
  have hK : K2 T T5 := by
    refine ⟨fun k hk hk' => ?_, fun p hp => ?_⟩
    · rw [b3, hK4.1 k hk, i3 k hk]
    · by_cases e : p = 1
      · subst e; exact b1
      · rw [b4 p e, hK4.2.2 p (by omega), a4 p e (by omega), tA_s, hK2.2.2 p (by omega), tA_s]
  refine ⟨T5, ?_, hK⟩
  have f1 := fltI_rng (m := m) (aw := aw) (fz := 1) hQ.2.1 ht
  have f2 := fltI_rng (m := m) (aw := aw) (fz := 0) hQ.2.1.ztl (t := t) (by rw [ztl_low ρ (by omega)]; exact ht)
  have n1 : (zI (fltI ρ m aw 1 t) = zI (-1)) = (fltI ρ m aw 1 t = -1) := zI_eq (by omega) (by omega)
  unfold plgI
  by_cases hc : fltI ρ m aw 1 t = -1
  · rw [if_pos hc]
    rw [eq_true hc] at n1
    simp (disch := omega) only [b2_some, bd_some, nm_eq, Option.map_some, zN_lit, zN_add, zN_mul, zN_neg1, if_true, if_false, reduceIte, eq_self, Nat.reduceEqDiff, Nat.reduceAdd, Nat.reduceMul, Nat.reduceSub, Nat.reduceLeDiff, Nat.one_ne_zero, not_false_eq_true, Bool.false_eq_true, zN_eq, zN_lt, zN_le,  fX5_pledged, e2, e3, e4, e5, n1]
    rfl
  · rw [if_neg hc]
    rw [eq_false hc] at n1
    have n2 : (zI (fltI ρ m aw 1 t - fltI (ztl ρ) m aw 0 t)).toInt64 = zJ (fltI ρ m aw 1 t - fltI (ztl ρ) m aw 0 t) := zI_J (by omega)
    simp (disch := omega) only [b2_some, bd_some, nm_eq, Option.map_some, zN_lit, zN_add, zN_mul, zN_neg1, if_true, if_false, reduceIte, eq_self, Nat.reduceEqDiff, Nat.reduceAdd, Nat.reduceMul, Nat.reduceSub, Nat.reduceLeDiff, Nat.one_ne_zero, not_false_eq_true, Bool.false_eq_true, zN_eq, zN_lt, zN_le,  fX5_pledged, e2, e3, e4, e5, n1, tp2 (hK.q hQ).1, zI_sub, n2, zN_J, zJ_mul]
/-- a bound of the revenue -/
noncomputable def bndO (ρ : Nat → Nat) (m : Nat) (aw : Int) : Nat → Option Int
  | 0 => some 0
  | k + 1 => match bndO ρ m aw k with
    | none => none
    | some s => if (PT ρ m aw 0 k).isSome then (if plgI ρ m aw k = -1 then none else some (s + plgI ρ m aw k)) else some s
noncomputable def bndI (ρ : Nat → Nat) (m : Nat) (aw : Int) : Int := (bndO ρ m aw (ρ 2)).getD (-1)
theorem plgI_rng (hI : Inv ρ) (ht : t < ρ 2) : -999000000 ≤ plgI ρ m aw t ∧ plgI ρ m aw t ≤ 999000000 := by
  have f1 := fltI_rng (m := m) (aw := aw) (fz := 1) hI ht
  have f2 := fltI_rng (m := m) (aw := aw) (fz := 0) hI.ztl (t := t) (by rw [ztl_low ρ (by omega)]; exact ht)
  have c := hI.ht ht
  unfold plgI
  split
  · omega
  · have h1 : (pDe ρ t : Int) * (fltI ρ m aw 1 t - fltI (ztl ρ) m aw 0 t) ≤ (pDe ρ t : Int) * 1000000 := Int.mul_le_mul_of_nonneg_left (by omega) (by omega)
    have h2 : (pDe ρ t : Int) * (-1000000) ≤ (pDe ρ t : Int) * (fltI ρ m aw 1 t - fltI (ztl ρ) m aw 0 t) := Int.mul_le_mul_of_nonneg_left (by omega) (by omega)
    omega
theorem lgc_eq' {a b : Int} (ha : bJ a) (hb : bJ b) : (lg_cmp (zJ a) (zJ b) = zN 0) = (a = b) := lgc_eq ha hb
theorem bndO_none {ρ : Nat → Nat} {m : Nat} {aw : Int} : ∀ {n k : Nat}, k ≤ n → bndO ρ m aw k = none → bndO ρ m aw n = none := by
  intro n
  induction n with
  | zero => intro k hk h; rw [Nat.le_zero.mp hk] at h; exact h
  | succ n ih =>
    intro k hk h
    by_cases e : k = n + 1
    · rw [← e]; exact h
    · rw [bndO, ih (by omega) h]
theorem tw_bnd (hQ : QT T ρ m aw 0) : ∃ T', fX5_bound_l9 0 0 T = some (zJ (bndI ρ m aw), T') ∧ K2 T T' := by
  have h2 := hQ.2.1.h2
  have H : ∃ r, fX5_bound_l9 0 0 T = some r ∧ ∃ T', r = (zJ (bndI ρ m aw), T') ∧ K2 T T' := by
    refine wh_up (P := fun i s => i ≤ ρ 2 ∧ ∃ T' x, bndO ρ m aw i = some x ∧ s = (zJ x, zN i, T') ∧ K2 T T') (ρ 2) ?_ ?_ (ρ 2) 0 _ (by omega) ⟨by omega, T, 0, rfl, rfl, K2.refl T⟩
    · rintro i s hi ⟨-, T', x, hx, rfl, hK⟩
      have hQ' := hK.q hQ
      obtain ⟨T2, e2, hK2, -⟩ := tw_lays hQ' hi
      have n1 : ¬ (ρ 2 ≤ i) := by omega
      by_cases hp : (PT ρ m aw 0 i).isSome = true
      · rw [if_pos hp] at e2
        obtain ⟨T3, e3, hK3⟩ := tw_plg (hK2.q hQ') hi
        have hr := plgI_rng (m := m) (aw := aw) hQ.2.1 hi
        have hc := lgc_eq' (a := plgI ρ m aw i) (b := -1) ⟨by omega, by omega⟩ ⟨by omega, by omega⟩
        by_cases h1 : plgI ρ m aw i = -1
        · right
          rw [eq_true h1] at hc
          have hn : bndO ρ m aw (i + 1) = none := by
            rw [bndO, hx]
            dsimp only
            rw [if_pos hp, if_pos h1]
          refine ⟨_, ?_, T3, rfl, (hK.trans hK2.k2).trans hK3⟩
          unfold bndI
          rw [bndO_none (show i + 1 ≤ ρ 2 by omega) hn, Option.getD_none]
          simp (disch := omega) only [b2_some, bd_some, nm_eq, Option.map_some, zN_lit, zN_add, zN_mul, zN_neg1, if_true, if_false, reduceIte, eq_self, Nat.reduceEqDiff, Nat.reduceAdd, Nat.reduceMul, Nat.reduceSub, Nat.reduceLeDiff, Nat.one_ne_zero, not_false_eq_true, Bool.false_eq_true, zN_eq, zN_lt, zN_le,  fX5_bound_b9, tw_rd hQ'.1, n1, e2, e3, show (-1 : Int64) = zJ (-1) from rfl, hc, fX5_bound_b46]
        · left
          rw [eq_false h1] at hc
          refine ⟨(zJ (x + plgI ρ m aw i), zN (i + 1), T3), ?_, by omega, T3, x + plgI ρ m aw i, ?_, rfl, (hK.trans hK2.k2).trans hK3⟩
          · simp (disch := omega) only [b2_some, bd_some, nm_eq, Option.map_some, zN_lit, zN_add, zN_mul, zN_neg1, if_true, if_false, reduceIte, eq_self, Nat.reduceEqDiff, Nat.reduceAdd, Nat.reduceMul, Nat.reduceSub, Nat.reduceLeDiff, Nat.one_ne_zero, not_false_eq_true, Bool.false_eq_true, zN_eq, zN_lt, zN_le,  fX5_bound_b9, tw_rd hQ'.1, n1, e2, e3, show (-1 : Int64) = zJ (-1) from rfl, hc, fX5_bound_b55, zJ_add]
          · rw [bndO, hx]
            dsimp only
            rw [if_pos hp, if_neg h1]
      · rw [if_neg hp] at e2
        left
        refine ⟨(zJ x, zN (i + 1), T2), ?_, by omega, T2, x, ?_, rfl, hK.trans hK2.k2⟩
        · simp (disch := omega) only [b2_some, bd_some, nm_eq, Option.map_some, zN_lit, zN_add, zN_mul, zN_neg1, if_true, if_false, reduceIte, eq_self, Nat.reduceEqDiff, Nat.reduceAdd, Nat.reduceMul, Nat.reduceSub, Nat.reduceLeDiff, Nat.one_ne_zero, not_false_eq_true, Bool.false_eq_true, zN_eq, zN_lt, zN_le,  fX5_bound_b9, tw_rd hQ'.1, n1, e2, fX5_bound_b55]
        · rw [bndO, hx]
          dsimp only
          rw [if_neg hp]
    · rintro s ⟨-, T', x, hx, rfl, hK⟩
      refine ⟨_, ?_, T', rfl, hK⟩
      have e : bndI ρ m aw = x := by unfold bndI; rw [hx]; rfl
      rw [e]
      simp (disch := omega) only [b2_some, bd_some, nm_eq, Option.map_some, zN_lit, zN_add, zN_mul, zN_neg1, if_true, if_false, reduceIte, eq_self, Nat.reduceEqDiff, Nat.reduceAdd, Nat.reduceMul, Nat.reduceSub, Nat.reduceLeDiff, Nat.one_ne_zero, not_false_eq_true, Bool.false_eq_true, zN_eq, zN_lt, zN_le,  fX5_bound_b9, tw_rd (hK.q hQ).1, Nat.le_refl]
  obtain ⟨r, e, T', rfl, h⟩ := H
  exact ⟨T', e, h⟩
end
