/-! Plain law: improve, optimize, best pair, steps on the twin's side -/
/-- all but the row and what is scratch is kept -/
def KR (T T' : TW) : Prop := (∀ k, k ≠ 21 → k ≠ 28 → tI T' k = tI T k) ∧ (∀ p, p ≠ 1 → (p ≤ 6 ∨ p = 16) → tA T' p = tA T p)
theorem K2.kr {T T' : TW} (h : K2 T T') : KR T T' := ⟨h.1, fun p _ hp => h.2 p hp⟩
theorem KR.refl (T : TW) : KR T T := ⟨fun _ _ _ => rfl, fun _ _ _ => rfl⟩
theorem KR.trans {T T' T2 : TW} (h : KR T T') (h' : KR T' T2) : KR T T2 := ⟨fun k hk hk' => (h'.1 k hk hk').trans (h.1 k hk hk'), fun p hp hp' => (h'.2 p hp hp').trans (h.2 p hp hp')⟩
theorem K1.reset {T T' : TW} {k : Nat} {x y : Int32} (hK : K1 (tsA T 1 (upd (tA T 1) k x)) T') : K1 (tsA T 1 (upd (tA T 1) k y)) (tsA T' 1 (upd (tA T' 1) k y)) := by
  refine ⟨hK.1, hK.2.1, fun p hp => ?_⟩
  rw [tA_A, tA_A]
  by_cases e : p = 1
  · rw [if_pos e, if_pos e, hK.2.2 1 (by omega), tA_A, if_pos rfl]
    funext j
    unfold upd
    by_cases e' : j = k
    · rw [if_pos e', if_pos e']
    · rw [if_neg e', if_neg e', if_neg e']
  · rw [if_neg e, if_neg e, hK.2.2 p hp, tA_A, if_neg e]
theorem KR.A (T : TW) (f : Nat → Int32) : KR T (tsA T 1 f) := ⟨fun _ _ _ => rfl, fun p hp _ => by rw [tA_A, if_neg hp]⟩
noncomputable def imp (ρ : Nat → Nat) : Nat → (Nat → Nat) × Nat
  | 0 => (ρ, 0)
  | k + 1 => if allI (imp ρ k).1 0 (-1) 0 < alW (imp ρ k).1 k (bst (imp ρ k).1 k) then (stl (imp ρ k).1 k (bst (imp ρ k).1 k), (imp ρ k).2 + 1) else imp ρ k
noncomputable def opt (R : Nat) : Nat → (Nat → Nat) → Nat → (Nat → Nat) × Nat
  | 0, ρ, d => (ρ, d)
  | f + 1, ρ, d => if (imp ρ (ρ 1)).2 = 0 ∨ R ≤ d then ((imp ρ (ρ 1)).1, d) else opt R f (imp ρ (ρ 1)).1 (d + 1)
noncomputable def ipbN (ρ : Nat → Nat) : Nat := msk (fun a => decide (allI ρ 0 (-1) 0 < alW ρ a (bst ρ a))) (ρ 1)
section
variable {T : TW} {ρ : Nat → Nat} {t : Nat}
theorem imp_low (k : Nat) {j : Nat} (hj : j < 4) : (imp ρ k).1 j = ρ j := by
  induction k with
  | zero => rfl
  | succ k ih =>
    unfold imp
    split
    · dsimp only
      rw [stl_low _ _ _ hj, ih]
    · exact ih
theorem imp_cnt : ∀ k, (imp ρ k).2 ≤ k
  | 0 => Nat.le_refl _
  | k + 1 => by
    have := imp_cnt k
    unfold imp
    split
    · dsimp only; omega
    · omega
theorem tw_imp (hQ : QT T ρ 0 (-1) 0) : ∃ T', fX5_improves T = some (zN (imp ρ (ρ 1)).2, T') ∧ QT T' (imp ρ (ρ 1)).1 0 (-1) 0 ∧ KR T T' := by
  have h1 := hQ.2.1.h1
  have H : ∃ r, fX5_improves_l4 0 0 T = some r ∧ ∃ T', r = (zN (imp ρ (ρ 1)).2, T') ∧ QT T' (imp ρ (ρ 1)).1 0 (-1) 0 ∧ KR T T' := by
    refine wh_up (P := fun i s => i ≤ ρ 1 ∧ ∃ T', s = (zN (imp ρ i).2, zN i, T') ∧ QT T' (imp ρ i).1 0 (-1) 0 ∧ KR T T') (ρ 1) ?_ ?_ (ρ 1) 0 _ (by omega) ⟨by omega, T, rfl, hQ, KR.refl T⟩
    · rintro i s hi ⟨-, T', rfl, hQ', hK⟩
      have e1 : (imp ρ i).1 1 = ρ 1 := imp_low i (by omega)
      have m1 : ¬ ((imp ρ i).1 1 ≤ i) := by omega
      have m1' : (imp ρ i).1 1 < 2147483648 := by omega
      obtain ⟨T2, e2, r2, k2, b2, B2⟩ := tw_bests hQ' (a := i) (by omega)
      obtain ⟨T3, e3, k3⟩ := tw_all (k2.q hQ')
      have c1 := allI_rng (m := 0) (aw := -1) (fz := 0) hQ'.2.1
      have c2 : 0 ≤ alW (imp ρ i).1 i (bst (imp ρ i).1 i) ∧ alW (imp ρ i).1 i (bst (imp ρ i).1 i) ≤ 539406054 := allI_rng (hQ'.2.1.stl (by omega) b2)
      have m2 := lgc_le' (a := alW (imp ρ i).1 i (bst (imp ρ i).1 i)) (b := allI (imp ρ i).1 0 (-1) 0) ⟨by omega, by omega⟩ ⟨by omega, by omega⟩
      have hc := imp_cnt (ρ := ρ) i
      left
      by_cases c : allI (imp ρ i).1 0 (-1) 0 < alW (imp ρ i).1 i (bst (imp ρ i).1 i)
      · rw [eq_false (show ¬ (alW (imp ρ i).1 i (bst (imp ρ i).1 i) ≤ allI (imp ρ i).1 0 (-1) 0) by omega)] at m2
        have e4 : imp ρ (i + 1) = (stl (imp ρ i).1 i (bst (imp ρ i).1 i), (imp ρ i).2 + 1) := by rw [imp, if_pos c]
        have hQ3 := k3.q (k2.q hQ')
        refine ⟨(zN ((imp ρ i).2 + 1), zN (i + 1), tsA T3 1 (upd (tA T3 1) (4 + 6 * i + 4) (zN (bst (imp ρ i).1 i)))), ?_, by omega, _, by rw [e4], ?_, ((hK.trans k2.kr).trans k3.k2.kr).trans (KR.A _ _)⟩
        · simp (disch := omega) only [b2_some, bd_some, nm_eq, Option.map_some, zN_lit, zN_add, zN_mul, zN_neg1, if_true, if_false, reduceIte, eq_self, Nat.reduceEqDiff, Nat.reduceAdd, Nat.reduceMul, Nat.reduceSub, Nat.reduceLeDiff, Nat.one_ne_zero, not_false_eq_true, Bool.false_eq_true, zN_eq, zN_lt, zN_le,  fX5_improves_b4, tw_rd hQ'.1, m1, e2, e3, r2, m2, fX5_atArc, wrA_N, fX5_improves_b46]
        · rw [e4]
          exact hQ3.stl (by omega) b2
      · rw [eq_true (show alW (imp ρ i).1 i (bst (imp ρ i).1 i) ≤ allI (imp ρ i).1 0 (-1) 0 by omega)] at m2
        have e4 : imp ρ (i + 1) = imp ρ i := by rw [imp, if_neg c]
        refine ⟨(zN (imp ρ i).2, zN (i + 1), T3), ?_, by omega, _, by rw [e4], ?_, (hK.trans k2.kr).trans k3.k2.kr⟩
        · simp (disch := omega) only [b2_some, bd_some, nm_eq, Option.map_some, zN_lit, zN_add, zN_mul, zN_neg1, if_true, if_false, reduceIte, eq_self, Nat.reduceEqDiff, Nat.reduceAdd, Nat.reduceMul, Nat.reduceSub, Nat.reduceLeDiff, Nat.one_ne_zero, not_false_eq_true, Bool.false_eq_true, zN_eq, zN_lt, zN_le,  fX5_improves_b4, tw_rd hQ'.1, m1, e2, e3, r2, m2, fX5_improves_b46]
        · rw [e4]
          exact k3.q (k2.q hQ')
    · rintro s ⟨-, T', rfl, hQ', hK⟩
      refine ⟨_, ?_, T', rfl, hQ', hK⟩
      have e1 : (imp ρ (ρ 1)).1 1 = ρ 1 := imp_low _ (by omega)
      have m1' : (imp ρ (ρ 1)).1 1 < 2147483648 := by omega
      simp (disch := omega) only [b2_some, bd_some, nm_eq, Option.map_some, zN_lit, zN_add, zN_mul, zN_neg1, if_true, if_false, reduceIte, eq_self, Nat.reduceEqDiff, Nat.reduceAdd, Nat.reduceMul, Nat.reduceSub, Nat.reduceLeDiff, Nat.one_ne_zero, not_false_eq_true, Bool.false_eq_true, zN_eq, zN_lt, zN_le,  fX5_improves_b4, tw_rd hQ'.1, e1, Nat.le_refl]
  exact (by obtain ⟨r, e, T', rfl, h⟩ := H; exact ⟨T', e, h⟩)
theorem tw_opt {R : Nat} (hR : R ≤ 10) (hQ : QT T ρ 0 (-1) 0) : ∃ T', fX5_optimize_l23 (zN R) 1 T = some (zN (opt R (R + 1) ρ 1).2, T') ∧ QT T' (opt R (R + 1) ρ 1).1 0 (-1) 0 ∧ KR T T' := by
  have H : ∃ r, fX5_optimize_l23 (zN R) 1 T = some r ∧ ∃ T', r = (zN (opt R (R + 1) ρ 1).2, T') ∧ QT T' (opt R (R + 1) ρ 1).1 0 (-1) 0 ∧ KR T T' := by
    refine wh_dn (P := fun k s => ∃ T' ρ' d, s = (zN d, T') ∧ 1 ≤ d ∧ d ≤ R + 1 ∧ (k + d = R + 1) ∧ opt R (R + 1) ρ 1 = opt R (k + 1) ρ' d ∧ QT T' ρ' 0 (-1) 0 ∧ KR T T') ?_ R _ ⟨T, ρ, 1, rfl, by omega, by omega, rfl, rfl, hQ, KR.refl T⟩
    rintro k s ⟨T', ρ', d, rfl, hd, hd', hk, ho, hQ', hK⟩
    obtain ⟨T2, e2, hQ2, hK2⟩ := tw_imp hQ'
    have h1 := hQ'.2.1.h1
    have hc := imp_cnt (ρ := ρ') (ρ' 1)
    have m1 : ((imp ρ' (ρ' 1)).2 ≤ 0) = ((imp ρ' (ρ' 1)).2 = 0) := propext (by omega)
    by_cases c1 : (imp ρ' (ρ' 1)).2 = 0
    · right
      have e3 : opt R (k + 1) ρ' d = ((imp ρ' (ρ' 1)).1, d) := by rw [opt, if_pos (.inl c1)]
      refine ⟨(zN d, T2), ?_, T2, by rw [ho, e3], by rw [ho, e3]; exact hQ2, hK.trans hK2⟩
      simp (disch := omega) only [b2_some, bd_some, nm_eq, Option.map_some, zN_lit, zN_add, zN_mul, zN_neg1, if_true, if_false, reduceIte, eq_self, Nat.reduceEqDiff, Nat.reduceAdd, Nat.reduceMul, Nat.reduceSub, Nat.reduceLeDiff, Nat.one_ne_zero, not_false_eq_true, Bool.false_eq_true, zN_eq, zN_lt, zN_le,  fX5_optimize_b23, e2, m1, c1]
    · by_cases c2 : R ≤ d
      · right
        have e3 : opt R (k + 1) ρ' d = ((imp ρ' (ρ' 1)).1, d) := by rw [opt, if_pos (.inr c2)]
        refine ⟨(zN d, T2), ?_, T2, by rw [ho, e3], by rw [ho, e3]; exact hQ2, hK.trans hK2⟩
        simp (disch := omega) only [b2_some, bd_some, nm_eq, Option.map_some, zN_lit, zN_add, zN_mul, zN_neg1, if_true, if_false, reduceIte, eq_self, Nat.reduceEqDiff, Nat.reduceAdd, Nat.reduceMul, Nat.reduceSub, Nat.reduceLeDiff, Nat.one_ne_zero, not_false_eq_true, Bool.false_eq_true, zN_eq, zN_lt, zN_le,  fX5_optimize_b23, e2, m1, c1, c2]
      · left
        have e3 : opt R (k + 1) ρ' d = opt R k (imp ρ' (ρ' 1)).1 (d + 1) := by rw [opt, if_neg (by rintro (h | h) <;> omega)]
        refine ⟨(zN (d + 1), T2), k - 1, by omega, ?_, T2, (imp ρ' (ρ' 1)).1, d + 1, rfl, by omega, by omega, by omega, by rw [ho, e3, show k - 1 + 1 = k by omega], hQ2, hK.trans hK2⟩
        simp (disch := omega) only [b2_some, bd_some, nm_eq, Option.map_some, zN_lit, zN_add, zN_mul, zN_neg1, if_true, if_false, reduceIte, eq_self, Nat.reduceEqDiff, Nat.reduceAdd, Nat.reduceMul, Nat.reduceSub, Nat.reduceLeDiff, Nat.one_ne_zero, not_false_eq_true, Bool.false_eq_true, zN_eq, zN_lt, zN_le,  fX5_optimize_b23, e2, m1, c1, c2]
  obtain ⟨r, e, T', rfl, h⟩ := H
  exact ⟨T', e, h⟩
theorem tw_ipb (hQ : QT T ρ 0 (-1) 0) : ∃ T', fX5_improvable_l9 0 0 T = some (zN (ipbN ρ), T') ∧ K2 T T' := by
  have h1 := hQ.2.1.h1
  have H : ∃ r, fX5_improvable_l9 0 0 T = some r ∧ ∃ T', r = (zN (ipbN ρ), T') ∧ K2 T T' := by
    refine wh_up (P := fun i s => i ≤ ρ 1 ∧ ∃ T', s = (zN (msk (fun a => decide (allI ρ 0 (-1) 0 < alW ρ a (bst ρ a))) i), zN i, T') ∧ K2 T T') (ρ 1) ?_ ?_ (ρ 1) 0 _ (by omega) ⟨by omega, T, rfl, K2.refl T⟩
    · rintro i s hi ⟨-, T', rfl, hK⟩
      have hQ' := hK.q hQ
      obtain ⟨T2, e2, r2, k2, b2, B2⟩ := tw_bests hQ' (a := i) (by omega)
      obtain ⟨T3, e3, k3⟩ := tw_all (k2.q hQ')
      have c1 := allI_rng (m := 0) (aw := -1) (fz := 0) hQ'.2.1
      have c2 : 0 ≤ alW ρ i (bst ρ i) ∧ alW ρ i (bst ρ i) ≤ 539406054 := allI_rng (hQ'.2.1.stl (by omega) b2)
      have m2 := lgc_le' (a := alW ρ i (bst ρ i)) (b := allI ρ 0 (-1) 0) ⟨by omega, by omega⟩ ⟨by omega, by omega⟩
      have m1 : ¬ (ρ 1 ≤ i) := by omega
      left
      refine ⟨_, ?_, by omega, T3, rfl, (hK.trans k2).trans k3.k2⟩
      rw [msk]
      by_cases c : allI ρ 0 (-1) 0 < alW ρ i (bst ρ i)
      · rw [eq_false (show ¬ (alW ρ i (bst ρ i) ≤ allI ρ 0 (-1) 0) by omega)] at m2
        rw [if_pos (decide_eq_true c)]
        simp (disch := omega) only [b2_some, bd_some, nm_eq, Option.map_some, zN_lit, zN_add, zN_mul, zN_neg1, if_true, if_false, reduceIte, eq_self, Nat.reduceEqDiff, Nat.reduceAdd, Nat.reduceMul, Nat.reduceSub, Nat.reduceLeDiff, Nat.one_ne_zero, not_false_eq_true, Bool.false_eq_true, zN_eq, zN_lt, zN_le,  fX5_improvable_b9, tw_rd hQ'.1, m1, e2, e3, r2, m2, fX5_improvable_b45, zN_shlz, zN_or]
      · rw [eq_true (show alW ρ i (bst ρ i) ≤ allI ρ 0 (-1) 0 by omega)] at m2
        rw [if_neg (by rw [decide_eq_false c]; exact Bool.false_ne_true)]
        simp (disch := omega) only [b2_some, bd_some, nm_eq, Option.map_some, zN_lit, zN_add, zN_mul, zN_neg1, if_true, if_false, reduceIte, eq_self, Nat.reduceEqDiff, Nat.reduceAdd, Nat.reduceMul, Nat.reduceSub, Nat.reduceLeDiff, Nat.one_ne_zero, not_false_eq_true, Bool.false_eq_true, zN_eq, zN_lt, zN_le,  fX5_improvable_b9, tw_rd hQ'.1, m1, e2, e3, r2, m2, fX5_improvable_b45, zN_or]
    · rintro s ⟨-, T', rfl, hK⟩
      refine ⟨_, ?_, T', rfl, hK⟩
      simp (disch := omega) only [b2_some, bd_some, nm_eq, Option.map_some, zN_lit, zN_add, zN_mul, zN_neg1, if_true, if_false, reduceIte, eq_self, Nat.reduceEqDiff, Nat.reduceAdd, Nat.reduceMul, Nat.reduceSub, Nat.reduceLeDiff, Nat.one_ne_zero, not_false_eq_true, Bool.false_eq_true, zN_eq, zN_lt, zN_le,  fX5_improvable_b9, tw_rd (hK.q hQ).1, Nat.le_refl]
      rfl
  obtain ⟨r, e, T', rfl, h⟩ := H
  exact ⟨T', e, h⟩
end
/-- best pairs: the inner and the outer loop -/
noncomputable def bpF (ρ : Nat → Nat) (a b one two : Nat) : Int := allI (stl (stl ρ a one) b two) 0 (-1) 0
noncomputable def bpI (ρ : Nat → Nat) (a b st one : Nat) : Nat → Int × Int → Int × Int
  | 0, q => q
  | k + 1, q => if (bpI ρ a b st one k q).1 < bpF ρ a b one (k * st) then (bpF ρ a b one (k * st), 10000 * (one : Int) + ((k * st : Nat) : Int)) else bpI ρ a b st one k q
noncomputable def bpO (ρ : Nat → Nat) (a b st n : Nat) : Nat → Int × Int
  | 0 => (-1, 0)
  | k + 1 => bpI ρ a b st (k * st) n (bpO ρ a b st n k)
section
variable {T : TW} {ρ : Nat → Nat} {t : Nat}
theorem mul_le_div {k s M : Nat} (hs : 0 < s) (h : k < M / s + 1) : k * s ≤ M := (Nat.le_div_iff_mul_le hs).mp (by omega)
theorem lt_mul_div {s M : Nat} (hs : 0 < s) : M < (M / s + 1) * s := by
  have := Nat.div_add_mod M s
  have h2 := Nat.mod_lt M hs
  rw [Nat.add_mul, Nat.one_mul, Nat.mul_comm]
  omega
theorem tw_bpI (hI : Inv ρ) {a b st one : Nat} (ha : a < ρ 1) (hb : b < ρ 1) (hst : 1 ≤ st ∧ st ≤ 9999) (hone : one ≤ aMx ρ a) (hr : QT T (stl ρ a one) 0 (-1) 0) {q : Int × Int} (hq : -1 ≤ q.1 ∧ q.1 ≤ 539406054) (v4 : Int32) :
    ∃ T', fX5_bestPair_l135 (zN a) (zN b) (zN st) v4 (zJ q.1) (zI q.2) (zN one) 0 T = some (.inl (zJ (bpI ρ a b st one (aMx ρ b / st + 1) q).1, zI (bpI ρ a b st one (aMx ρ b / st + 1) q).2, zN (one + st), T')) ∧ K1 T T' := by
  have ba := hI.ha ha
  have bb := hI.ha hb
  have hMd : aMx ρ b / st ≤ aMx ρ b := Nat.div_le_self _ _
  have eM : aMx (stl ρ a one) b = aMx ρ b := stl_M ρ a one b
  have hF : ∀ k, k < aMx ρ b / st + 1 → 0 ≤ bpF ρ a b one (k * st) ∧ bpF ρ a b one (k * st) ≤ 539406054 := fun k hk => by
    have := mul_le_div hst.1 hk
    exact allI_rng (hr.2.1.stl (by rw [stl_low ρ a one (by omega)]; exact hb) (by rw [eM]; exact this))
  have H : ∃ r, fX5_bestPair_l135 (zN a) (zN b) (zN st) v4 (zJ q.1) (zI q.2) (zN one) 0 T = some r ∧ ∃ T', r = .inl (zJ (bpI ρ a b st one (aMx ρ b / st + 1) q).1, zI (bpI ρ a b st one (aMx ρ b / st + 1) q).2, zN (one + st), T') ∧ K1 T T' := by
    refine wh_up (P := fun i s => i ≤ aMx ρ b / st + 1 ∧ (-1 ≤ (bpI ρ a b st one i q).1 ∧ (bpI ρ a b st one i q).1 ≤ 539406054) ∧ ∃ T', s = (zJ (bpI ρ a b st one i q).1, zI (bpI ρ a b st one i q).2, zN (i * st), T') ∧ K1 T T') (aMx ρ b / st + 1) ?_ ?_ (aMx ρ b / st + 1) 0 _ (Nat.zero_add _) ⟨Nat.zero_le _, hq, T, by rw [Nat.zero_mul]; rfl, K1.refl T⟩
    · rintro i s hi ⟨-, hm, T', rfl, hK⟩
      have hQ' := hK.q hr
      have h3 := mul_le_div hst.1 hi
      have hf := hF i hi
      obtain ⟨T2, e2, hK2⟩ := tw_allW hQ' (a := b) (x := i * st) (by rw [stl_low ρ a one (by omega)]; exact hb) (by rw [eM]; exact h3)
      have e2' : fX5_allWith (zN b) (zN (i * st)) T' = some (zJ (bpF ρ a b one (i * st)), T2) := e2
      have m1 : ¬ (aMx ρ b < i * st) := by omega
      have m2 := lgc_le' (a := bpF ρ a b one (i * st)) (b := (bpI ρ a b st one i q).1) ⟨by omega, by omega⟩ ⟨by omega, by omega⟩
      have m3 := mxL_z (a := (bpI ρ a b st one i q).1) (b := bpF ρ a b one (i * st)) ⟨by omega, by omega⟩ ⟨by omega, by omega⟩
      have e5 : i * st + st = (i + 1) * st := by rw [Nat.add_mul, Nat.one_mul]
      left
      by_cases c : (bpI ρ a b st one i q).1 < bpF ρ a b one (i * st)
      · rw [eq_false (show ¬ (bpF ρ a b one (i * st) ≤ (bpI ρ a b st one i q).1) by omega)] at m2
        rw [if_pos c] at m3
        have e4 : bpI ρ a b st one (i + 1) q = (bpF ρ a b one (i * st), 10000 * (one : Int) + ((i * st : Nat) : Int)) := by rw [bpI, if_pos c]
        have e6 : zN (10000 * one + i * st) = zI (10000 * (one : Int) + ((i * st : Nat) : Int)) := by
          show zI _ = zI _
          congr 1
        refine ⟨_, ?_, by omega, by rw [e4]; dsimp only; omega, T2, rfl, hK.trans hK2⟩
        rw [e4]
        dsimp only
        rw [← e6]
        simp (disch := omega) only [b2_some, bd_some, nm_eq, Option.map_some, zN_lit, zN_add, zN_mul, zN_neg1, if_true, if_false, reduceIte, eq_self, Nat.reduceEqDiff, Nat.reduceAdd, Nat.reduceMul, Nat.reduceSub, Nat.reduceLeDiff, Nat.one_ne_zero, not_false_eq_true, Bool.false_eq_true, zN_eq, zN_lt, zN_le,  fX5_bestPair_b135, ta3 hQ'.1, eM, m1, e2', m2, fX5_bestPair_b177, m3, e5]
      · rw [eq_true (show bpF ρ a b one (i * st) ≤ (bpI ρ a b st one i q).1 by omega)] at m2
        rw [if_neg c] at m3
        have e4 : bpI ρ a b st one (i + 1) q = bpI ρ a b st one i q := by rw [bpI, if_neg c]
        refine ⟨_, ?_, by omega, by rw [e4]; exact hm, T2, rfl, hK.trans hK2⟩
        rw [e4]
        simp (disch := omega) only [b2_some, bd_some, nm_eq, Option.map_some, zN_lit, zN_add, zN_mul, zN_neg1, if_true, if_false, reduceIte, eq_self, Nat.reduceEqDiff, Nat.reduceAdd, Nat.reduceMul, Nat.reduceSub, Nat.reduceLeDiff, Nat.one_ne_zero, not_false_eq_true, Bool.false_eq_true, zN_eq, zN_lt, zN_le,  fX5_bestPair_b135, ta3 hQ'.1, eM, m1, e2', m2, fX5_bestPair_b177, m3, e5]
    · rintro s ⟨-, hm, T', rfl, hK⟩
      have hQ' := hK.q hr
      have h3 := lt_mul_div (M := aMx ρ b) hst.1
      have h4 : (aMx ρ b / st + 1) * st ≤ aMx ρ b + st := by
        rw [Nat.add_mul, Nat.one_mul]
        have := Nat.div_mul_le_self (aMx ρ b) st
        omega
      refine ⟨_, ?_, T', rfl, hK⟩
      simp (disch := omega) only [b2_some, bd_some, nm_eq, Option.map_some, zN_lit, zN_add, zN_mul, zN_neg1, if_true, if_false, reduceIte, eq_self, Nat.reduceEqDiff, Nat.reduceAdd, Nat.reduceMul, Nat.reduceSub, Nat.reduceLeDiff, Nat.one_ne_zero, not_false_eq_true, Bool.false_eq_true, zN_eq, zN_lt, zN_le,  fX5_bestPair_b135, ta3 hQ'.1, eM, h3, fX5_bestPair_b197]
  obtain ⟨r, e, T', rfl, h⟩ := H
  exact ⟨T', e, h⟩
theorem tw_bpO (hQ : QT T ρ 0 (-1) 0) {a b st : Nat} (ha : a < ρ 1) (hb : b < ρ 1) (hst : 1 ≤ st ∧ st ≤ 9999) :
    ∃ T', fX5_bestPair_l109 (zN a) (zN b) (zN st) (zN (aTl ρ a)) (-1) 0 0 T = some (zI (bpO ρ a b st (aMx ρ b / st + 1) (aMx ρ a / st + 1)).2, T') ∧ K2 T T' := by
  have ba := hQ.2.1.ha ha
  have bb := hQ.2.1.ha hb
  have H : ∃ r, fX5_bestPair_l109 (zN a) (zN b) (zN st) (zN (aTl ρ a)) (-1) 0 0 T = some r ∧ ∃ T', r = (zI (bpO ρ a b st (aMx ρ b / st + 1) (aMx ρ a / st + 1)).2, T') ∧ K2 T T' := by
    refine wh_up (P := fun i s => i ≤ aMx ρ a / st + 1 ∧ (-1 ≤ (bpO ρ a b st (aMx ρ b / st + 1) i).1 ∧ (bpO ρ a b st (aMx ρ b / st + 1) i).1 ≤ 539406054) ∧ ∃ T' x, s = (zJ (bpO ρ a b st (aMx ρ b / st + 1) i).1, zI (bpO ρ a b st (aMx ρ b / st + 1) i).2, zN (i * st), T') ∧ K1 (tsA T 1 (upd (tA T 1) (4 + 6 * a + 4) x)) T' ∧ QT T' (stl ρ a (if i = 0 then aTl ρ a else (i - 1) * st)) 0 (-1) 0) (aMx ρ a / st + 1) ?_ ?_ (aMx ρ a / st + 1) 0 _ (Nat.zero_add _) ⟨Nat.zero_le _, by rw [bpO]; dsimp only; omega, T, tA T 1 (4 + 6 * a + 4), by rw [Nat.zero_mul]; rfl, ?_, ?_⟩
    · rintro i s hi ⟨-, hm, T', x, rfl, hK, hQ'⟩
      have h3 := mul_le_div hst.1 hi
      have eM : aMx (stl ρ a (if i = 0 then aTl ρ a else (i - 1) * st)) a = aMx ρ a := stl_M ρ a _ a
      have m1 : ¬ (aMx ρ a < i * st) := by omega
      have hQ3 : QT (tsA T' 1 (upd (tA T' 1) (4 + 6 * a + 4) (zN (i * st)))) (stl ρ a (i * st)) 0 (-1) 0 := by
        have := hQ'.stl (a := a) (x := i * st) (by rw [stl_low ρ a _ (by omega)]; exact ha) (by rw [eM]; exact h3)
        rw [stl_stl] at this
        exact this
      obtain ⟨T2, e2, hK2⟩ := tw_bpI (T := tsA T' 1 (upd (tA T' 1) (4 + 6 * a + 4) (zN (i * st)))) hQ.2.1 ha hb hst h3 hQ3 hm (zN (aTl ρ a))
      have e5 : i * st + st = (i + 1) * st := by rw [Nat.add_mul, Nat.one_mul]
      rw [e5] at e2
      have hr' : -1 ≤ (bpO ρ a b st (aMx ρ b / st + 1) (i + 1)).1 ∧ (bpO ρ a b st (aMx ρ b / st + 1) (i + 1)).1 ≤ 539406054 := by
        rw [bpO]
        have hI3 := hQ3.2.1
        have eMb : aMx (stl ρ a (i * st)) b = aMx ρ b := stl_M ρ a _ b
        have G : ∀ k, k ≤ aMx ρ b / st + 1 → -1 ≤ (bpI ρ a b st (i * st) k (bpO ρ a b st (aMx ρ b / st + 1) i)).1 ∧ (bpI ρ a b st (i * st) k (bpO ρ a b st (aMx ρ b / st + 1) i)).1 ≤ 539406054 := by
          intro k
          induction k with
          | zero => intro _; exact hm
          | succ k ih =>
            intro hk
            have h5 : 0 ≤ bpF ρ a b (i * st) (k * st) ∧ bpF ρ a b (i * st) (k * st) ≤ 539406054 := allI_rng (hI3.stl (by rw [stl_low ρ a _ (by omega)]; exact hb) (by rw [eMb]; exact mul_le_div hst.1 (by omega)))
            unfold bpI
            split
            · dsimp only; omega
            · exact ih (by omega)
        exact G _ (Nat.le_refl _)
      left
      refine ⟨_, ?_, by omega, hr', T2, zN (i * st), rfl, ?_, ?_⟩
      · have e2' : fX5_bestPair_l135 (zN a) (zN b) (zN st) (zN (aTl ρ a)) (zJ (bpO ρ a b st (aMx ρ b / st + 1) i).1) (zI (bpO ρ a b st (aMx ρ b / st + 1) i).2) (zN (i * st)) (zN 0) (tsA T' 1 (upd (tA T' 1) (4 + 6 * a + 4) (zN (i * st)))) = _ := e2
        simp (disch := omega) only [b2_some, bd_some, nm_eq, Option.map_some, zN_lit, zN_add, zN_mul, zN_neg1, if_true, if_false, reduceIte, eq_self, Nat.reduceEqDiff, Nat.reduceAdd, Nat.reduceMul, Nat.reduceSub, Nat.reduceLeDiff, Nat.one_ne_zero, not_false_eq_true, Bool.false_eq_true, zN_eq, zN_lt, zN_le,  fX5_bestPair_b109, ta3 hQ'.1, eM, m1, fX5_atArc, wrA_N, e2', bpO]
      · exact (K1.reset hK).trans hK2
      · rw [if_neg (by omega)]
        exact hK2.q hQ3
    · rintro s ⟨-, hm, T', x, rfl, hK, hQ'⟩
      have h3 := lt_mul_div (M := aMx ρ a) hst.1
      have h4 : (aMx ρ a / st + 1) * st ≤ aMx ρ a + st := by
        rw [Nat.add_mul, Nat.one_mul]
        have := Nat.div_mul_le_self (aMx ρ a) st
        omega
      generalize (if aMx ρ a / st + 1 = 0 then aTl ρ a else (aMx ρ a / st + 1 - 1) * st) = y at hQ'
      have eM : aMx (stl ρ a y) a = aMx ρ a := stl_M ρ a _ a
      refine ⟨_, ?_, _, rfl, (hK.back (y := zN (aTl ρ a)) (hQ.1 _ (by omega)).symm).k2⟩
      simp (disch := omega) only [b2_some, bd_some, nm_eq, Option.map_some, zN_lit, zN_add, zN_mul, zN_neg1, if_true, if_false, reduceIte, eq_self, Nat.reduceEqDiff, Nat.reduceAdd, Nat.reduceMul, Nat.reduceSub, Nat.reduceLeDiff, Nat.one_ne_zero, not_false_eq_true, Bool.false_eq_true, zN_eq, zN_lt, zN_le,  fX5_bestPair_b109, ta3 hQ'.1, eM, h3, fX5_bestPair_b206, fX5_atArc, wrA_N]
    · refine ⟨fun _ _ => rfl, rfl, fun p _ => ?_⟩
      rw [tA_A]
      by_cases e : p = 1
      · rw [if_pos e, e]
        funext j
        unfold upd
        by_cases e' : j = 4 + 6 * a + 4
        · rw [if_pos e', e']
        · rw [if_neg e']
      · rw [if_neg e]
    · rw [if_pos rfl, stl_self]
      exact hQ
  obtain ⟨r, e, T', rfl, h⟩ := H
  exact ⟨T', e, h⟩
/-- the tolls at which a trip leaves -/
def stp (ρ : Nat → Nat) (a R x : Nat) : Prop := ∃ t, t < R ∧ kpI ρ 0 0 t a = x ∧ x < aMx ρ a
theorem tw_steps (hQ : QT T ρ 0 (-1) 0) {a : Nat} (ha : a < ρ 1) : ∃ T' n g, fX5_laysSteps (zN a) T = some (zN n, T') ∧ Srt T' n g ∧ K2 T T' ∧ ∀ x, (∃ j, j < n ∧ g j = x) ↔ stp ρ a (ρ 2) x := by
  have b := hQ.2.1.ha ha
  have h2 := hQ.2.1.h2
  have hS0 : Srt (tsI T 28 (zN 0)) 0 (fun _ => 0) := ⟨by rw [tI_s, if_pos rfl], by omega, fun k hk => by omega, fun i j h1 h2 => by omega⟩
  have hK0 : K2 T (tsI T 28 (zN 0)) := ⟨fun k _ hk => by rw [tI_s, if_neg hk], fun p hp => rfl⟩
  have H : ∃ r, fX5_laysSteps_l7 (zN a) 0 (tsI T 28 (zN 0)) = some r ∧ ∃ T' n g, r = (zN n, T') ∧ Srt T' n g ∧ K2 T T' ∧ ∀ x, (∃ j, j < n ∧ g j = x) ↔ stp ρ a (ρ 2) x := by
    refine wh_up (P := fun i s => i ≤ ρ 2 ∧ ∃ T' n g, s = (zN i, T') ∧ K2 T T' ∧ Srt T' n g ∧ n ≤ i ∧ ∀ x, (∃ j, j < n ∧ g j = x) ↔ stp ρ a i x) (ρ 2) ?_ ?_ (ρ 2) 0 _ (by omega) ⟨by omega, _, 0, _, rfl, hK0, hS0, by omega, fun x => ⟨fun ⟨j, hj, _⟩ => by omega, fun ⟨t, ht, _⟩ => by omega⟩⟩
    · rintro i s hi ⟨-, T', n, g, rfl, hK, hS, hn, hx⟩
      have hQ' := hK.q hQ
      obtain ⟨T3, e3, hK3⟩ := tw_keep hQ' hi ha
      have hkr := kpI_rng (ρ := ρ) (m := 0) (fz := 0) (t := i) (a := a)
      have m1 : ¬ (ρ 2 ≤ i) := by omega
      have m2 : (zI (kpI ρ 0 0 i a) = zI (-1)) = (kpI ρ 0 0 i a = -1) := zI_eq (by omega) (by omega)
      have m3 : (zN (aMx ρ a) ≤ zI (kpI ρ 0 0 i a)) = ((aMx ρ a : Int) ≤ kpI ρ 0 0 i a) := zI_le (by omega) (by omega)
      left
      have hno : (kpI ρ 0 0 i a = -1 ∨ (aMx ρ a : Int) ≤ kpI ρ 0 0 i a) → ∀ x, stp ρ a (i + 1) x ↔ stp ρ a i x := by
        intro hh x
        constructor
        · rintro ⟨t, ht, h1, h2⟩
          by_cases e : t = i
          · subst e; omega
          · exact ⟨t, by omega, h1, h2⟩
        · rintro ⟨t, ht, h1, h2⟩
          exact ⟨t, by omega, h1, h2⟩
      by_cases hk : kpI ρ 0 0 i a = -1
      · rw [eq_true hk] at m2
        refine ⟨(zN (i + 1), T3), ?_, by omega, T3, n, g, rfl, hK.trans hK3.k2, hK3.srt hS, by omega, fun x => by rw [hx, hno (.inl hk)]⟩
        simp (disch := omega) only [b2_some, bd_some, nm_eq, Option.map_some, zN_lit, zN_add, zN_mul, zN_neg1, if_true, if_false, reduceIte, eq_self, Nat.reduceEqDiff, Nat.reduceAdd, Nat.reduceMul, Nat.reduceSub, Nat.reduceLeDiff, Nat.one_ne_zero, not_false_eq_true, Bool.false_eq_true, zN_eq, zN_lt, zN_le,  fX5_laysSteps_b7, tw_rd hQ'.1, m1, e3, m2, fX5_laysSteps_b44]
      · rw [eq_false hk] at m2
        by_cases hk2 : (aMx ρ a : Int) ≤ kpI ρ 0 0 i a
        · rw [eq_true hk2] at m3
          refine ⟨(zN (i + 1), T3), ?_, by omega, T3, n, g, rfl, hK.trans hK3.k2, hK3.srt hS, by omega, fun x => by rw [hx, hno (.inr hk2)]⟩
          simp (disch := omega) only [b2_some, bd_some, nm_eq, Option.map_some, zN_lit, zN_add, zN_mul, zN_neg1, if_true, if_false, reduceIte, eq_self, Nat.reduceEqDiff, Nat.reduceAdd, Nat.reduceMul, Nat.reduceSub, Nat.reduceLeDiff, Nat.one_ne_zero, not_false_eq_true, Bool.false_eq_true, zN_eq, zN_lt, zN_le,  fX5_laysSteps_b7, tw_rd hQ'.1, m1, e3, m2, ta3 (hK3.row hQ'.1), m3, fX5_laysSteps_b44]
        · rw [eq_false hk2] at m3
          have hkn : zI (kpI ρ 0 0 i a) = zN (kpI ρ 0 0 i a).toNat := zI_nn (by omega)
          obtain ⟨T4, n4, g4, e4, s4, l4, k4, x4⟩ := tw_turn (hK3.srt hS) (by omega) (v := (kpI ρ 0 0 i a).toNat) (by omega)
          refine ⟨(zN (i + 1), T4), ?_, by omega, T4, n4, g4, rfl, (hK.trans hK3.k2).trans k4.k2, s4, by omega, fun x => ?_⟩
          · rw [hkn] at e3 m2 m3
            simp (disch := omega) only [b2_some, bd_some, nm_eq, Option.map_some, zN_lit, zN_add, zN_mul, zN_neg1, if_true, if_false, reduceIte, eq_self, Nat.reduceEqDiff, Nat.reduceAdd, Nat.reduceMul, Nat.reduceSub, Nat.reduceLeDiff, Nat.one_ne_zero, not_false_eq_true, Bool.false_eq_true, zN_eq, zN_lt, zN_le,  fX5_laysSteps_b7, tw_rd hQ'.1, m1, e3, m2, ta3 (hK3.row hQ'.1), m3, e4, fX5_laysSteps_b44]
          · rw [x4, hx]
            constructor
            · rintro (h | ⟨t, ht, h⟩)
              · exact ⟨i, by omega, by omega, by omega⟩
              · exact ⟨t, by omega, h⟩
            · rintro ⟨t, ht, h1, h2⟩
              by_cases e : t = i
              · subst e; exact .inl (by omega)
              · exact .inr ⟨t, by omega, h1, h2⟩
    · rintro s ⟨-, T', n, g, rfl, hK, hS, hn, hx⟩
      refine ⟨_, ?_, T', n, g, rfl, hS, hK, hx⟩
      simp (disch := omega) only [b2_some, bd_some, nm_eq, Option.map_some, zN_lit, zN_add, zN_mul, zN_neg1, if_true, if_false, reduceIte, eq_self, Nat.reduceEqDiff, Nat.reduceAdd, Nat.reduceMul, Nat.reduceSub, Nat.reduceLeDiff, Nat.one_ne_zero, not_false_eq_true, Bool.false_eq_true, zN_eq, zN_lt, zN_le,  fX5_laysSteps_b7, tw_rd (hK.q hQ).1, Nat.le_refl, fX5_laysSteps_b50, hS.1]
  obtain ⟨r, e, T', n, g, rfl, h⟩ := H
  refine ⟨T', n, g, ?_, h⟩
  have e' : fX5_laysSteps_l7 (zN a) (zN 0) (tsI T 28 (zN 0)) = some (zN n, T') := e
  simp (disch := omega) only [b2_some, bd_some, nm_eq, Option.map_some, zN_lit, zN_add, zN_mul, zN_neg1, if_true, if_false, reduceIte, eq_self, Nat.reduceEqDiff, Nat.reduceAdd, Nat.reduceMul, Nat.reduceSub, Nat.reduceLeDiff, Nat.one_ne_zero, not_false_eq_true, Bool.false_eq_true, zN_eq, zN_lt, zN_le,  fX5_laysSteps, e']
end
