/-! Plain law: the twin lays distances and the path -/
theorem fl_or : ∀ p q : Bool, (if q = true then (1 : Int32) else if p = true then 1 else 0) = (if (p || q) = true then 1 else 0) := by decide
section
variable {T : TW} {ρ : Nat → Nat} {m fz : Nat} {aw : Int} {t : Nat}
theorem tw_pass (hR : RowT T ρ) (hI : Inv ρ) (hO : OptT T m aw fz) (ht : t < ρ 2) {far : Nat → Option Int} (hB : Bf (ρ 0) (ρ 1) (aFr ρ) (aTo ρ) (wT ρ m aw fz t) 30000000000000 (pTo ρ t) far) {f : Nat → Int64} (hf : ∀ n, n < 10 → f n = encF (far n)) :
    ∃ r, fX5_laysFar_l45 (zN t) 0 0 (tsB T 7 f) = some r ∧ ∃ f', r = .inl (if (bf_pss (aFr ρ) (aTo ρ) (wT ρ m aw fz t) far (ρ 1)).2 then 1 else 0, tsB T 7 f') ∧ ∀ n, n < 10 → f' n = encF ((bf_pss (aFr ρ) (aTo ρ) (wT ρ m aw fz t) far (ρ 1)).1 n) := by
  have hM : (30000000000000 : Int) * (ρ 0 : Nat) < ((30000000000000 * ρ 0 + 1 : Nat) : Int) := by omega
  refine wh_up (P := fun i s => i ≤ ρ 1 ∧ ∃ f', s = (if (bf_pss (aFr ρ) (aTo ρ) (wT ρ m aw fz t) far i).2 then 1 else 0, zN i, tsB T 7 f') ∧ ∀ n, n < 10 → f' n = encF ((bf_pss (aFr ρ) (aTo ρ) (wT ρ m aw fz t) far i).1 n)) (ρ 1) ?_ ?_ (ρ 1) 0 _ (by omega) ⟨by omega, f, rfl, hf⟩
  · rintro i s hi ⟨-, f', rfl, hf'⟩
    obtain ⟨f2, e2, h2⟩ := tw_step hR hI hO ht (Bf.pss (tw_BfN hI ht) hM hB i (by omega)).1 hf' hi (if (bf_pss (aFr ρ) (aTo ρ) (wT ρ m aw fz t) far i).2 then 1 else 0)
    refine .inl ⟨_, e2, by omega, f2, ?_, h2⟩
    exact congrArg (fun z => (z, zN (i + 1), tsB T 7 f2)) (fl_or _ _)
  · rintro s ⟨-, f', rfl, hf'⟩
    have h1 := hI.h1
    have hR' : RowT (tsB T 7 f') ρ := hR
    refine ⟨_, ?_, f', rfl, hf'⟩
    simp (disch := omega) only [b2_some, bd_some, nm_eq, Option.map_some, zN_lit, zN_add, zN_mul, zN_neg1, if_true, if_false, reduceIte, eq_self, Nat.reduceEqDiff, Nat.reduceAdd, Nat.reduceMul, Nat.reduceSub, Nat.reduceLeDiff, Nat.one_ne_zero, not_false_eq_true, Bool.false_eq_true, zN_eq, zN_lt, zN_le,  fX5_laysFar_b45, fX5_laysFar_b151, tw_rd hR', Nat.le_refl]
theorem tw_outer (hR : RowT T ρ) (hI : Inv ρ) (hO : OptT T m aw fz) (ht : t < ρ 2) {f : Nat → Int64} (hf : ∀ n, n < 10 → f n = encF (bf_ini (pTo ρ t) n)) :
    ∃ r, fX5_laysFar_l37 (zN t) 1 (tsB T 7 f) = some r ∧ ∃ f', r = tsB T 7 f' ∧ ∀ n, n < 10 → f' n = encF (dT ρ m aw fz t n) := by
  have hM : (30000000000000 : Int) * (ρ 0 : Nat) < ((30000000000000 * ρ 0 + 1 : Nat) : Int) := by omega
  have hN := tw_BfN (m := m) (aw := aw) (fz := fz) hI ht
  refine wh_dn (P := fun k s => ∃ f' far b, s = (if b then 1 else 0, tsB T 7 f') ∧ (∀ n, n < 10 → f' n = encF (far n)) ∧ Bf (ρ 0) (ρ 1) (aFr ρ) (aTo ρ) (wT ρ m aw fz t) 30000000000000 (pTo ρ t) far ∧
    ((b = true ∧ k = bf_pot (30000000000000 * ρ 0 + 1) far (ρ 0) + 1) ∨ (b = false ∧ k = 0 ∧ Sol (ρ 1) (aFr ρ) (aTo ρ) (wT ρ m aw fz t) (pTo ρ t) far))) ?_ _ _ ⟨f, _, true, rfl, hf, Bf.ini hN, .inl ⟨rfl, rfl⟩⟩
  rintro k s ⟨f', far, b, rfl, hf', hB, ⟨rfl, rfl⟩ | ⟨rfl, rfl, hS⟩⟩
  · obtain ⟨r, e, f2, rfl, h2⟩ := tw_pass hR hI hO ht hB hf'
    obtain ⟨i1, i2, i3⟩ := Bf.pss hN hM hB (ρ 1) (Nat.le_refl _)
    left
    cases eb : (bf_pss (aFr ρ) (aTo ρ) (wT ρ m aw fz t) far (ρ 1)).2 with
    | true =>
      refine ⟨_, bf_pot (30000000000000 * ρ 0 + 1) (bf_pss (aFr ρ) (aTo ρ) (wT ρ m aw fz t) far (ρ 1)).1 (ρ 0) + 1, by have := i2 eb; omega, ?_, f2, _, true, rfl, h2, i1, .inl ⟨rfl, rfl⟩⟩
      rw [eb] at e
      exact e
    | false =>
      have i4 := i3 eb
      refine ⟨_, 0, by omega, ?_, f2, far, false, rfl, by rw [← i4.1]; exact h2, hB, .inr ⟨rfl, rfl, hB.sol i4.2⟩⟩
      rw [eb] at e
      exact e
  · right
    refine ⟨_, rfl, f', rfl, fun n hn => ?_⟩
    rw [hf' n hn]
    congr 1
    exact (congrFun (dst_eq (fun a x h => (hN.2.1 a x h).1) hS) n).symm
theorem tw_far (hR : RowT T ρ) (hI : Inv ρ) (hO : OptT T m aw fz) (ht : t < ρ 2) :
    ∃ f', fX5_laysFar (zN t) T = some (tsB T 7 f') ∧ ∀ n, n < 10 → f' n = encF (dT ρ m aw fz t n) := by
  have c := hI.ht ht
  have H : ∃ r, fX5_laysFar_l2 (zN t) 0 (tsB T 7 (tB T 7)) = some r ∧ ∃ f', r = tsB T 7 f' ∧ ∀ n, n < 10 → f' n = encF (dT ρ m aw fz t n) := by
    refine wh_up (P := fun i s => i ≤ 10 ∧ ∃ f', s = (zN i, tsB T 7 f') ∧ ∀ n, n < i → f' n = zJ FAR) 10 ?_ ?_ 10 0 _ (by omega) ⟨by omega, tB T 7, rfl, fun n hn => by omega⟩
    · rintro i s hi ⟨-, f', rfl, hf'⟩
      refine .inl ⟨_, ?_, by omega, vp_updL f' i (zJ FAR), rfl, fun n hn => ?_⟩
      · have e7 : tB (tsB T 7 f') 7 = f' := by rw [tB_B, if_pos rfl]
        have n1 : ¬ (10 ≤ i) := by omega
        simp (disch := omega) only [b2_some, bd_some, nm_eq, Option.map_some, zN_lit, zN_add, zN_mul, zN_neg1, if_true, if_false, reduceIte, eq_self, Nat.reduceEqDiff, Nat.reduceAdd, Nat.reduceMul, Nat.reduceSub, Nat.reduceLeDiff, Nat.one_ne_zero, not_false_eq_true, Bool.false_eq_true, zN_eq, zN_lt, zN_le,  fX5_laysFar_b2, n1, show (2305843009213693951 : Int64) = zJ FAR from rfl, wrB_N, e7, tsB_B]
      · unfold vp_updL
        by_cases e : n = i
        · rw [if_pos e]
        · rw [if_neg e]; exact hf' n (by omega)
    · rintro s ⟨-, f', rfl, hf'⟩
      have hR' : RowT (tsB T 7 f') ρ := hR
      have e7 : tB (tsB T 7 f') 7 = f' := by rw [tB_B, if_pos rfl]
      obtain ⟨r, e, f2, rfl, h2⟩ := tw_outer (f := vp_updL f' (pTo ρ t) (zJ 0)) hR hI hO ht (fun n hn => by
        unfold vp_updL bf_ini
        by_cases e : n = pTo ρ t
        · rw [if_pos e, if_pos e]; rfl
        · rw [if_neg e, if_neg e]; exact hf' n hn)
      refine ⟨_, ?_, f2, rfl, h2⟩
      have e' : fX5_laysFar_l37 (zN t) (zN 1) (tsB T 7 (vp_updL f' (pTo ρ t) (zJ 0))) = some (tsB T 7 f2) := e
      simp (disch := omega) only [b2_some, bd_some, nm_eq, Option.map_some, zN_lit, zN_add, zN_mul, zN_neg1, if_true, if_false, reduceIte, eq_self, Nat.reduceEqDiff, Nat.reduceAdd, Nat.reduceMul, Nat.reduceSub, Nat.reduceLeDiff, Nat.one_ne_zero, not_false_eq_true, Bool.false_eq_true, zN_eq, zN_lt, zN_le,  fX5_laysFar_b2, fX5_laysFar_b23, Nat.le_refl, tp1 hR', wrB_N, e7, tsB_B, show (0 : Int64) = zJ 0 from rfl, e']
  rw [tsB_self] at H
  obtain ⟨r, e, f', rfl, h⟩ := H
  exact ⟨f', e, h⟩
theorem dT_in (hI : Inv ρ) (ht : t < ρ 2) (n : Nat) : inF (dT ρ m aw fz t n) := (dA_sol (tw_GN hI ht) (sgn_wB ρ)).2.inF (by omega) hI.h0.2 n
theorem tw_best (hR : RowT T ρ) (hI : Inv ρ) (hO : OptT T m aw fz) (ht : t < ρ 2) :
    ∃ f', fX5_best (zN t) T = some (encF (dT ρ m aw fz t (pFr ρ t)), tsB T 7 f') ∧ ∀ n, n < 10 → f' n = encF (dT ρ m aw fz t n) := by
  have c := hI.ht ht
  obtain ⟨f', e, h⟩ := tw_far hR hI hO ht
  have hR' : RowT (tsB T 7 f') ρ := hR
  have e7 : tB (tsB T 7 f') 7 = f' := by rw [tB_B, if_pos rfl]
  refine ⟨f', ?_, h⟩
  simp (disch := omega) only [b2_some, bd_some, nm_eq, Option.map_some, zN_lit, zN_add, zN_mul, zN_neg1, if_true, if_false, reduceIte, eq_self, Nat.reduceEqDiff, Nat.reduceAdd, Nat.reduceMul, Nat.reduceSub, Nat.reduceLeDiff, Nat.one_ne_zero, not_false_eq_true, Bool.false_eq_true, zN_eq, zN_lt, zN_le,  fX5_best, e, tp0 hR', e7, rd_N, h]
/-- the first tight arc, as the twin looks for it -/
theorem tw_tight1 (hR : RowT T ρ) (hI : Inv ρ) (hO : OptT T m aw fz) (ht : t < ρ 2) (hf : ∀ n, n < 10 → tB T 7 n = encF (dT ρ m aw fz t n)) {a n : Nat} (ha : a < ρ 1) (hn : aFr ρ a = n) (hg : tgt (aFr ρ) (aTo ρ) (wT ρ m aw fz t) (dT ρ m aw fz t) a = true) :
    fX5_isBestFrom (zN t) (zN a) (zN n) T = some (zN 1, T) := by
  have b := hI.ha ha
  obtain ⟨x, y, hx, hy, hz⟩ := tgt_iff.mp hg
  have hu := ((wcd_some a x).mp hx).1
  have hwt := tw_wt hR hI ht ha
  rw [← ((wcd_some a x).mp hx).2] at hwt
  have hx0 := (tw_BfN (m := m) (aw := aw) (fz := fz) hI ht).2.1 a x hx
  have hi := dT_in (m := m) (aw := aw) (fz := fz) hI ht (aTo ρ a)
  have hy0 := hi y hy
  have c1 := encF_ge hi
  rw [hy, encF_some] at c1
  have c1' : ¬ (some y = none) := by simp
  have c2 := encF_sume (dT_in (m := m) (aw := aw) (fz := fz) hI ht (aFr ρ a)) (v := y + x) (by omega)
  rw [hz] at c2
  subst hn
  simp (disch := omega) only [b2_some, bd_some, nm_eq, Option.map_some, zN_lit, zN_add, zN_mul, zN_neg1, if_true, if_false, reduceIte, eq_self, Nat.reduceEqDiff, Nat.reduceAdd, Nat.reduceMul, Nat.reduceSub, Nat.reduceLeDiff, Nat.one_ne_zero, not_false_eq_true, Bool.false_eq_true, zN_eq, zN_lt, zN_le,  fX5_isBestFrom, to1 hR hI hO hu, ta0 hR, ta1 hR, rd_N, hf, hy, encF_some, show (2305843009213693951 : Int64) = zJ FAR from rfl, c1, c1', hwt, zJ_add, hz, c2]
  rw [encF_some] at c2
  simp (disch := omega) only [b2_some, bd_some, nm_eq, Option.map_some, zN_lit, zN_add, zN_mul, zN_neg1, if_true, if_false, reduceIte, eq_self, Nat.reduceEqDiff, Nat.reduceAdd, Nat.reduceMul, Nat.reduceSub, Nat.reduceLeDiff, Nat.one_ne_zero, not_false_eq_true, Bool.false_eq_true, zN_eq, zN_lt, zN_le,  c2]
theorem tw_tight0 (hR : RowT T ρ) (hI : Inv ρ) (hO : OptT T m aw fz) (ht : t < ρ 2) (hf : ∀ n, n < 10 → tB T 7 n = encF (dT ρ m aw fz t n)) {a n : Nat} (ha : a < ρ 1) (hn : n < 10) (hg : ¬ (aFr ρ a = n ∧ tgt (aFr ρ) (aTo ρ) (wT ρ m aw fz t) (dT ρ m aw fz t) a = true)) :
    fX5_isBestFrom (zN t) (zN a) (zN n) T = some (zN 0, T) := by
  have b := hI.ha ha
  by_cases hu : uT ρ m aw fz a
  · have hx : wT ρ m aw fz t a = some (1000000000 * feI ρ (pVa ρ t) a + (100 * sgn ρ) * tlI ρ a + 1) := wcd_pos hu
    have hwt := tw_wt hR hI ht ha
    have hx0 := (tw_BfN (m := m) (aw := aw) (fz := fz) hI ht).2.1 a _ hx
    generalize 1000000000 * feI ρ (pVa ρ t) a + (100 * sgn ρ) * tlI ρ a + 1 = x at hx hwt hx0
    by_cases e1 : aFr ρ a = n
    · subst e1
      have hi := dT_in (m := m) (aw := aw) (fz := fz) hI ht (aTo ρ a)
      have c1 := encF_ge hi
      cases hy : dT ρ m aw fz t (aTo ρ a) with
      | none =>
        rw [hy] at c1
        simp (disch := omega) only [b2_some, bd_some, nm_eq, Option.map_some, zN_lit, zN_add, zN_mul, zN_neg1, if_true, if_false, reduceIte, eq_self, Nat.reduceEqDiff, Nat.reduceAdd, Nat.reduceMul, Nat.reduceSub, Nat.reduceLeDiff, Nat.one_ne_zero, not_false_eq_true, Bool.false_eq_true, zN_eq, zN_lt, zN_le,  fX5_isBestFrom, to1 hR hI hO hu, ta0 hR, ta1 hR, rd_N, hf, hy, show (2305843009213693951 : Int64) = zJ FAR from rfl, c1]
      | some y =>
        have hy0 := hi y hy
        rw [hy, encF_some] at c1
        have c1' : ¬ (some y = none) := by simp
        have c2 := encF_sume (dT_in (m := m) (aw := aw) (fz := fz) hI ht (aFr ρ a)) (v := y + x) (by omega)
        have c3 : ¬ (dT ρ m aw fz t (aFr ρ a) = some (y + x)) := fun e => hg ⟨rfl, tgt_iff.mpr ⟨x, y, hx, hy, e⟩⟩
        simp (disch := omega) only [b2_some, bd_some, nm_eq, Option.map_some, zN_lit, zN_add, zN_mul, zN_neg1, if_true, if_false, reduceIte, eq_self, Nat.reduceEqDiff, Nat.reduceAdd, Nat.reduceMul, Nat.reduceSub, Nat.reduceLeDiff, Nat.one_ne_zero, not_false_eq_true, Bool.false_eq_true, zN_eq, zN_lt, zN_le,  fX5_isBestFrom, to1 hR hI hO hu, ta0 hR, ta1 hR, rd_N, hf, hy, encF_some, show (2305843009213693951 : Int64) = zJ FAR from rfl, c1, c1', hwt, zJ_add, c2, c3]
    · simp (disch := omega) only [b2_some, bd_some, nm_eq, Option.map_some, zN_lit, zN_add, zN_mul, zN_neg1, if_true, if_false, reduceIte, eq_self, Nat.reduceEqDiff, Nat.reduceAdd, Nat.reduceMul, Nat.reduceSub, Nat.reduceLeDiff, Nat.one_ne_zero, not_false_eq_true, Bool.false_eq_true, zN_eq, zN_lt, zN_le,  fX5_isBestFrom, to1 hR hI hO hu, ta0 hR, e1]
  · simp (disch := omega) only [b2_some, bd_some, nm_eq, Option.map_some, zN_lit, zN_add, zN_mul, zN_neg1, if_true, if_false, reduceIte, eq_self, Nat.reduceEqDiff, Nat.reduceAdd, Nat.reduceMul, Nat.reduceSub, Nat.reduceLeDiff, Nat.one_ne_zero, not_false_eq_true, Bool.false_eq_true, zN_eq, zN_lt, zN_le,  fX5_isBestFrom, to0 hR hI hO ha hu]
end
