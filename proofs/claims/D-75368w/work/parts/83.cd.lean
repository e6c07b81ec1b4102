/-! Plain law: the component measures and walks -/
noncomputable def dW (ρ : Nat → Nat) (t k : Nat) : Nat → Option Int := dst (ρ 1) (aFr ρ) (aTo ρ) (wgt ρ t k) (pTo ρ t)
section
variable {w : WH} {s q F : Nat} {ρ : Nat → Nat} {ν : NH} {t k : Nat}
theorem wF_wF (w : WH) (F : Nat) (f g : Nat → Int64) : wF (wF w F f) F g = wF w F g := hUp_hUp _ _ _ _
theorem c_pass (h : MS w F s q ν ρ) (hk : k = 5 ∨ k = 6 ∨ k = 7 ∨ k = 8) (ht : t < ρ 2) {far : Nat → Option Int} (hB : Bf (ρ 0) (ρ 1) (aFr ρ) (aTo ρ) (wgt ρ t k) 30000000000000 (pTo ρ t) far) {f : Nat → Int64} (hf : ∀ m, m < ρ 0 → f m = encF (far m)) :
    ∃ r, fX4_measure_l55 F s (nTr ν t) (wK w k) 0 0 (wF w F f) = some r ∧ ∃ f', r = .inl (if (bf_pss (aFr ρ) (aTo ρ) (wgt ρ t k) far (ρ 1)).2 then 1 else 0, wF w F f') ∧ ∀ m, m < ρ 0 → f' m = encF ((bf_pss (aFr ρ) (aTo ρ) (wgt ρ t k) far (ρ 1)).1 m) := by
  have hI := h.2.2.2.1
  have hM : (30000000000000 : Int) * (ρ 0 : Nat) < ((30000000000000 * ρ 0 + 1 : Nat) : Int) := by omega
  have h1 := hI.h1
  refine wh_up (P := fun i s => i ≤ ρ 1 ∧ ∃ f', s = (if (bf_pss (aFr ρ) (aTo ρ) (wgt ρ t k) far i).2 then 1 else 0, zN i, wF w F f') ∧ ∀ m, m < ρ 0 → f' m = encF ((bf_pss (aFr ρ) (aTo ρ) (wgt ρ t k) far i).1 m)) (ρ 1) ?_ ?_ (ρ 1) 0 _ (by omega) ⟨by omega, f, rfl, hf⟩
  · rintro i s' hi ⟨-, f', rfl, hf'⟩
    have hb := (Bf.pss (wgt_BfN (k := k) hI ht) hM hB i (by omega)).1
    obtain ⟨f2, e2, h2⟩ := c_shr h hk hi ht hb hf'
    have h' := h.far f'
    have n1 : ¬ (ρ 1 ≤ i) := by omega
    have hsh : fX4_measure_b55 F s (nTr ν t) (wK w k) (if (bf_pss (aFr ρ) (aTo ρ) (wgt ρ t k) far i).2 then 1 else 0) (zN i) (wF w F f') = some (.inl (if (bf_rlx (aFr ρ) (aTo ρ) (wgt ρ t k) (bf_pss (aFr ρ) (aTo ρ) (wgt ρ t k) far i).1 i).2 then 1 else if (bf_pss (aFr ρ) (aTo ρ) (wgt ρ t k) far i).2 then 1 else 0, zN (i + 1), wF w F f2)) := by
      cases c1 : (bf_rlx (aFr ρ) (aTo ρ) (wgt ρ t k) (bf_pss (aFr ρ) (aTo ρ) (wgt ρ t k) far i).1 i).2 with
      | true =>
        rw [c1] at e2
        simp (disch := omega) only [b2_some, bd_some, nm_eq, Option.map_some, zN_lit, zN_add, zN_mul, zN_neg1, if_true, if_false, reduceIte, eq_self, Nat.reduceEqDiff, Nat.reduceAdd, Nat.reduceMul, Nat.reduceSub, Nat.reduceLeDiff, Nat.one_ne_zero, not_false_eq_true, Bool.false_eq_true, zN_eq, zN_lt, zN_le,  fX4_measure_b55, c_snet h'.2.1, c_nal h'.2.2.1, c_alI h'.2.2.1, c_size h'.2.2.1, n1, c_geta h'.2.2.1 hI hi, c_aI h'.2.2.1 hi, h'.FI, e2, fX4_measure_b104, fX4_measure_b109]
      | false =>
        rw [c1] at e2
        cases c2 : (bf_pss (aFr ρ) (aTo ρ) (wgt ρ t k) far i).2 with
        | true =>
          simp (disch := omega) only [b2_some, bd_some, nm_eq, Option.map_some, zN_lit, zN_add, zN_mul, zN_neg1, if_true, if_false, reduceIte, eq_self, Nat.reduceEqDiff, Nat.reduceAdd, Nat.reduceMul, Nat.reduceSub, Nat.reduceLeDiff, Nat.one_ne_zero, not_false_eq_true, Bool.false_eq_true, zN_eq, zN_lt, zN_le,  fX4_measure_b55, c_snet h'.2.1, c_nal h'.2.2.1, c_alI h'.2.2.1, c_size h'.2.2.1, n1, c_geta h'.2.2.1 hI hi, c_aI h'.2.2.1 hi, h'.FI, e2, fX4_measure_b104, fX4_measure_b109]
        | false =>
          simp (disch := omega) only [b2_some, bd_some, nm_eq, Option.map_some, zN_lit, zN_add, zN_mul, zN_neg1, if_true, if_false, reduceIte, eq_self, Nat.reduceEqDiff, Nat.reduceAdd, Nat.reduceMul, Nat.reduceSub, Nat.reduceLeDiff, Nat.one_ne_zero, not_false_eq_true, Bool.false_eq_true, zN_eq, zN_lt, zN_le,  fX4_measure_b55, c_snet h'.2.1, c_nal h'.2.2.1, c_alI h'.2.2.1, c_size h'.2.2.1, n1, c_geta h'.2.2.1 hI hi, c_aI h'.2.2.1 hi, h'.FI, e2, fX4_measure_b104, fX4_measure_b109]
    refine .inl ⟨_, hsh, by omega, f2, ?_, h2⟩
    exact congrArg (fun z => (z, zN (i + 1), wF w F f2)) (fl_or _ _)
  · rintro s' ⟨-, f', rfl, hf'⟩
    have h' := h.far f'
    refine ⟨_, ?_, f', rfl, hf'⟩
    simp (disch := omega) only [b2_some, bd_some, nm_eq, Option.map_some, zN_lit, zN_add, zN_mul, zN_neg1, if_true, if_false, reduceIte, eq_self, Nat.reduceEqDiff, Nat.reduceAdd, Nat.reduceMul, Nat.reduceSub, Nat.reduceLeDiff, Nat.one_ne_zero, not_false_eq_true, Bool.false_eq_true, zN_eq, zN_lt, zN_le,  fX4_measure_b55, c_snet h'.2.1, c_nal h'.2.2.1, c_alI h'.2.2.1, c_size h'.2.2.1, Nat.le_refl, fX4_measure_b117]
theorem c_outer (h : MS w F s q ν ρ) (hk : k = 5 ∨ k = 6 ∨ k = 7 ∨ k = 8) (ht : t < ρ 2) {f : Nat → Int64} (hf : ∀ m, m < ρ 0 → f m = encF (bf_ini (pTo ρ t) m)) :
    ∃ r, fX4_measure_l44 F s (nTr ν t) (wK w k) 1 (wF w F f) = some r ∧ ∃ f', r = (encF (dW ρ t k (pFr ρ t)), wF w F f') ∧ ∀ m, m < ρ 0 → f' m = encF (dW ρ t k m) := by
  have hI := h.2.2.2.1
  have hM : (30000000000000 : Int) * (ρ 0 : Nat) < ((30000000000000 * ρ 0 + 1 : Nat) : Int) := by omega
  have hN := wgt_BfN (k := k) hI ht
  have hc := hI.ht ht
  refine wh_dn (P := fun j s => ∃ f' far b, s = (if b then 1 else 0, wF w F f') ∧ (∀ m, m < ρ 0 → f' m = encF (far m)) ∧ Bf (ρ 0) (ρ 1) (aFr ρ) (aTo ρ) (wgt ρ t k) 30000000000000 (pTo ρ t) far ∧
    ((b = true ∧ j = bf_pot (30000000000000 * ρ 0 + 1) far (ρ 0) + 1) ∨ (b = false ∧ j = 0 ∧ Sol (ρ 1) (aFr ρ) (aTo ρ) (wgt ρ t k) (pTo ρ t) far))) ?_ _ _ ⟨f, _, true, rfl, hf, Bf.ini hN, .inl ⟨rfl, rfl⟩⟩
  rintro j s' ⟨f', far, b, rfl, hf', hB, ⟨rfl, rfl⟩ | ⟨rfl, rfl, hS⟩⟩
  · obtain ⟨r, e, f2, rfl, h2⟩ := c_pass h hk ht hB hf'
    obtain ⟨i1, i2, i3⟩ := Bf.pss hN hM hB (ρ 1) (Nat.le_refl _)
    left
    cases eb : (bf_pss (aFr ρ) (aTo ρ) (wgt ρ t k) far (ρ 1)).2 with
    | true =>
      refine ⟨_, bf_pot (30000000000000 * ρ 0 + 1) (bf_pss (aFr ρ) (aTo ρ) (wgt ρ t k) far (ρ 1)).1 (ρ 0) + 1, by have := i2 eb; omega, ?_, f2, _, true, rfl, h2, i1, .inl ⟨rfl, rfl⟩⟩
      rw [eb] at e
      exact e
    | false =>
      have i4 := i3 eb
      refine ⟨_, 0, by omega, ?_, f2, far, false, rfl, by rw [← i4.1]; exact h2, hB, .inr ⟨rfl, rfl, hB.sol i4.2⟩⟩
      rw [eb] at e
      exact e
  · right
    have hd : dW ρ t k = far := dst_eq (fun a x h => (hN.2.1 a x h).1) hS
    have h' := h.far f'
    have l1 : ldJ (wF w F f') (F + 1) (zN (pFr ρ t)) = some (encF (far (pFr ρ t))) := by rw [c_ldJ (wF_F w F f') (by omega) (by omega), hf' _ hc.1]
    refine ⟨_, ?_, f', rfl, fun m hm => by rw [hd]; exact hf' m hm⟩
    rw [hd]
    have nb : ((if (false = true) then (1 : Int32) else 0) = 0) = True := eq_true (by decide)
    simp only [fX4_measure_b44, nb, if_true]
    simp (disch := omega) only [b2_some, bd_some, nm_eq, Option.map_some, zN_lit, zN_add, zN_mul, zN_neg1, if_true, if_false, reduceIte, eq_self, Nat.reduceEqDiff, Nat.reduceAdd, Nat.reduceMul, Nat.reduceSub, Nat.reduceLeDiff, Nat.one_ne_zero, not_false_eq_true, Bool.false_eq_true, zN_eq, zN_lt, zN_le,  fX4_measure_b120, h'.gF, c_tI h'.2.2.1 ht, c_tfrom h'.2.2.1 ht, l1]
theorem c_meas (h : MS w F s q ν ρ) (hk : k = 5 ∨ k = 6 ∨ k = 7 ∨ k = 8) (ht : t < ρ 2) :
    ∃ f', fX4_measure F s (nTr ν t) (wK w k) w = some (encF (dW ρ t k (pFr ρ t)), wF w F f') ∧ ∀ m, m < ρ 0 → f' m = encF (dW ρ t k m) := by
  have hI := h.2.2.2.1
  have hc := hI.ht ht
  have h0 := hI.h0
  obtain ⟨f0, e0⟩ := h.1.2.1
  have H : ∃ r, fX4_measure_l3 F s (nTr ν t) (wK w k) 0 (wF w F f0) = some r ∧ ∃ f', r = (encF (dW ρ t k (pFr ρ t)), wF w F f') ∧ ∀ m, m < ρ 0 → f' m = encF (dW ρ t k m) := by
    refine wh_up (P := fun i s => i ≤ ρ 0 ∧ ∃ f', s = (zN i, wF w F f') ∧ ∀ m, m < i → f' m = zJ FAR) (ρ 0) ?_ ?_ (ρ 0) 0 _ (by omega) ⟨by omega, f0, rfl, fun m hm => by omega⟩
    · rintro i s' hi ⟨-, f', rfl, hf'⟩
      have h' := h.far f'
      have n1 : ¬ (ρ 0 ≤ i) := by omega
      have s1 : stJ (wF w F f') (F + 1) (zN i) (zJ FAR) = some (wF w F (vp_updL f' i (zJ FAR))) := by
        rw [c_stJ (wF_F w F f') (by omega) (by omega)]
        exact congrArg some (wF_wF w F f' _)
      refine .inl ⟨(zN (i + 1), wF w F (vp_updL f' i (zJ FAR))), ?_, by omega, _, rfl, fun m hm => ?_⟩
      · simp (disch := omega) only [b2_some, bd_some, nm_eq, Option.map_some, zN_lit, zN_add, zN_mul, zN_neg1, if_true, if_false, reduceIte, eq_self, Nat.reduceEqDiff, Nat.reduceAdd, Nat.reduceMul, Nat.reduceSub, Nat.reduceLeDiff, Nat.one_ne_zero, not_false_eq_true, Bool.false_eq_true, zN_eq, zN_lt, zN_le,  fX4_measure_b3, c_snet h'.2.1, c_nn h'.2.2.1, n1, h'.gF, show (2305843009213693951 : Int64) = zJ FAR from rfl, s1]
      · unfold vp_updL
        by_cases e : m = i
        · rw [if_pos e]
        · rw [if_neg e]; exact hf' m (by omega)
    · rintro s' ⟨-, f', rfl, hf'⟩
      have h' := h.far f'
      have s1 : stJ (wF w F f') (F + 1) (zN (pTo ρ t)) 0 = some (wF w F (vp_updL f' (pTo ρ t) (zJ 0))) := by
        rw [c_stJ (wF_F w F f') (by omega) (by omega)]
        exact congrArg some (wF_wF w F f' _)
      obtain ⟨r, e, f2, rfl, h2⟩ := c_outer (f := vp_updL f' (pTo ρ t) (zJ 0)) h hk ht (fun m hm => by
        unfold vp_updL bf_ini
        by_cases e : m = pTo ρ t
        · rw [if_pos e, if_pos e]; rfl
        · rw [if_neg e, if_neg e]; exact hf' m hm)
      refine ⟨_, ?_, f2, rfl, h2⟩
      have e' : fX4_measure_l44 F s (nTr ν t) (wK w k) (zN 1) (wF w F (vp_updL f' (pTo ρ t) (zJ 0))) = _ := e
      simp (disch := omega) only [b2_some, bd_some, nm_eq, Option.map_some, zN_lit, zN_add, zN_mul, zN_neg1, if_true, if_false, reduceIte, eq_self, Nat.reduceEqDiff, Nat.reduceAdd, Nat.reduceMul, Nat.reduceSub, Nat.reduceLeDiff, Nat.one_ne_zero, not_false_eq_true, Bool.false_eq_true, zN_eq, zN_lt, zN_le,  fX4_measure_b3, c_snet h'.2.1, c_nn h'.2.2.1, Nat.le_refl, fX4_measure_b31, h'.gF, c_tI h'.2.2.1 ht, c_tto h'.2.2.1 ht, s1, e']
  rw [show wF w F f0 = w from hUp_self e0] at H
  obtain ⟨r, e, f', rfl, h2⟩ := H
  exact ⟨f', e, h2⟩
theorem dW_in (hI : Inv ρ) (ht : t < ρ 2) (m : Nat) : inF (dW ρ t k m) := (dst_sol (wgt_BfN (k := k) hI ht)).2.inF (by omega) hI.h0.2 m
/-- whole weights: the same path -/
theorem dW5 (hI : Inv ρ) (ht : t < ρ 2) (m : Nat) : dW ρ t 5 m = (dT ρ 0 (-1) 0 t m).map fun _ => 10000000 * lsum (feI ρ (pVa ρ t)) (pT ρ 0 (-1) 0 t m) + (16 * sgn ρ) * lsum (tlI ρ) (pT ρ 0 (-1) 0 t m) + (pT ρ 0 (-1) 0 t m).length := by
  have e : dW ρ t 5 = dB (ρ 1) (aFr ρ) (aTo ρ) (uT ρ 0 (-1) 0) (feI ρ (pVa ρ t)) (tlI ρ) (sgn ρ) (pTo ρ t) := rfl
  rw [e]
  exact dB_eq (tw_GN hI ht) (sgn_wB ρ) m
theorem tg5 (hI : Inv ρ) (ht : t < ρ 2) {a : Nat} (ha : a < ρ 1) : tgt (aFr ρ) (aTo ρ) (wgt ρ t 5) (dW ρ t 5) a = tgt (aFr ρ) (aTo ρ) (wT ρ 0 (-1) 0 t) (dT ρ 0 (-1) 0 t) a :=
  (tgtAB (tw_GN hI ht) (sgn_wB ρ) a ha).symm
theorem c_tight (h : MS w F s q ν ρ) (hk : k = 5 ∨ k = 6) {a : Nat} (ha : a < ρ 1) (ht : t < ρ 2) {f : Nat → Int64} (hg : w.1 (F + 1) = some (farC f)) (hf : ∀ m, m < ρ 0 → f m = encF (dW ρ t k m)) :
    fX4_isTight F s (nAr ν a) (nTr ν t) (wK w k) w = some (zN (if tgt (aFr ρ) (aTo ρ) (wgt ρ t k) (dW ρ t k) a then 1 else 0), w) := by
  have hI := h.2.2.2.1
  have b := hI.ha ha
  have hN' := h.2.2.1
  have hw := c_wt h (show k = 5 ∨ k = 6 ∨ k = 7 ∨ k = 8 by omega) ha ht
  have hin := fun m => dW_in (k := k) hI ht m
  have eF : (2305843009213693951 : Int64) = zJ FAR := rfl
  have e0 : ∀ x : Int64, lg_cmp x 0 = lg_cmp x (zJ 0) := fun _ => rfl
  cases hx : wgt ρ t k a with
  | none =>
    rw [hx, Option.getD_none] at hw
    have c0 : (lg_cmp (zJ (-1)) (zJ 0) < zN 0) = True := by rw [lgc_lt (by unfold bJ; omega) (by unfold bJ; omega)]; exact eq_true (by omega)
    have ht0 : tgt (aFr ρ) (aTo ρ) (wgt ρ t k) (dW ρ t k) a = false := by unfold tgt; rw [hx]
    rw [ht0]
    simp (disch := omega) only [b2_some, bd_some, nm_eq, Option.map_some, zN_lit, zN_add, zN_mul, zN_neg1, if_true, if_false, reduceIte, eq_self, Nat.reduceEqDiff, Nat.reduceAdd, Nat.reduceMul, Nat.reduceSub, Nat.reduceLeDiff, Nat.one_ne_zero, not_false_eq_true, Bool.false_eq_true, zN_eq, zN_lt, zN_le,  fX4_isTight, hw, e0, c0]
  | some x =>
    have hx0 := (wgt_BfN (k := k) hI ht).2.1 a x hx
    rw [hx, Option.getD_some] at hw
    have c0 : (lg_cmp (zJ x) (zJ 0) < zN 0) = False := by rw [lgc_lt (by unfold bJ; omega) (by unfold bJ; omega)]; exact eq_false (by omega)
    have l1 : ldJ w (F + 1) (zN (aTo ρ a)) = some (f (aTo ρ a)) := c_ldJ hg (by omega) (by omega)
    have l2 : ldJ w (F + 1) (zN (aFr ρ a)) = some (f (aFr ρ a)) := c_ldJ hg (by omega) (by omega)
    rw [hf _ b.2.1] at l1
    rw [hf _ b.1] at l2
    have c1 := encF_eq (hin (aTo ρ a))
    cases hy : dW ρ t k (aTo ρ a) with
    | none =>
      have ht0 : tgt (aFr ρ) (aTo ρ) (wgt ρ t k) (dW ρ t k) a = false := by unfold tgt; rw [hx, hy]
      rw [hy] at c1 l1
      rw [ht0]
      generalize encF none = v at c1 l1
      simp (disch := omega) only [b2_some, bd_some, nm_eq, Option.map_some, zN_lit, zN_add, zN_mul, zN_neg1, if_true, if_false, reduceIte, eq_self, Nat.reduceEqDiff, Nat.reduceAdd, Nat.reduceMul, Nat.reduceSub, Nat.reduceLeDiff, Nat.one_ne_zero, not_false_eq_true, Bool.false_eq_true, zN_eq, zN_lt, zN_le,  fX4_isTight, hw, e0, c0, h.gF, c_aI hN' ha, c_to hN' ha, l1, eF, c1]
    | some y =>
      have hy0 := hin _ y hy
      rw [hy, encF_some] at c1
      rw [hy, encF_some] at l1
      have c1' : ¬ (some y = none) := by simp
      have c2 := encF_sume (hin (aFr ρ a)) (v := y + x) (by omega)
      have ht0 : tgt (aFr ρ) (aTo ρ) (wgt ρ t k) (dW ρ t k) a = true ↔ dW ρ t k (aFr ρ a) = some (y + x) := by
        rw [tgt_iff]
        constructor
        · rintro ⟨x', y', h1, h2, h3⟩
          rw [hx] at h1; rw [hy] at h2
          cases h1; cases h2; exact h3
        · intro h3; exact ⟨x, y, hx, hy, h3⟩
      by_cases hc : dW ρ t k (aFr ρ a) = some (y + x)
      · rw [eq_true hc] at c2
        rw [ht0.mpr hc]
        simp (disch := omega) only [b2_some, bd_some, nm_eq, Option.map_some, zN_lit, zN_add, zN_mul, zN_neg1, if_true, if_false, reduceIte, eq_self, Nat.reduceEqDiff, Nat.reduceAdd, Nat.reduceMul, Nat.reduceSub, Nat.reduceLeDiff, Nat.one_ne_zero, not_false_eq_true, Bool.false_eq_true, zN_eq, zN_lt, zN_le,  fX4_isTight, hw, e0, c0, h.gF, c_aI hN' ha, c_to hN' ha, l1, eF, c1, c1', c_from hN' ha, l2, zJ_add, c2, fX4_isTight_b60]
      · rw [eq_false hc] at c2
        have hb : tgt (aFr ρ) (aTo ρ) (wgt ρ t k) (dW ρ t k) a = false := by
          cases e : tgt (aFr ρ) (aTo ρ) (wgt ρ t k) (dW ρ t k) a with
          | false => rfl
          | true => exact absurd (ht0.mp e) hc
        rw [hb]
        simp (disch := omega) only [b2_some, bd_some, nm_eq, Option.map_some, zN_lit, zN_add, zN_mul, zN_neg1, if_true, if_false, reduceIte, eq_self, Nat.reduceEqDiff, Nat.reduceAdd, Nat.reduceMul, Nat.reduceSub, Nat.reduceLeDiff, Nat.one_ne_zero, not_false_eq_true, Bool.false_eq_true, zN_eq, zN_lt, zN_le,  fX4_isTight, hw, e0, c0, h.gF, c_aI hN' ha, c_to hN' ha, l1, eF, c1, c1', c_from hN' ha, l2, zJ_add, c2, fX4_isTight_b64]
/-- the first tight arc -/
theorem c_next (h : MS w F s q ν ρ) (ht : t < ρ 2) {f : Nat → Int64} (hg : w.1 (F + 1) = some (farC f)) (hf : ∀ m, m < ρ 0 → f m = encF (dW ρ t 5 m)) {n : Nat} {z : Int} (hz : dT ρ 0 (-1) 0 t n = some z) (hn : n ≠ pTo ρ t) :
    fX4_next F s (nTr ν t) (zN n) w = some (some (nAr ν (nT ρ 0 (-1) 0 t n)), w) := by
  have hI := h.2.2.2.1
  have h1 := hI.h1
  obtain ⟨g1, g2, g3, g4, -, g5⟩ := nA_ok (tw_GN (m := 0) (aw := -1) (fz := 0) hI ht) (sgn_wB ρ) hz hn
  have b := hI.ha g1
  have hN' := h.2.2.1
  have hn10 : n < 10 := by omega
  refine wh_run (fun i => (zN i, w)) (nT ρ 0 (-1) 0 t n) _ (fun i hi => ?_) ?_ (nT ρ 0 (-1) 0 t n) 0 (by omega)
  · have hi' : i < nA (ρ 1) (aFr ρ) (aTo ρ) (uT ρ 0 (-1) 0) (feI ρ (pVa ρ t)) (tlI ρ) (sgn ρ) (pTo ρ t) n := hi
    have hiA : i < ρ 1 := by omega
    have n1 : ¬ (ρ 1 ≤ i) := by omega
    have bi := hI.ha hiA
    have ht5 := c_tight h (k := 5) (.inl rfl) hiA ht hg hf
    rw [tg5 hI ht hiA] at ht5
    by_cases c : aFr ρ i = n
    · have hb : tgt (aFr ρ) (aTo ρ) (wT ρ 0 (-1) 0 t) (dT ρ 0 (-1) 0 t) i = false := by
        cases e : tgt (aFr ρ) (aTo ρ) (wT ρ 0 (-1) 0 t) (dT ρ 0 (-1) 0 t) i with
        | false => rfl
        | true => exact absurd ⟨c, e⟩ (g5 i hi')
      rw [hb] at ht5
      simp (disch := omega) only [b2_some, bd_some, nm_eq, Option.map_some, zN_lit, zN_add, zN_mul, zN_neg1, if_true, if_false, reduceIte, eq_self, Nat.reduceEqDiff, Nat.reduceAdd, Nat.reduceMul, Nat.reduceSub, Nat.reduceLeDiff, Nat.one_ne_zero, not_false_eq_true, Bool.false_eq_true, zN_eq, zN_lt, zN_le,  fX4_next_b3, c_snet h.2.1, c_nal hN', c_alI hN', c_size hN', n1, c_geta hN' hI hiA, c_aI hN' hiA, c_from hN' hiA, c, h.FI, ht5, fX4_next_b65]
    · simp (disch := omega) only [b2_some, bd_some, nm_eq, Option.map_some, zN_lit, zN_add, zN_mul, zN_neg1, if_true, if_false, reduceIte, eq_self, Nat.reduceEqDiff, Nat.reduceAdd, Nat.reduceMul, Nat.reduceSub, Nat.reduceLeDiff, Nat.one_ne_zero, not_false_eq_true, Bool.false_eq_true, zN_eq, zN_lt, zN_le,  fX4_next_b3, c_snet h.2.1, c_nal hN', c_alI hN', c_size hN', n1, c_geta hN' hI hiA, c_aI hN' hiA, c_from hN' hiA, c, fX4_next_b65]
  · have g1' : nT ρ 0 (-1) 0 t n < ρ 1 := g1
    have g2' : aFr ρ (nT ρ 0 (-1) 0 t n) = n := g2
    have g4' : tgt (aFr ρ) (aTo ρ) (wT ρ 0 (-1) 0 t) (dT ρ 0 (-1) 0 t) (nT ρ 0 (-1) 0 t n) = true := g4
    have n1 : ¬ (ρ 1 ≤ nT ρ 0 (-1) 0 t n) := by omega
    have ht5 := c_tight h (k := 5) (.inl rfl) g1' ht hg hf
    rw [tg5 hI ht g1', g4'] at ht5
    simp (disch := omega) only [b2_some, bd_some, nm_eq, Option.map_some, zN_lit, zN_add, zN_mul, zN_neg1, if_true, if_false, reduceIte, eq_self, Nat.reduceEqDiff, Nat.reduceAdd, Nat.reduceMul, Nat.reduceSub, Nat.reduceLeDiff, Nat.one_ne_zero, not_false_eq_true, Bool.false_eq_true, zN_eq, zN_lt, zN_le,  fX4_next_b3, c_snet h.2.1, c_nal hN', c_alI hN', c_size hN', n1, c_geta hN' hI g1', c_aI hN' g1', c_from hN' g1', g2', h.FI, ht5]
end
