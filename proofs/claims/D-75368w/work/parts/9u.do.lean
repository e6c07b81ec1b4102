/-! Plain law: the component judges a path in letters -/
section
variable {w w' : WH} {x s q F n t : Nat} {ρ ρ' : Nat → Nat} {ν : NH} {σ : SG} {η : RH} {β : Nat → Nat}
/-- the record's own fields -/
theorem RcP.rt (h : RcP w x σ F s q ν η) {bu : Nat × (Nat → Nat)} {er : Nat × Int} (htx : TxK w (hTx η) bu.1 bu.2) :
    RcP (hUp w x (rtC s F (hP η) (hSn η) (hTx η) (hOu η) (zN bu.1) (zN er.1) (zI er.2))) x (σ.1, σ.2.1, σ.2.2.1, σ.2.2.2.1, bu, er, σ.2.2.2.2.2.2) F s q ν η := by
  obtain ⟨np1, np2, np3⟩ := h.nP
  have hd : DqC (hUp w x (rtC s F (hP η) (hSn η) (hTx η) (hOu η) (zN bu.1) (zN er.1) (zI er.2))) (hP η) (hE_ η) (hH η) ((hSs η).map Prod.fst) := by
    obtain ⟨b1, b2, b3, g, b4, b5⟩ := h.2.2.2.1
    exact ⟨by rw [hUp_ne _ _ np1.symm]; exact b1, b2, b3, g, by rw [hUp_ne _ _ np2.symm]; exact b4, b5⟩
  have hol := h.2.2.2.2.2.2.2.2.2.2.1
  exact (h.sw ((Ko.refl _ w).up (.inl rfl) _) (hUp_eq _ _ _) hd ⟨h.1.2.1, h.1.2.2.1, h.1.2.2.2.1⟩ h.2.2.2.2.1 h.2.2.2.2.2.2.2.2.2.1 (fun y hy => hol.2 y (by
    rcases List.mem_cons.mp hy with e | hy
    · rw [e]; exact List.mem_cons_self ..
    · exact List.mem_cons_of_mem _ (List.mem_append_left _ hy))) htx).1
theorem jdg_path (hI : Inv ρ) (ht : t < ρ 2) (hz : lT ρ 0 (-1) 0 t (pFr ρ t) = none) : ∀ n q, jdg ρ (uT ρ 0 (-1) 0) t β n = some q → lT ρ 0 (-1) 0 t q.1 = none
  | 0, q, h => by
    have h := Option.some.inj h
    rw [← h]
    exact hz
  | n + 1, q, h => by
    rw [jdg] at h
    cases e : jdg ρ (uT ρ 0 (-1) 0) t β n with
    | none => rw [e] at h; cases h
    | some q' =>
      rw [e] at h
      dsimp only at h
      have ih := jdg_path hI ht hz n q' e
      split at h
      next hh =>
        have h := Option.some.inj h
        rw [← h]
        show lT ρ 0 (-1) 0 t (aTo ρ (β n - 97)) = none
        cases e2 : lT ρ 0 (-1) 0 t (aTo ρ (β n - 97)) with
        | none => rfl
        | some y =>
          obtain ⟨z, hz1, -⟩ := (dC_sol (tw_GN (m := 0) (aw := -1) (fz := 0) hI ht)).1.2.1 (β n - 97) hh.2.1 (1 * feI ρ (pVa ρ t) (β n - 97) + 0 * tlI ρ (β n - 97) + 0) y (by
            unfold wcd
            rw [if_pos hh.2.2.1]) e2
          rw [hh.2.2.2] at hz1
          have : lT ρ 0 (-1) 0 t q'.1 = some z := hz1
          rw [ih] at this
          cases this
      next => cases h
noncomputable def judI (ρ : Nat → Nat) (t : Nat) (β : Nat → Nat) (n : Nat) : Int := if jdgI ρ (uT ρ 0 (-1) 0) t β n = -1 then -4 else jdgI ρ (uT ρ 0 (-1) 0) t β n - lI ρ 0 (-1) 0 t (pFr ρ t)
theorem c_judged (h : RcP w x σ F s q ν η) (ht : t < σ.1 2) : fX1_judged x (nTr ν t) w = some (zJ (if jdgI σ.1 (uT σ.1 0 (-1) 0) t (sgB σ) (sgL σ) = -1 then -4 else jdgI σ.1 (uT σ.1 0 (-1) 0) t (sgB σ) (sgL σ)), w) := by
  have M := h.mr
  have hI := h.1.2.2.2.1
  have c := hI.ht ht
  have h1 := hI.h1
  obtain ⟨f, b1, b2, b3⟩ := h.2.2.2.2.2.2.2.1
  have gl : gI w x 17 5 = some (zN (sgL σ)) := c_I h.2.2.1 5
  have gt : gR w x 17 4 = some (some (hTx η)) := c_R h.2.2.1 4
  have gx : gR w x 17 0 = some (some s) := M.g0
  generalize sgL σ = n at b2 b3 gl
  generalize sgB σ = β at b3
  have H : ∃ r, fX1_judged_l11 x (nTr ν t) 0 (zN (pFr σ.1 t)) 0 w = some r ∧ r = (zJ (if jdgI σ.1 (uT σ.1 0 (-1) 0) t β n = -1 then -4 else jdgI σ.1 (uT σ.1 0 (-1) 0) t β n), w) := by
    refine wh_up (P := fun i y => i ≤ n ∧ ∃ q, jdg σ.1 (uT σ.1 0 (-1) 0) t β i = some q ∧ y = (zJ q.2, zN q.1, zN i, w)) n ?_ ?_ n 0 _ (by omega) ⟨by omega, (pFr σ.1 t, 0), rfl, rfl⟩
    · rintro i y hi ⟨-, q', hq, rfl⟩
      have n1 : ¬ (n ≤ i) := by omega
      obtain ⟨b4, b5⟩ := b3 i hi
      have l1 : ldI w (hTx η) 2 (zN i) = some (zI (sb (β i))) := by rw [c_ldI b1 (by omega) (by omega), b5]
      have e1 : zI (sb (β i)) - zN 97 = zI (sb (β i) - 97) := zI_sub _ _
      have bsb : -128 ≤ sb (β i) ∧ sb (β i) < 128 := by unfold sb; split <;> omega
      have e2 := c_isA M (v := sb (β i) - 97) ⟨by omega, by omega⟩
      have hr := jdg_rng hI ht i q' hq
      have bad : ¬ (97 ≤ β i ∧ β i - 97 < σ.1 1 ∧ uT σ.1 0 (-1) 0 (β i - 97) ∧ aFr σ.1 (β i - 97) = q'.1) → jdgI σ.1 (uT σ.1 0 (-1) 0) t β n = -1 := by
        intro hn
        unfold jdgI
        rw [jdg_none (show i + 1 ≤ n by omega) (by rw [jdg, hq]; dsimp only; rw [if_neg hn])]
      have z4 : (-4 : Int64) = zJ (-4) := rfl
      by_cases h2 : 97 ≤ β i ∧ β i - 97 < σ.1 1
      · have es : sb (β i) = (β i : Int) := by unfold sb; rw [if_pos (by omega)]
        rw [if_pos (by rw [es]; omega)] at e2
        have e3 : zI (sb (β i) - 97) = zN (β i - 97) := by
          show _ = zI _
          congr 1
          rw [es]
          omega
        rw [e3] at e1 e2
        have ga := c_geta M.1.2.2.1 hI h2.2
        have aa := c_aI M.1.2.2.1 h2.2
        have fr := c_from M.1.2.2.1 h2.2
        have op := c_open M.1.2.1 M.1.2.2.1 hI h2.2
        have h5 := hI.ha h2.2
        by_cases h4 : aFr σ.1 (β i - 97) = q'.1
        · by_cases h3 : aCl σ.1 (β i - 97) = 0
          · left
            have hu : uT σ.1 0 (-1) 0 (β i - 97) := uT_c.mpr ⟨h2.2, h3⟩
            rw [if_pos h3] at op
            have fe := c_felt M.1.2.1 M.1.2.2.1 hI h2.2 ht
            refine ⟨(zJ ((q'.2 + feN σ.1 (pVa σ.1 t) (β i - 97) : Nat) : Int), zN (aTo σ.1 (β i - 97)), zN (i + 1), w), ?_, by omega, (aTo σ.1 (β i - 97), q'.2 + feN σ.1 (pVa σ.1 t) (β i - 97)), ?_, rfl⟩
            · rw [Int.natCast_add]
              have to := c_to M.1.2.2.1 h2.2
              have ef : feI σ.1 (pVa σ.1 t) (β i - 97) = (feN σ.1 (pVa σ.1 t) (β i - 97) : Int) := rfl
              rw [ef] at fe
              simp (disch := omega) only [b2_some, bd_some, nm_eq, Option.map_some, zN_lit, zN_add, zN_mul, zN_neg1, if_true, if_false, reduceIte, eq_self, Nat.reduceEqDiff, Nat.reduceAdd, Nat.reduceMul, Nat.reduceSub, Nat.reduceLeDiff, Nat.one_ne_zero, not_false_eq_true, Bool.false_eq_true, zN_eq, zN_lt, zN_le,  fX1_judged_b11, gl, n1, gt, l1, e1, M.g0, M.g1, M.xI, M.1.FI, c_snet M.1.2.1, c_sI M.1.2.1, c_nal M.1.2.2.1, c_ntl M.1.2.2.1, c_nn M.1.2.2.1, c_alI M.1.2.2.1, c_tlI M.1.2.2.1, c_size M.1.2.2.1, c_size2 M.1.2.2.1, e2, ga, aa, fX1_judged_b67, fr, h4, op, fe, zJ_add, to]
            · rw [jdg, hq]
              dsimp only
              rw [if_pos ⟨h2.1, h2.2, hu, h4⟩]
          · right
            rw [if_neg h3] at op
            refine ⟨_, ?_, rfl⟩
            rw [bad (fun h => h3 (uT_c.mp h.2.2.1).2), if_pos rfl]
            simp (disch := omega) only [b2_some, bd_some, nm_eq, Option.map_some, zN_lit, zN_add, zN_mul, zN_neg1, if_true, if_false, reduceIte, eq_self, Nat.reduceEqDiff, Nat.reduceAdd, Nat.reduceMul, Nat.reduceSub, Nat.reduceLeDiff, Nat.one_ne_zero, not_false_eq_true, Bool.false_eq_true, zN_eq, zN_lt, zN_le,  fX1_judged_b11, gl, n1, gt, l1, e1, M.g0, M.g1, M.xI, M.1.FI, c_snet M.1.2.1, c_sI M.1.2.1, c_nal M.1.2.2.1, c_ntl M.1.2.2.1, c_nn M.1.2.2.1, c_alI M.1.2.2.1, c_tlI M.1.2.2.1, c_size M.1.2.2.1, c_size2 M.1.2.2.1, e2, ga, aa, fX1_judged_b67, fr, h4, op, fX1_judged_b89, z4]
        · right
          refine ⟨_, ?_, rfl⟩
          rw [bad (fun h => h4 h.2.2.2), if_pos rfl]
          simp (disch := omega) only [b2_some, bd_some, nm_eq, Option.map_some, zN_lit, zN_add, zN_mul, zN_neg1, if_true, if_false, reduceIte, eq_self, Nat.reduceEqDiff, Nat.reduceAdd, Nat.reduceMul, Nat.reduceSub, Nat.reduceLeDiff, Nat.one_ne_zero, not_false_eq_true, Bool.false_eq_true, zN_eq, zN_lt, zN_le,  fX1_judged_b11, gl, n1, gt, l1, e1, M.g0, M.g1, M.xI, M.1.FI, c_snet M.1.2.1, c_sI M.1.2.1, c_nal M.1.2.2.1, c_ntl M.1.2.2.1, c_nn M.1.2.2.1, c_alI M.1.2.2.1, c_tlI M.1.2.2.1, c_size M.1.2.2.1, c_size2 M.1.2.2.1, e2, ga, aa, fX1_judged_b67, fr, h4, fX1_judged_b89, z4]
      · have hno : ¬ (0 ≤ sb (β i) - 97 ∧ sb (β i) - 97 < (σ.1 1 : Int)) := by
          unfold sb
          split <;> omega
        rw [if_neg hno] at e2
        right
        refine ⟨_, ?_, rfl⟩
        rw [bad (fun h => h2 ⟨h.1, h.2.1⟩), if_pos rfl]
        simp (disch := omega) only [b2_some, bd_some, nm_eq, Option.map_some, zN_lit, zN_add, zN_mul, zN_neg1, if_true, if_false, reduceIte, eq_self, Nat.reduceEqDiff, Nat.reduceAdd, Nat.reduceMul, Nat.reduceSub, Nat.reduceLeDiff, Nat.one_ne_zero, not_false_eq_true, Bool.false_eq_true, zN_eq, zN_lt, zN_le,  fX1_judged_b11, gl, n1, gt, l1, e1, M.g0, M.g1, M.xI, M.1.FI, c_snet M.1.2.1, c_sI M.1.2.1, c_nal M.1.2.2.1, c_ntl M.1.2.2.1, c_nn M.1.2.2.1, c_alI M.1.2.2.1, c_tlI M.1.2.2.1, c_size M.1.2.2.1, c_size2 M.1.2.2.1, e2, fX1_judged_b41, z4]
    · rintro y ⟨-, q', hq, rfl⟩
      have hr := jdg_rng hI ht n q' hq
      have tI := c_tI M.1.2.2.1 ht
      have tt := c_tto M.1.2.2.1 ht
      have z4 : (-4 : Int64) = zJ (-4) := rfl
      refine ⟨_, ?_, rfl⟩
      have hj : jdgI σ.1 (uT σ.1 0 (-1) 0) t β n = if q'.1 = pTo σ.1 t then (q'.2 : Int) else -1 := by
        unfold jdgI
        rw [hq]
      by_cases hn : n = 0
      · subst hn
        have hq0 := Option.some.inj hq
        rw [← hq0] at hj ⊢
        rw [if_neg (show ¬ pFr σ.1 t = pTo σ.1 t by omega)] at hj
        rw [hj, if_pos rfl]
        simp (disch := omega) only [b2_some, bd_some, nm_eq, Option.map_some, zN_lit, zN_add, zN_mul, zN_neg1, if_true, if_false, reduceIte, eq_self, Nat.reduceEqDiff, Nat.reduceAdd, Nat.reduceMul, Nat.reduceSub, Nat.reduceLeDiff, Nat.one_ne_zero, not_false_eq_true, Bool.false_eq_true, zN_eq, zN_lt, zN_le,  fX1_judged_b11, gl, Nat.le_refl, fX1_judged_b119, fX1_judged_b139, z4]
      · have n1 : ¬ (n ≤ 0) := by omega
        by_cases h : q'.1 = pTo σ.1 t
        · rw [if_pos h] at hj
          rw [hj, if_neg (by omega)]
          simp (disch := omega) only [b2_some, bd_some, nm_eq, Option.map_some, zN_lit, zN_add, zN_mul, zN_neg1, if_true, if_false, reduceIte, eq_self, Nat.reduceEqDiff, Nat.reduceAdd, Nat.reduceMul, Nat.reduceSub, Nat.reduceLeDiff, Nat.one_ne_zero, not_false_eq_true, Bool.false_eq_true, zN_eq, zN_lt, zN_le,  fX1_judged_b11, gl, Nat.le_refl, fX1_judged_b119, n1, tI, tt, h]
        · rw [if_neg h] at hj
          rw [hj, if_pos rfl]
          simp (disch := omega) only [b2_some, bd_some, nm_eq, Option.map_some, zN_lit, zN_add, zN_mul, zN_neg1, if_true, if_false, reduceIte, eq_self, Nat.reduceEqDiff, Nat.reduceAdd, Nat.reduceMul, Nat.reduceSub, Nat.reduceLeDiff, Nat.one_ne_zero, not_false_eq_true, Bool.false_eq_true, zN_eq, zN_lt, zN_le,  fX1_judged_b11, gl, Nat.le_refl, fX1_judged_b119, n1, tI, tt, h, fX1_judged_b139, z4]
  obtain ⟨r, e, rfl⟩ := H
  have z0 : (0 : Int64) = zJ 0 := rfl
  simp (disch := omega) only [b2_some, bd_some, nm_eq, Option.map_some, zN_lit, zN_add, zN_mul, zN_neg1, if_true, if_false, reduceIte, eq_self, Nat.reduceEqDiff, Nat.reduceAdd, Nat.reduceMul, Nat.reduceSub, Nat.reduceLeDiff, Nat.one_ne_zero, not_false_eq_true, Bool.false_eq_true, zN_eq, zN_lt, zN_le,  fX1_judged, c_tI M.1.2.2.1 ht, c_tfrom M.1.2.2.1 ht]
  exact e
end
