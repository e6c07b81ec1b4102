/-! Plain law: the component's operations with any arguments (printed by gen/ops.py) -/
section
variable {w : WH} {x s q F n t a : Nat} {ν : NH} {σ : SG} {η : RH}
theorem f_hasPath (h : RcP w x σ F s q ν η) {z : Int} (hz : bI z) (hC : 1 ≤ wC w) (hS : 6 ≤ wS w) : F1 zI km0 (fX1_hasPath x (zI z) w) w x (hL η) (spP σ z fun t => if (PT σ.1 0 (-1) 0 t).isSome then 1 else 0) 1 6 := by
  unfold spP
  by_cases c : 0 ≤ z ∧ z < σ.1 2
  · rw [if_pos c]
    have ht : z.toNat < σ.1 2 := by omega
    rw [zI_nn c.1]
    obtain ⟨w', e, k⟩ := q_hasPath h.mr ht
    exact F1.ok ((h.kfd k).mono (by omega) (by omega)) e
  · rw [if_neg c]
    have e := c_tripAt0 h.mr hz c (by omega) (by omega)
    refine (F1.thr (km := km0) h (j := 0) (by omega) (by decide) ?_).mono (by omega) (by omega)
    simp (disch := omega) only [b2_some, bd_some, nm_eq, Option.map_some, zN_lit, zN_add, zN_mul, zN_neg1, if_true, if_false, reduceIte, eq_self, Nat.reduceEqDiff, Nat.reduceAdd, Nat.reduceMul, Nat.reduceSub, Nat.reduceLeDiff, Nat.one_ne_zero, not_false_eq_true, Bool.false_eq_true, zN_eq, zN_lt, zN_le,  fX1_hasPath, h.mr.g0, h.mr.g1, h.mr.xI, h.mr.1.FI, c_snet h.mr.1.2.1, c_sI h.mr.1.2.1, c_nal h.mr.1.2.2.1, c_ntl h.mr.1.2.2.1, c_nn h.mr.1.2.2.1, c_alI h.mr.1.2.2.1, c_tlI h.mr.1.2.2.1, c_size h.mr.1.2.2.1, c_size2 h.mr.1.2.2.1, e, ex_]
theorem f_pathCost (h : RcP w x σ F s q ν η) {z : Int} (hz : bI z) (hC : 1 ≤ wC w) (hS : 6 ≤ wS w) : F1 zI km0 (fX1_pathCost x (zI z) w) w x (hL η) (spP σ z fun t => pcI σ.1 t) 1 6 := by
  unfold spP
  by_cases c : 0 ≤ z ∧ z < σ.1 2
  · rw [if_pos c]
    have ht : z.toNat < σ.1 2 := by omega
    rw [zI_nn c.1]
    obtain ⟨w', e, k⟩ := q_pathCost h.mr ht
    exact F1.ok ((h.kfd k).mono (by omega) (by omega)) e
  · rw [if_neg c]
    have e := c_tripAt0 h.mr hz c (by omega) (by omega)
    refine (F1.thr (km := km0) h (j := 0) (by omega) (by decide) ?_).mono (by omega) (by omega)
    simp (disch := omega) only [b2_some, bd_some, nm_eq, Option.map_some, zN_lit, zN_add, zN_mul, zN_neg1, if_true, if_false, reduceIte, eq_self, Nat.reduceEqDiff, Nat.reduceAdd, Nat.reduceMul, Nat.reduceSub, Nat.reduceLeDiff, Nat.one_ne_zero, not_false_eq_true, Bool.false_eq_true, zN_eq, zN_lt, zN_le,  fX1_pathCost, h.mr.g0, h.mr.g1, h.mr.xI, h.mr.1.FI, c_snet h.mr.1.2.1, c_sI h.mr.1.2.1, c_nal h.mr.1.2.2.1, c_ntl h.mr.1.2.2.1, c_nn h.mr.1.2.2.1, c_alI h.mr.1.2.2.1, c_tlI h.mr.1.2.2.1, c_size h.mr.1.2.2.1, c_size2 h.mr.1.2.2.1, e, ex_]
theorem f_pathToll (h : RcP w x σ F s q ν η) {z : Int} (hz : bI z) (hC : 1 ≤ wC w) (hS : 6 ≤ wS w) : F1 zI km0 (fX1_pathToll x (zI z) w) w x (hL η) (spP σ z fun t => ptI σ.1 t) 1 6 := by
  unfold spP
  by_cases c : 0 ≤ z ∧ z < σ.1 2
  · rw [if_pos c]
    have ht : z.toNat < σ.1 2 := by omega
    rw [zI_nn c.1]
    obtain ⟨w', e, k⟩ := q_pathToll h.mr ht
    exact F1.ok ((h.kfd k).mono (by omega) (by omega)) e
  · rw [if_neg c]
    have e := c_tripAt0 h.mr hz c (by omega) (by omega)
    refine (F1.thr (km := km0) h (j := 0) (by omega) (by decide) ?_).mono (by omega) (by omega)
    simp (disch := omega) only [b2_some, bd_some, nm_eq, Option.map_some, zN_lit, zN_add, zN_mul, zN_neg1, if_true, if_false, reduceIte, eq_self, Nat.reduceEqDiff, Nat.reduceAdd, Nat.reduceMul, Nat.reduceSub, Nat.reduceLeDiff, Nat.one_ne_zero, not_false_eq_true, Bool.false_eq_true, zN_eq, zN_lt, zN_le,  fX1_pathToll, h.mr.g0, h.mr.g1, h.mr.xI, h.mr.1.FI, c_snet h.mr.1.2.1, c_sI h.mr.1.2.1, c_nal h.mr.1.2.2.1, c_ntl h.mr.1.2.2.1, c_nn h.mr.1.2.2.1, c_alI h.mr.1.2.2.1, c_tlI h.mr.1.2.2.1, c_size h.mr.1.2.2.1, c_size2 h.mr.1.2.2.1, e, ex_]
theorem f_felt (h : RcP w x σ F s q ν η) {z : Int} (hz : bI z) (hC : 1 ≤ wC w) (hS : 6 ≤ wS w) : F1 zI km0 (fX1_felt x (zI z) w) w x (hL η) (spP σ z fun t => lI σ.1 0 (-1) 0 t (pFr σ.1 t)) 1 6 := by
  unfold spP
  by_cases c : 0 ≤ z ∧ z < σ.1 2
  · rw [if_pos c]
    have ht : z.toNat < σ.1 2 := by omega
    rw [zI_nn c.1]
    obtain ⟨w', e, k⟩ := q_felt h.mr ht
    exact F1.ok ((h.kfd k).mono (by omega) (by omega)) e
  · rw [if_neg c]
    have e := c_tripAt0 h.mr hz c (by omega) (by omega)
    refine (F1.thr (km := km0) h (j := 0) (by omega) (by decide) ?_).mono (by omega) (by omega)
    simp (disch := omega) only [b2_some, bd_some, nm_eq, Option.map_some, zN_lit, zN_add, zN_mul, zN_neg1, if_true, if_false, reduceIte, eq_self, Nat.reduceEqDiff, Nat.reduceAdd, Nat.reduceMul, Nat.reduceSub, Nat.reduceLeDiff, Nat.one_ne_zero, not_false_eq_true, Bool.false_eq_true, zN_eq, zN_lt, zN_le,  fX1_felt, h.mr.g0, h.mr.g1, h.mr.xI, h.mr.1.FI, c_snet h.mr.1.2.1, c_sI h.mr.1.2.1, c_nal h.mr.1.2.2.1, c_ntl h.mr.1.2.2.1, c_nn h.mr.1.2.2.1, c_alI h.mr.1.2.2.1, c_tlI h.mr.1.2.2.1, c_size h.mr.1.2.2.1, c_size2 h.mr.1.2.2.1, e, ex_]
theorem f_ties (h : RcP w x σ F s q ν η) {z : Int} (hz : bI z) (hC : 1 ≤ wC w) (hS : 6 ≤ wS w) : F1 zJ km0 (fX1_ties x (zI z) w) w x (hL η) (spP σ z fun t => tiI σ.1 t) 1 6 := by
  unfold spP
  by_cases c : 0 ≤ z ∧ z < σ.1 2
  · rw [if_pos c]
    have ht : z.toNat < σ.1 2 := by omega
    rw [zI_nn c.1]
    obtain ⟨w', e, k⟩ := c_ties h.mr ht
    exact F1.ok ((h.kfd k).mono (by omega) (by omega)) e
  · rw [if_neg c]
    have e := c_tripAt0 h.mr hz c (by omega) (by omega)
    refine (F1.thr (km := km0) h (j := 0) (by omega) (by decide) ?_).mono (by omega) (by omega)
    simp (disch := omega) only [b2_some, bd_some, nm_eq, Option.map_some, zN_lit, zN_add, zN_mul, zN_neg1, if_true, if_false, reduceIte, eq_self, Nat.reduceEqDiff, Nat.reduceAdd, Nat.reduceMul, Nat.reduceSub, Nat.reduceLeDiff, Nat.one_ne_zero, not_false_eq_true, Bool.false_eq_true, zN_eq, zN_lt, zN_le,  fX1_ties, h.mr.g0, h.mr.g1, h.mr.xI, h.mr.1.FI, c_snet h.mr.1.2.1, c_sI h.mr.1.2.1, c_nal h.mr.1.2.2.1, c_ntl h.mr.1.2.2.1, c_nn h.mr.1.2.2.1, c_alI h.mr.1.2.2.1, c_tlI h.mr.1.2.2.1, c_size h.mr.1.2.2.1, c_size2 h.mr.1.2.2.1, e, ex_]
theorem f_tieSpan (h : RcP w x σ F s q ν η) {z : Int} (hz : bI z) (hC : 1 ≤ wC w) (hS : 6 ≤ wS w) : F1 zI km0 (fX1_tieSpan x (zI z) w) w x (hL η) (spP σ z fun t => tspI σ.1 t) 1 6 := by
  unfold spP
  by_cases c : 0 ≤ z ∧ z < σ.1 2
  · rw [if_pos c]
    have ht : z.toNat < σ.1 2 := by omega
    rw [zI_nn c.1]
    obtain ⟨w', e, k⟩ := c_tieSpan h.mr ht
    exact F1.ok ((h.kfd k).mono (by omega) (by omega)) e
  · rw [if_neg c]
    have e := c_tripAt0 h.mr hz c (by omega) (by omega)
    refine (F1.thr (km := km0) h (j := 0) (by omega) (by decide) ?_).mono (by omega) (by omega)
    simp (disch := omega) only [b2_some, bd_some, nm_eq, Option.map_some, zN_lit, zN_add, zN_mul, zN_neg1, if_true, if_false, reduceIte, eq_self, Nat.reduceEqDiff, Nat.reduceAdd, Nat.reduceMul, Nat.reduceSub, Nat.reduceLeDiff, Nat.one_ne_zero, not_false_eq_true, Bool.false_eq_true, zN_eq, zN_lt, zN_le,  fX1_tieSpan, h.mr.g0, h.mr.g1, h.mr.xI, h.mr.1.FI, c_snet h.mr.1.2.1, c_sI h.mr.1.2.1, c_nal h.mr.1.2.2.1, c_ntl h.mr.1.2.2.1, c_nn h.mr.1.2.2.1, c_alI h.mr.1.2.2.1, c_tlI h.mr.1.2.2.1, c_size h.mr.1.2.2.1, c_size2 h.mr.1.2.2.1, e, ex_]
theorem c_mrg2 {ρ : Nat → Nat} (h : MR w x F s q ν ρ) (hW : WF w) (ht : t < ρ 2) (hC : 2 ≤ wC w) (hS : 6 ≤ wS w) : ∃ w', fX1_margin x (zN t) w = some (.inl (zI (mrgI ρ 0 t)), w') ∧ Kg F nQ w w' 2 4 := c_mrg h hW ht hC (by omega)
theorem f_margin (h : RcP w x σ F s q ν η) {z : Int} (hz : bI z) (hC : 2 ≤ wC w) (hS : 6 ≤ wS w) : F1 zI km0 (fX1_margin x (zI z) w) w x (hL η) (spP σ z fun t => mrgI σ.1 0 t) 2 6 := by
  unfold spP
  by_cases c : 0 ≤ z ∧ z < σ.1 2
  · rw [if_pos c]
    have ht : z.toNat < σ.1 2 := by omega
    rw [zI_nn c.1]
    obtain ⟨w', e, k⟩ := c_mrg2 h.mr h.2.1 ht (by omega) (by omega)
    exact F1.ok ((h.kgd k).mono (by omega) (by omega)) e
  · rw [if_neg c]
    have e := c_tripAt0 h.mr hz c (by omega) (by omega)
    refine (F1.thr (km := km0) h (j := 0) (by omega) (by decide) ?_).mono (by omega) (by omega)
    simp (disch := omega) only [b2_some, bd_some, nm_eq, Option.map_some, zN_lit, zN_add, zN_mul, zN_neg1, if_true, if_false, reduceIte, eq_self, Nat.reduceEqDiff, Nat.reduceAdd, Nat.reduceMul, Nat.reduceSub, Nat.reduceLeDiff, Nat.one_ne_zero, not_false_eq_true, Bool.false_eq_true, zN_eq, zN_lt, zN_le,  fX1_margin, h.mr.g0, h.mr.g1, h.mr.xI, h.mr.1.FI, c_snet h.mr.1.2.1, c_sI h.mr.1.2.1, c_nal h.mr.1.2.2.1, c_ntl h.mr.1.2.2.1, c_nn h.mr.1.2.2.1, c_alI h.mr.1.2.2.1, c_tlI h.mr.1.2.2.1, c_size h.mr.1.2.2.1, c_size2 h.mr.1.2.2.1, e, ex_]
theorem f_revenueOf (h : RcP w x σ F s q ν η) {z : Int} (hz : bI z) (hC : 1 ≤ wC w) (hS : 6 ≤ wS w) : F1 zJ km0 (fX1_revenueOf x (zI z) w) w x (hL η) (spP σ z fun t => brI σ.1 0 (-1) 0 t) 1 6 := by
  unfold spP
  by_cases c : 0 ≤ z ∧ z < σ.1 2
  · rw [if_pos c]
    have ht : z.toNat < σ.1 2 := by omega
    rw [zI_nn c.1]
    obtain ⟨w', e, k⟩ := q_revenueOf h.mr ht
    exact F1.ok ((h.kfd k).mono (by omega) (by omega)) e
  · rw [if_neg c]
    have e := c_isP0 h.mr hz c
    refine (F1.thr (km := km0) h (j := 0) (by omega) (by decide) ?_).mono (by omega) (by omega)
    simp (disch := omega) only [b2_some, bd_some, nm_eq, Option.map_some, zN_lit, zN_add, zN_mul, zN_neg1, if_true, if_false, reduceIte, eq_self, Nat.reduceEqDiff, Nat.reduceAdd, Nat.reduceMul, Nat.reduceSub, Nat.reduceLeDiff, Nat.one_ne_zero, not_false_eq_true, Bool.false_eq_true, zN_eq, zN_lt, zN_le,  fX1_revenueOf, h.mr.g0, h.mr.g1, h.mr.xI, h.mr.1.FI, c_snet h.mr.1.2.1, c_sI h.mr.1.2.1, c_nal h.mr.1.2.2.1, c_ntl h.mr.1.2.2.1, c_nn h.mr.1.2.2.1, c_alI h.mr.1.2.2.1, c_tlI h.mr.1.2.2.1, c_size h.mr.1.2.2.1, c_size2 h.mr.1.2.2.1, e, c_rq0 (show 1 ≤ wC w by omega) (show 6 ≤ wS w by omega), ex_]
theorem f_pledge (h : RcP w x σ F s q ν η) {z : Int} (hz : bI z) (hC : 1 ≤ wC w) (hS : 6 ≤ wS w) : F1 zJ km0 (fX1_pledge x (zI z) w) w x (hL η) (spP σ z fun t => plgI σ.1 0 (-1) t) 1 6 := by
  unfold spP
  by_cases c : 0 ≤ z ∧ z < σ.1 2
  · rw [if_pos c]
    have ht : z.toNat < σ.1 2 := by omega
    rw [zI_nn c.1]
    obtain ⟨w', e, k⟩ := q_pledge h.mr ht
    exact F1.ok ((h.kfd k).mono (by omega) (by omega)) e
  · rw [if_neg c]
    have e := c_isP0 h.mr hz c
    refine (F1.thr (km := km0) h (j := 0) (by omega) (by decide) ?_).mono (by omega) (by omega)
    simp (disch := omega) only [b2_some, bd_some, nm_eq, Option.map_some, zN_lit, zN_add, zN_mul, zN_neg1, if_true, if_false, reduceIte, eq_self, Nat.reduceEqDiff, Nat.reduceAdd, Nat.reduceMul, Nat.reduceSub, Nat.reduceLeDiff, Nat.one_ne_zero, not_false_eq_true, Bool.false_eq_true, zN_eq, zN_lt, zN_le,  fX1_pledge, h.mr.g0, h.mr.g1, h.mr.xI, h.mr.1.FI, c_snet h.mr.1.2.1, c_sI h.mr.1.2.1, c_nal h.mr.1.2.2.1, c_ntl h.mr.1.2.2.1, c_nn h.mr.1.2.2.1, c_alI h.mr.1.2.2.1, c_tlI h.mr.1.2.2.1, c_size h.mr.1.2.2.1, c_size2 h.mr.1.2.2.1, e, c_rq0 (show 1 ≤ wC w by omega) (show 6 ≤ wS w by omega), ex_]
theorem f_users (h : RcP w x σ F s q ν η) {z : Int} (hz : bI z) (hC : 1 ≤ wC w) (hS : 6 ≤ wS w) : F1 zI km0 (fX1_users x (zI z) w) w x (hL η) (spA σ z fun a => (usrN σ.1 0 (-1) 0 a : Int)) 1 6 := by
  unfold spA
  by_cases c : 0 ≤ z ∧ z < σ.1 1
  · rw [if_pos c]
    have ha : z.toNat < σ.1 1 := by omega
    rw [zI_nn c.1]
    obtain ⟨w', e, k⟩ := q_users h.mr ha
    exact F1.ok ((h.kfd k).mono (by omega) (by omega)) e
  · rw [if_neg c]
    have e := c_isA0 h.mr hz c
    refine (F1.thr (km := km0) h (j := 0) (by omega) (by decide) ?_).mono (by omega) (by omega)
    simp (disch := omega) only [b2_some, bd_some, nm_eq, Option.map_some, zN_lit, zN_add, zN_mul, zN_neg1, if_true, if_false, reduceIte, eq_self, Nat.reduceEqDiff, Nat.reduceAdd, Nat.reduceMul, Nat.reduceSub, Nat.reduceLeDiff, Nat.one_ne_zero, not_false_eq_true, Bool.false_eq_true, zN_eq, zN_lt, zN_le,  fX1_users, h.mr.g0, h.mr.g1, h.mr.xI, h.mr.1.FI, c_snet h.mr.1.2.1, c_sI h.mr.1.2.1, c_nal h.mr.1.2.2.1, c_ntl h.mr.1.2.2.1, c_nn h.mr.1.2.2.1, c_alI h.mr.1.2.2.1, c_tlI h.mr.1.2.2.1, c_size h.mr.1.2.2.1, c_size2 h.mr.1.2.2.1, e, c_rq0 (show 1 ≤ wC w by omega) (show 6 ≤ wS w by omega), ex_]
theorem f_flow (h : RcP w x σ F s q ν η) {z : Int} (hz : bI z) (hC : 1 ≤ wC w) (hS : 6 ≤ wS w) : F1 zI km0 (fX1_flow x (zI z) w) w x (hL η) (spA σ z fun a => (flwN σ.1 0 (-1) 0 a : Int)) 1 6 := by
  unfold spA
  by_cases c : 0 ≤ z ∧ z < σ.1 1
  · rw [if_pos c]
    have ha : z.toNat < σ.1 1 := by omega
    rw [zI_nn c.1]
    obtain ⟨w', e, k⟩ := q_flow h.mr ha
    exact F1.ok ((h.kfd k).mono (by omega) (by omega)) e
  · rw [if_neg c]
    have e := c_isA0 h.mr hz c
    refine (F1.thr (km := km0) h (j := 0) (by omega) (by decide) ?_).mono (by omega) (by omega)
    simp (disch := omega) only [b2_some, bd_some, nm_eq, Option.map_some, zN_lit, zN_add, zN_mul, zN_neg1, if_true, if_false, reduceIte, eq_self, Nat.reduceEqDiff, Nat.reduceAdd, Nat.reduceMul, Nat.reduceSub, Nat.reduceLeDiff, Nat.one_ne_zero, not_false_eq_true, Bool.false_eq_true, zN_eq, zN_lt, zN_le,  fX1_flow, h.mr.g0, h.mr.g1, h.mr.xI, h.mr.1.FI, c_snet h.mr.1.2.1, c_sI h.mr.1.2.1, c_nal h.mr.1.2.2.1, c_ntl h.mr.1.2.2.1, c_nn h.mr.1.2.2.1, c_alI h.mr.1.2.2.1, c_tlI h.mr.1.2.2.1, c_size h.mr.1.2.2.1, c_size2 h.mr.1.2.2.1, e, c_rq0 (show 1 ≤ wC w by omega) (show 6 ≤ wS w by omega), ex_]
theorem f_arcRevenue (h : RcP w x σ F s q ν η) {z : Int} (hz : bI z) (hC : 1 ≤ wC w) (hS : 6 ≤ wS w) : F1 zJ km0 (fX1_arcRevenue x (zI z) w) w x (hL η) (spA σ z fun a => (flwN σ.1 0 (-1) 0 a : Int) * (aTl σ.1 a : Int)) 1 6 := by
  unfold spA
  by_cases c : 0 ≤ z ∧ z < σ.1 1
  · rw [if_pos c]
    have ha : z.toNat < σ.1 1 := by omega
    rw [zI_nn c.1]
    obtain ⟨w', e, k⟩ := q_arcRev h.mr ha
    exact F1.ok ((h.kfd k).mono (by omega) (by omega)) e
  · rw [if_neg c]
    have e := c_isA0 h.mr hz c
    refine (F1.thr (km := km0) h (j := 0) (by omega) (by decide) ?_).mono (by omega) (by omega)
    simp (disch := omega) only [b2_some, bd_some, nm_eq, Option.map_some, zN_lit, zN_add, zN_mul, zN_neg1, if_true, if_false, reduceIte, eq_self, Nat.reduceEqDiff, Nat.reduceAdd, Nat.reduceMul, Nat.reduceSub, Nat.reduceLeDiff, Nat.one_ne_zero, not_false_eq_true, Bool.false_eq_true, zN_eq, zN_lt, zN_le,  fX1_arcRevenue, h.mr.g0, h.mr.g1, h.mr.xI, h.mr.1.FI, c_snet h.mr.1.2.1, c_sI h.mr.1.2.1, c_nal h.mr.1.2.2.1, c_ntl h.mr.1.2.2.1, c_nn h.mr.1.2.2.1, c_alI h.mr.1.2.2.1, c_tlI h.mr.1.2.2.1, c_size h.mr.1.2.2.1, c_size2 h.mr.1.2.2.1, e, c_rq0 (show 1 ≤ wC w by omega) (show 6 ≤ wS w by omega), ex_]
theorem f_captives (h : RcP w x σ F s q ν η) {z : Int} (hz : bI z) (hC : 1 ≤ wC w) (hS : 6 ≤ wS w) : F1 zI km0 (fX1_captives x (zI z) w) w x (hL η) (spA σ z fun a => (cptN σ.1 0 0 a : Int)) 1 6 := by
  unfold spA
  by_cases c : 0 ≤ z ∧ z < σ.1 1
  · rw [if_pos c]
    have ha : z.toNat < σ.1 1 := by omega
    rw [zI_nn c.1]
    obtain ⟨w', e, k⟩ := q_captives h.mr ha
    exact F1.ok ((h.kfd k).mono (by omega) (by omega)) e
  · rw [if_neg c]
    have e := c_isA0 h.mr hz c
    refine (F1.thr (km := km0) h (j := 0) (by omega) (by decide) ?_).mono (by omega) (by omega)
    simp (disch := omega) only [b2_some, bd_some, nm_eq, Option.map_some, zN_lit, zN_add, zN_mul, zN_neg1, if_true, if_false, reduceIte, eq_self, Nat.reduceEqDiff, Nat.reduceAdd, Nat.reduceMul, Nat.reduceSub, Nat.reduceLeDiff, Nat.one_ne_zero, not_false_eq_true, Bool.false_eq_true, zN_eq, zN_lt, zN_le,  fX1_captives, h.mr.g0, h.mr.g1, h.mr.xI, h.mr.1.FI, c_snet h.mr.1.2.1, c_sI h.mr.1.2.1, c_nal h.mr.1.2.2.1, c_ntl h.mr.1.2.2.1, c_nn h.mr.1.2.2.1, c_alI h.mr.1.2.2.1, c_tlI h.mr.1.2.2.1, c_size h.mr.1.2.2.1, c_size2 h.mr.1.2.2.1, e, c_rq0 (show 1 ≤ wC w by omega) (show 6 ≤ wS w by omega), ex_]
theorem f_worth (h : RcP w x σ F s q ν η) {z : Int} (hz : bI z) (hC : 1 ≤ wC w) (hS : 6 ≤ wS w) : F1 zJ km0 (fX1_worth x (zI z) w) w x (hL η) (spA σ z fun a => allI σ.1 0 (-1) 0 - allI σ.1 0 a 0) 1 6 := by
  unfold spA
  by_cases c : 0 ≤ z ∧ z < σ.1 1
  · rw [if_pos c]
    have ha : z.toNat < σ.1 1 := by omega
    rw [zI_nn c.1]
    obtain ⟨w', e, k⟩ := c_worth h.mr ha
    exact F1.ok ((h.kfd k).mono (by omega) (by omega)) e
  · rw [if_neg c]
    have e := c_isA0 h.mr hz c
    refine (F1.thr (km := km0) h (j := 0) (by omega) (by decide) ?_).mono (by omega) (by omega)
    simp (disch := omega) only [b2_some, bd_some, nm_eq, Option.map_some, zN_lit, zN_add, zN_mul, zN_neg1, if_true, if_false, reduceIte, eq_self, Nat.reduceEqDiff, Nat.reduceAdd, Nat.reduceMul, Nat.reduceSub, Nat.reduceLeDiff, Nat.one_ne_zero, not_false_eq_true, Bool.false_eq_true, zN_eq, zN_lt, zN_le,  fX1_worth, h.mr.g0, h.mr.g1, h.mr.xI, h.mr.1.FI, c_snet h.mr.1.2.1, c_sI h.mr.1.2.1, c_nal h.mr.1.2.2.1, c_ntl h.mr.1.2.2.1, c_nn h.mr.1.2.2.1, c_alI h.mr.1.2.2.1, c_tlI h.mr.1.2.2.1, c_size h.mr.1.2.2.1, c_size2 h.mr.1.2.2.1, e, c_rq0 (show 1 ≤ wC w by omega) (show 6 ≤ wS w by omega), ex_]
theorem f_stepCount (h : RcP w x σ F s q ν η) {z : Int} (hz : bI z) (hC : 8 ≤ wC w) (hS : 2000 ≤ wS w) : F1 zI km0 (fX1_stepCount x (zI z) w) w x (hL η) (spA σ z fun a => (scN σ.1 a : Int)) 8 2000 := by
  unfold spA
  by_cases c : 0 ≤ z ∧ z < σ.1 1
  · rw [if_pos c]
    have ha : z.toNat < σ.1 1 := by omega
    rw [zI_nn c.1]
    obtain ⟨w', e, k⟩ := q_stepCount h.mr h.2.1 ha (by omega) (by omega)
    exact F1.ok ((h.kgd k).mono (by omega) (by omega)) e
  · rw [if_neg c]
    have e := c_arcAt0 h.mr hz c (by omega) (by omega)
    refine (F1.thr (km := km0) h (j := 0) (by omega) (by decide) ?_).mono (by omega) (by omega)
    simp (disch := omega) only [b2_some, bd_some, nm_eq, Option.map_some, zN_lit, zN_add, zN_mul, zN_neg1, if_true, if_false, reduceIte, eq_self, Nat.reduceEqDiff, Nat.reduceAdd, Nat.reduceMul, Nat.reduceSub, Nat.reduceLeDiff, Nat.one_ne_zero, not_false_eq_true, Bool.false_eq_true, zN_eq, zN_lt, zN_le,  fX1_stepCount, h.mr.g0, h.mr.g1, h.mr.xI, h.mr.1.FI, c_snet h.mr.1.2.1, c_sI h.mr.1.2.1, c_nal h.mr.1.2.2.1, c_ntl h.mr.1.2.2.1, c_nn h.mr.1.2.2.1, c_alI h.mr.1.2.2.1, c_tlI h.mr.1.2.2.1, c_size h.mr.1.2.2.1, c_size2 h.mr.1.2.2.1, e, ex_]
theorem f_uses (h : RcP w x σ F s q ν η) {y z : Int} (hy : bI y) (hz : bI z) (hC : 1 ≤ wC w) (hS : 6 ≤ wS w) : F1 zI km0 (fX1_uses x (zI y) (zI z) w) w x (hL η) (spPA σ y z fun t a => if useB σ.1 0 (-1) 0 t a then 1 else 0) 1 6 := by
  unfold spPA
  by_cases c : (0 ≤ y ∧ y < σ.1 2) ∧ (0 ≤ z ∧ z < σ.1 1)
  · rw [if_pos c]
    have ht : y.toNat < σ.1 2 := by omega
    have ha : z.toNat < σ.1 1 := by omega
    rw [zI_nn c.1.1, zI_nn c.2.1]
    obtain ⟨w', e, k⟩ := q_uses h.mr ht ha
    exact F1.ok ((h.kfd k).mono (by omega) (by omega)) e
  · rw [if_neg c]
    refine (F1.thr (km := km0) h (j := 0) (by omega) (by decide) ?_).mono (by omega) (by omega)
    by_cases c1 : 0 ≤ y ∧ y < σ.1 2
    · have e1 := c_isP1 h.mr (t := y.toNat) (by omega)
      have e := c_isA0 h.mr hz (fun h => c ⟨c1, h⟩)
      rw [zI_nn c1.1]
      simp (disch := omega) only [b2_some, bd_some, nm_eq, Option.map_some, zN_lit, zN_add, zN_mul, zN_neg1, if_true, if_false, reduceIte, eq_self, Nat.reduceEqDiff, Nat.reduceAdd, Nat.reduceMul, Nat.reduceSub, Nat.reduceLeDiff, Nat.one_ne_zero, not_false_eq_true, Bool.false_eq_true, zN_eq, zN_lt, zN_le,  fX1_uses, h.mr.g0, h.mr.g1, h.mr.xI, h.mr.1.FI, c_snet h.mr.1.2.1, c_sI h.mr.1.2.1, c_nal h.mr.1.2.2.1, c_ntl h.mr.1.2.2.1, c_nn h.mr.1.2.2.1, c_alI h.mr.1.2.2.1, c_tlI h.mr.1.2.2.1, c_size h.mr.1.2.2.1, c_size2 h.mr.1.2.2.1, e1, e, fX1_uses_b20, fX1_uses_b21, c_rq0 (show 1 ≤ wC w by omega) (show 6 ≤ wS w by omega), ex_]
    · have e := c_isP0 h.mr hy c1
      simp (disch := omega) only [b2_some, bd_some, nm_eq, Option.map_some, zN_lit, zN_add, zN_mul, zN_neg1, if_true, if_false, reduceIte, eq_self, Nat.reduceEqDiff, Nat.reduceAdd, Nat.reduceMul, Nat.reduceSub, Nat.reduceLeDiff, Nat.one_ne_zero, not_false_eq_true, Bool.false_eq_true, zN_eq, zN_lt, zN_le,  fX1_uses, h.mr.g0, h.mr.g1, h.mr.xI, h.mr.1.FI, c_snet h.mr.1.2.1, c_sI h.mr.1.2.1, c_nal h.mr.1.2.2.1, c_ntl h.mr.1.2.2.1, c_nn h.mr.1.2.2.1, c_alI h.mr.1.2.2.1, c_tlI h.mr.1.2.2.1, c_size h.mr.1.2.2.1, c_size2 h.mr.1.2.2.1, e, fX1_uses_b20, fX1_uses_b21, c_rq0 (show 1 ≤ wC w by omega) (show 6 ≤ wS w by omega), ex_]
theorem f_keepToll (h : RcP w x σ F s q ν η) {y z : Int} (hy : bI y) (hz : bI z) (hC : 1 ≤ wC w) (hS : 6 ≤ wS w) : F1 zI km0 (fX1_keepToll x (zI y) (zI z) w) w x (hL η) (spPA σ y z fun t a => kpI σ.1 0 0 t a) 1 6 := by
  unfold spPA
  by_cases c : (0 ≤ y ∧ y < σ.1 2) ∧ (0 ≤ z ∧ z < σ.1 1)
  · rw [if_pos c]
    have ht : y.toNat < σ.1 2 := by omega
    have ha : z.toNat < σ.1 1 := by omega
    rw [zI_nn c.1.1, zI_nn c.2.1]
    obtain ⟨w', e, k⟩ := q_keepToll h.mr ht ha
    exact F1.ok ((h.kfd k).mono (by omega) (by omega)) e
  · rw [if_neg c]
    refine (F1.thr (km := km0) h (j := 0) (by omega) (by decide) ?_).mono (by omega) (by omega)
    by_cases c1 : 0 ≤ y ∧ y < σ.1 2
    · have e1 := c_isP1 h.mr (t := y.toNat) (by omega)
      have e := c_isA0 h.mr hz (fun h => c ⟨c1, h⟩)
      rw [zI_nn c1.1]
      simp (disch := omega) only [b2_some, bd_some, nm_eq, Option.map_some, zN_lit, zN_add, zN_mul, zN_neg1, if_true, if_false, reduceIte, eq_self, Nat.reduceEqDiff, Nat.reduceAdd, Nat.reduceMul, Nat.reduceSub, Nat.reduceLeDiff, Nat.one_ne_zero, not_false_eq_true, Bool.false_eq_true, zN_eq, zN_lt, zN_le,  fX1_keepToll, h.mr.g0, h.mr.g1, h.mr.xI, h.mr.1.FI, c_snet h.mr.1.2.1, c_sI h.mr.1.2.1, c_nal h.mr.1.2.2.1, c_ntl h.mr.1.2.2.1, c_nn h.mr.1.2.2.1, c_alI h.mr.1.2.2.1, c_tlI h.mr.1.2.2.1, c_size h.mr.1.2.2.1, c_size2 h.mr.1.2.2.1, e1, e, fX1_keepToll_b20, fX1_keepToll_b21, c_rq0 (show 1 ≤ wC w by omega) (show 6 ≤ wS w by omega), ex_]
    · have e := c_isP0 h.mr hy c1
      simp (disch := omega) only [b2_some, bd_some, nm_eq, Option.map_some, zN_lit, zN_add, zN_mul, zN_neg1, if_true, if_false, reduceIte, eq_self, Nat.reduceEqDiff, Nat.reduceAdd, Nat.reduceMul, Nat.reduceSub, Nat.reduceLeDiff, Nat.one_ne_zero, not_false_eq_true, Bool.false_eq_true, zN_eq, zN_lt, zN_le,  fX1_keepToll, h.mr.g0, h.mr.g1, h.mr.xI, h.mr.1.FI, c_snet h.mr.1.2.1, c_sI h.mr.1.2.1, c_nal h.mr.1.2.2.1, c_ntl h.mr.1.2.2.1, c_nn h.mr.1.2.2.1, c_alI h.mr.1.2.2.1, c_tlI h.mr.1.2.2.1, c_size h.mr.1.2.2.1, c_size2 h.mr.1.2.2.1, e, fX1_keepToll_b20, fX1_keepToll_b21, c_rq0 (show 1 ≤ wC w by omega) (show 6 ≤ wS w by omega), ex_]
theorem f_detour (h : RcP w x σ F s q ν η) {y z : Int} (hy : bI y) (hz : bI z) (hC : 1 ≤ wC w) (hS : 6 ≤ wS w) : F1 zI km0 (fX1_detour x (zI y) (zI z) w) w x (hL η) (spPA σ y z fun t a => dtrI σ.1 t a) 1 6 := by
  unfold spPA
  by_cases c : (0 ≤ y ∧ y < σ.1 2) ∧ (0 ≤ z ∧ z < σ.1 1)
  · rw [if_pos c]
    have ht : y.toNat < σ.1 2 := by omega
    have ha : z.toNat < σ.1 1 := by omega
    rw [zI_nn c.1.1, zI_nn c.2.1]
    obtain ⟨w', e, k⟩ := c_dtr h.mr ht ha
    exact F1.ok ((h.kfd k).mono (by omega) (by omega)) e
  · rw [if_neg c]
    refine (F1.thr (km := km0) h (j := 0) (by omega) (by decide) ?_).mono (by omega) (by omega)
    by_cases c1 : 0 ≤ y ∧ y < σ.1 2
    · have e1 := c_isP1 h.mr (t := y.toNat) (by omega)
      have e := c_isA0 h.mr hz (fun h => c ⟨c1, h⟩)
      rw [zI_nn c1.1]
      simp (disch := omega) only [b2_some, bd_some, nm_eq, Option.map_some, zN_lit, zN_add, zN_mul, zN_neg1, if_true, if_false, reduceIte, eq_self, Nat.reduceEqDiff, Nat.reduceAdd, Nat.reduceMul, Nat.reduceSub, Nat.reduceLeDiff, Nat.one_ne_zero, not_false_eq_true, Bool.false_eq_true, zN_eq, zN_lt, zN_le,  fX1_detour, h.mr.g0, h.mr.g1, h.mr.xI, h.mr.1.FI, c_snet h.mr.1.2.1, c_sI h.mr.1.2.1, c_nal h.mr.1.2.2.1, c_ntl h.mr.1.2.2.1, c_nn h.mr.1.2.2.1, c_alI h.mr.1.2.2.1, c_tlI h.mr.1.2.2.1, c_size h.mr.1.2.2.1, c_size2 h.mr.1.2.2.1, e1, e, fX1_detour_b20, fX1_detour_b21, c_rq0 (show 1 ≤ wC w by omega) (show 6 ≤ wS w by omega), ex_]
    · have e := c_isP0 h.mr hy c1
      simp (disch := omega) only [b2_some, bd_some, nm_eq, Option.map_some, zN_lit, zN_add, zN_mul, zN_neg1, if_true, if_false, reduceIte, eq_self, Nat.reduceEqDiff, Nat.reduceAdd, Nat.reduceMul, Nat.reduceSub, Nat.reduceLeDiff, Nat.one_ne_zero, not_false_eq_true, Bool.false_eq_true, zN_eq, zN_lt, zN_le,  fX1_detour, h.mr.g0, h.mr.g1, h.mr.xI, h.mr.1.FI, c_snet h.mr.1.2.1, c_sI h.mr.1.2.1, c_nal h.mr.1.2.2.1, c_ntl h.mr.1.2.2.1, c_nn h.mr.1.2.2.1, c_alI h.mr.1.2.2.1, c_tlI h.mr.1.2.2.1, c_size h.mr.1.2.2.1, c_size2 h.mr.1.2.2.1, e, fX1_detour_b20, fX1_detour_b21, c_rq0 (show 1 ≤ wC w by omega) (show 6 ≤ wS w by omega), ex_]
end
