/-! Plain law: the component's queries with good arguments -/
noncomputable def pcI (ρ : Nat → Nat) (t : Nat) : Int := match PT ρ 0 (-1) 0 t with
  | none => -1
  | some p => (pco ρ p : Int)
noncomputable def ptI (ρ : Nat → Nat) (t : Nat) : Int := match PT ρ 0 (-1) 0 t with
  | none => -1
  | some p => (ptl ρ p : Int)
theorem cnB_cg {P Q : Nat → Bool} : ∀ {n : Nat}, (∀ i, i < n → P i = Q i) → cnB P n = cnB Q n
  | 0, _ => rfl
  | n + 1, h => by
    rw [cnB, cnB, h n (by omega), cnB_cg (n := n) (fun i hi => h i (by omega))]
theorem cnB_tl {P : Nat → Bool} {m : Nat} : ∀ {d : Nat}, (∀ i, m ≤ i → P i = false) → cnB P (m + d) = cnB P m
  | 0, _ => rfl
  | d + 1, h => by
    rw [← Nat.add_assoc, cnB, h (m + d) (by omega), cnB_tl (d := d) h]
    rfl
noncomputable def scN (ρ : Nat → Nat) (a : Nat) : Nat := cnB (fun i => @decide (stp ρ a (ρ 2) i) (Classical.propDecidable _)) 10000
section
variable {w : WH} {x s q F : Nat} {ρ : Nat → Nat} {ν : NH} {t a : Nat}
theorem PT_facts' (hI : Inv ρ) (ht : t < ρ 2) {p : List Nat} (hp : PT ρ 0 (-1) 0 t = some p) : (∀ a ∈ p, a < ρ 1) ∧ p.length < 10 := by
  obtain ⟨g1, g2, g3, g4, -⟩ := PT_all hI ht hp
  have := hI.h0
  exact ⟨fun a ha => (g4 a ha).1, by omega⟩
theorem q_hasPath (h : MR w x F s q ν ρ) (ht : t < ρ 2) : ∃ w', fX1_hasPath x (zN t) w = some (.inl (zI (if (PT ρ 0 (-1) 0 t).isSome then 1 else 0)), w') ∧ Kf w w' F := by
  obtain ⟨w', e, k, -⟩ := c_walk h.1 ht
  refine ⟨w', ?_, k⟩
  generalize (PT ρ 0 (-1) 0 t).isSome = b at e ⊢
  cases b with
  | false =>
    have fz : fz_ .boolean (zN 0) = some () := by decide
    simp only [if_neg Bool.false_ne_true] at e ⊢
    simp (disch := omega) only [b2_some, bd_some, nm_eq, Option.map_some, zN_lit, zN_add, zN_mul, zN_neg1, if_true, if_false, reduceIte, eq_self, Nat.reduceEqDiff, Nat.reduceAdd, Nat.reduceMul, Nat.reduceSub, Nat.reduceLeDiff, Nat.one_ne_zero, not_false_eq_true, Bool.false_eq_true, zN_eq, zN_lt, zN_le,  fX1_hasPath, h.g0, h.g1, h.xI, h.1.FI, c_snet h.1.2.1, c_sI h.1.2.1, c_nal h.1.2.2.1, c_ntl h.1.2.2.1, c_nn h.1.2.2.1, c_alI h.1.2.2.1, c_tlI h.1.2.2.1, c_size h.1.2.2.1, c_size2 h.1.2.2.1, c_tripAt1 h ht, ex_, e, fz]
    rfl
  | true =>
    have fz : fz_ .boolean (zN 1) = some () := by decide
    simp only [if_true] at e ⊢
    simp (disch := omega) only [b2_some, bd_some, nm_eq, Option.map_some, zN_lit, zN_add, zN_mul, zN_neg1, if_true, if_false, reduceIte, eq_self, Nat.reduceEqDiff, Nat.reduceAdd, Nat.reduceMul, Nat.reduceSub, Nat.reduceLeDiff, Nat.one_ne_zero, not_false_eq_true, Bool.false_eq_true, zN_eq, zN_lt, zN_le,  fX1_hasPath, h.g0, h.g1, h.xI, h.1.FI, c_snet h.1.2.1, c_sI h.1.2.1, c_nal h.1.2.2.1, c_ntl h.1.2.2.1, c_nn h.1.2.2.1, c_alI h.1.2.2.1, c_tlI h.1.2.2.1, c_size h.1.2.2.1, c_size2 h.1.2.2.1, c_tripAt1 h ht, ex_, e, fz]
    rfl
theorem q_pathCost (h : MR w x F s q ν ρ) (ht : t < ρ 2) : ∃ w', fX1_pathCost x (zN t) w = some (.inl (zI (pcI ρ t)), w') ∧ Kf w w' F := by
  obtain ⟨w', e, k, hp⟩ := c_walk h.1 ht
  refine ⟨w', ?_, k⟩
  have h' := h.kf k
  unfold pcI
  cases e1 : PT ρ 0 (-1) 0 t with
  | none =>
    rw [e1] at e
    simp only [Option.isSome_none, if_neg Bool.false_ne_true] at e
    simp (disch := omega) only [b2_some, bd_some, nm_eq, Option.map_some, zN_lit, zN_add, zN_mul, zN_neg1, if_true, if_false, reduceIte, eq_self, Nat.reduceEqDiff, Nat.reduceAdd, Nat.reduceMul, Nat.reduceSub, Nat.reduceLeDiff, Nat.one_ne_zero, not_false_eq_true, Bool.false_eq_true, zN_eq, zN_lt, zN_le,  fX1_pathCost, h.g0, h.g1, h.xI, h.1.FI, c_snet h.1.2.1, c_sI h.1.2.1, c_nal h.1.2.2.1, c_ntl h.1.2.2.1, c_nn h.1.2.2.1, c_alI h.1.2.2.1, c_tlI h.1.2.2.1, c_size h.1.2.2.1, c_size2 h.1.2.2.1, c_tripAt1 h ht, ex_, e]
  | some p =>
    rw [e1] at e
    simp only [Option.isSome_some, if_true] at e
    obtain ⟨f1, f2⟩ := PT_facts' h.inv ht e1
    have ec := c_costs h'.1 f1 f2 (hp p e1)
    simp (disch := omega) only [b2_some, bd_some, nm_eq, Option.map_some, zN_lit, zN_add, zN_mul, zN_neg1, if_true, if_false, reduceIte, eq_self, Nat.reduceEqDiff, Nat.reduceAdd, Nat.reduceMul, Nat.reduceSub, Nat.reduceLeDiff, Nat.one_ne_zero, not_false_eq_true, Bool.false_eq_true, zN_eq, zN_lt, zN_le,  fX1_pathCost, h.g0, h.g1, h.xI, h.1.FI, c_snet h.1.2.1, c_sI h.1.2.1, c_nal h.1.2.2.1, c_ntl h.1.2.2.1, c_nn h.1.2.2.1, c_alI h.1.2.2.1, c_tlI h.1.2.2.1, c_size h.1.2.2.1, c_size2 h.1.2.2.1, c_tripAt1 h ht, ex_, e, h'.g0, h'.g1, h'.1.FI, ec]
    rfl
theorem q_pathToll (h : MR w x F s q ν ρ) (ht : t < ρ 2) : ∃ w', fX1_pathToll x (zN t) w = some (.inl (zI (ptI ρ t)), w') ∧ Kf w w' F := by
  obtain ⟨w', e, k, hp⟩ := c_walk h.1 ht
  refine ⟨w', ?_, k⟩
  have h' := h.kf k
  unfold ptI
  cases e1 : PT ρ 0 (-1) 0 t with
  | none =>
    rw [e1] at e
    simp only [Option.isSome_none, if_neg Bool.false_ne_true] at e
    simp (disch := omega) only [b2_some, bd_some, nm_eq, Option.map_some, zN_lit, zN_add, zN_mul, zN_neg1, if_true, if_false, reduceIte, eq_self, Nat.reduceEqDiff, Nat.reduceAdd, Nat.reduceMul, Nat.reduceSub, Nat.reduceLeDiff, Nat.one_ne_zero, not_false_eq_true, Bool.false_eq_true, zN_eq, zN_lt, zN_le,  fX1_pathToll, h.g0, h.g1, h.xI, h.1.FI, c_snet h.1.2.1, c_sI h.1.2.1, c_nal h.1.2.2.1, c_ntl h.1.2.2.1, c_nn h.1.2.2.1, c_alI h.1.2.2.1, c_tlI h.1.2.2.1, c_size h.1.2.2.1, c_size2 h.1.2.2.1, c_tripAt1 h ht, ex_, e]
  | some p =>
    rw [e1] at e
    simp only [Option.isSome_some, if_true] at e
    obtain ⟨f1, f2⟩ := PT_facts' h.inv ht e1
    have ec := c_tolls h'.1 f1 f2 (hp p e1)
    simp (disch := omega) only [b2_some, bd_some, nm_eq, Option.map_some, zN_lit, zN_add, zN_mul, zN_neg1, if_true, if_false, reduceIte, eq_self, Nat.reduceEqDiff, Nat.reduceAdd, Nat.reduceMul, Nat.reduceSub, Nat.reduceLeDiff, Nat.one_ne_zero, not_false_eq_true, Bool.false_eq_true, zN_eq, zN_lt, zN_le,  fX1_pathToll, h.g0, h.g1, h.xI, h.1.FI, c_snet h.1.2.1, c_sI h.1.2.1, c_nal h.1.2.2.1, c_ntl h.1.2.2.1, c_nn h.1.2.2.1, c_alI h.1.2.2.1, c_tlI h.1.2.2.1, c_size h.1.2.2.1, c_size2 h.1.2.2.1, c_tripAt1 h ht, ex_, e, h'.g0, h'.g1, h'.1.FI, ec]
    rfl
theorem q_felt (h : MR w x F s q ν ρ) (ht : t < ρ 2) : ∃ w', fX1_felt x (zN t) w = some (.inl (zI (lI ρ 0 (-1) 0 t (pFr ρ t))), w') ∧ Kf w w' F := by
  obtain ⟨w', e, k⟩ := c_fltBy h ht
  refine ⟨w', ?_, k⟩
  have eF : (2305843009213693951 : Int64) = zJ FAR := rfl
  have c1 := encF_eq (o := lT ρ 0 (-1) 0 t (pFr ρ t)) (dW_in (k := 6) h.inv ht _)
  unfold lI
  cases e1 : lT ρ 0 (-1) 0 t (pFr ρ t) with
  | none =>
    rw [e1] at e c1
    generalize encF none = v at e c1
    simp (disch := omega) only [b2_some, bd_some, nm_eq, Option.map_some, zN_lit, zN_add, zN_mul, zN_neg1, if_true, if_false, reduceIte, eq_self, Nat.reduceEqDiff, Nat.reduceAdd, Nat.reduceMul, Nat.reduceSub, Nat.reduceLeDiff, Nat.one_ne_zero, not_false_eq_true, Bool.false_eq_true, zN_eq, zN_lt, zN_le,  fX1_felt, h.g0, h.g1, h.xI, h.1.FI, c_snet h.1.2.1, c_sI h.1.2.1, c_nal h.1.2.2.1, c_ntl h.1.2.2.1, c_nn h.1.2.2.1, c_alI h.1.2.2.1, c_tlI h.1.2.2.1, c_size h.1.2.2.1, c_size2 h.1.2.2.1, c_tripAt1 h ht, ex_, e, eF, c1]
    rfl
  | some z =>
    rw [e1] at e c1
    rw [encF_some] at e c1
    rw [eq_false (show ¬ (some z = none) by simp)] at c1
    simp (disch := omega) only [b2_some, bd_some, nm_eq, Option.map_some, zN_lit, zN_add, zN_mul, zN_neg1, if_true, if_false, reduceIte, eq_self, Nat.reduceEqDiff, Nat.reduceAdd, Nat.reduceMul, Nat.reduceSub, Nat.reduceLeDiff, Nat.one_ne_zero, not_false_eq_true, Bool.false_eq_true, zN_eq, zN_lt, zN_le,  fX1_felt, h.g0, h.g1, h.xI, h.1.FI, c_snet h.1.2.1, c_sI h.1.2.1, c_nal h.1.2.2.1, c_ntl h.1.2.2.1, c_nn h.1.2.2.1, c_alI h.1.2.2.1, c_tlI h.1.2.2.1, c_size h.1.2.2.1, c_size2 h.1.2.2.1, c_tripAt1 h ht, ex_, e, eF, c1, zJ_I]
    rfl
theorem q_revenueOf (h : MR w x F s q ν ρ) (ht : t < ρ 2) : ∃ w', fX1_revenueOf x (zN t) w = some (.inl (zJ (brI ρ 0 (-1) 0 t)), w') ∧ Kf w w' F := by
  obtain ⟨w', e, k⟩ := c_brings h ht
  refine ⟨w', ?_, k⟩
  simp (disch := omega) only [b2_some, bd_some, nm_eq, Option.map_some, zN_lit, zN_add, zN_mul, zN_neg1, if_true, if_false, reduceIte, eq_self, Nat.reduceEqDiff, Nat.reduceAdd, Nat.reduceMul, Nat.reduceSub, Nat.reduceLeDiff, Nat.one_ne_zero, not_false_eq_true, Bool.false_eq_true, zN_eq, zN_lt, zN_le,  fX1_revenueOf, h.g0, h.g1, h.xI, h.1.FI, c_snet h.1.2.1, c_sI h.1.2.1, c_nal h.1.2.2.1, c_ntl h.1.2.2.1, c_nn h.1.2.2.1, c_alI h.1.2.2.1, c_tlI h.1.2.2.1, c_size h.1.2.2.1, c_size2 h.1.2.2.1, c_isP1 h ht, c_rq1, ex_, e]
theorem q_pledge (h : MR w x F s q ν ρ) (ht : t < ρ 2) : ∃ w', fX1_pledge x (zN t) w = some (.inl (zJ (plgI ρ 0 (-1) t)), w') ∧ Kf w w' F := by
  obtain ⟨w', e, k⟩ := c_plg h ht
  refine ⟨w', ?_, k⟩
  simp (disch := omega) only [b2_some, bd_some, nm_eq, Option.map_some, zN_lit, zN_add, zN_mul, zN_neg1, if_true, if_false, reduceIte, eq_self, Nat.reduceEqDiff, Nat.reduceAdd, Nat.reduceMul, Nat.reduceSub, Nat.reduceLeDiff, Nat.one_ne_zero, not_false_eq_true, Bool.false_eq_true, zN_eq, zN_lt, zN_le,  fX1_pledge, h.g0, h.g1, h.xI, h.1.FI, c_snet h.1.2.1, c_sI h.1.2.1, c_nal h.1.2.2.1, c_ntl h.1.2.2.1, c_nn h.1.2.2.1, c_alI h.1.2.2.1, c_tlI h.1.2.2.1, c_size h.1.2.2.1, c_size2 h.1.2.2.1, c_isP1 h ht, c_rq1, ex_, e]
theorem q_users (h : MR w x F s q ν ρ) (ha : a < ρ 1) : ∃ w', fX1_users x (zN a) w = some (.inl (zI (usrN ρ 0 (-1) 0 a : Int)), w') ∧ Kf w w' F := by
  have h1 := h.inv.h1
  obtain ⟨w', e, k⟩ := c_usr h (a := a) (by omega)
  refine ⟨w', ?_, k⟩
  simp (disch := omega) only [b2_some, bd_some, nm_eq, Option.map_some, zN_lit, zN_add, zN_mul, zN_neg1, if_true, if_false, reduceIte, eq_self, Nat.reduceEqDiff, Nat.reduceAdd, Nat.reduceMul, Nat.reduceSub, Nat.reduceLeDiff, Nat.one_ne_zero, not_false_eq_true, Bool.false_eq_true, zN_eq, zN_lt, zN_le,  fX1_users, h.g0, h.g1, h.xI, h.1.FI, c_snet h.1.2.1, c_sI h.1.2.1, c_nal h.1.2.2.1, c_ntl h.1.2.2.1, c_nn h.1.2.2.1, c_alI h.1.2.2.1, c_tlI h.1.2.2.1, c_size h.1.2.2.1, c_size2 h.1.2.2.1, c_isA1 h ha, c_rq1, ex_, e]
  rfl
theorem q_flow (h : MR w x F s q ν ρ) (ha : a < ρ 1) : ∃ w', fX1_flow x (zN a) w = some (.inl (zI (flwN ρ 0 (-1) 0 a : Int)), w') ∧ Kf w w' F := by
  have h1 := h.inv.h1
  obtain ⟨w', e, k⟩ := c_flw h (a := a) (by omega)
  refine ⟨w', ?_, k⟩
  simp (disch := omega) only [b2_some, bd_some, nm_eq, Option.map_some, zN_lit, zN_add, zN_mul, zN_neg1, if_true, if_false, reduceIte, eq_self, Nat.reduceEqDiff, Nat.reduceAdd, Nat.reduceMul, Nat.reduceSub, Nat.reduceLeDiff, Nat.one_ne_zero, not_false_eq_true, Bool.false_eq_true, zN_eq, zN_lt, zN_le,  fX1_flow, h.g0, h.g1, h.xI, h.1.FI, c_snet h.1.2.1, c_sI h.1.2.1, c_nal h.1.2.2.1, c_ntl h.1.2.2.1, c_nn h.1.2.2.1, c_alI h.1.2.2.1, c_tlI h.1.2.2.1, c_size h.1.2.2.1, c_size2 h.1.2.2.1, c_isA1 h ha, c_rq1, ex_, e]
  rfl
theorem q_arcRev (h : MR w x F s q ν ρ) (ha : a < ρ 1) : ∃ w', fX1_arcRevenue x (zN a) w = some (.inl (zJ ((flwN ρ 0 (-1) 0 a : Int) * (aTl ρ a : Int))), w') ∧ Kf w w' F := by
  have hI := h.inv
  have h1 := hI.h1
  have h2 := hI.h2
  have ca := hI.ha ha
  obtain ⟨w', e, k⟩ := c_flw h (a := a) (by omega)
  refine ⟨w', ?_, k⟩
  have h' := h.kf k
  have hl := flwN_le (m := 0) (aw := -1) (fz := 0) hI a
  obtain ⟨f, hf, hfv⟩ := h'.1.2.1.2.1
  have l1 : ldI w' q 0 (zN a) = some (f a) := c_ldI hf (by omega) (by omega)
  rw [hfv a (by omega)] at l1
  have e1 : (zN (flwN ρ 0 (-1) 0 a)).toInt64 = zJ (flwN ρ 0 (-1) 0 a : Int) := zN_J (by omega)
  have e2 : (zN (aTl ρ a)).toInt64 = zJ (aTl ρ a : Int) := zN_J (by omega)
  simp (disch := omega) only [b2_some, bd_some, nm_eq, Option.map_some, zN_lit, zN_add, zN_mul, zN_neg1, if_true, if_false, reduceIte, eq_self, Nat.reduceEqDiff, Nat.reduceAdd, Nat.reduceMul, Nat.reduceSub, Nat.reduceLeDiff, Nat.one_ne_zero, not_false_eq_true, Bool.false_eq_true, zN_eq, zN_lt, zN_le,  fX1_arcRevenue, h.g0, h.g1, h.xI, h.1.FI, c_snet h.1.2.1, c_sI h.1.2.1, c_nal h.1.2.2.1, c_ntl h.1.2.2.1, c_nn h.1.2.2.1, c_alI h.1.2.2.1, c_tlI h.1.2.2.1, c_size h.1.2.2.1, c_size2 h.1.2.2.1, c_isA1 h ha, c_rq1, ex_, e, h'.g0, c_gtl h', l1, e1, e2, zJ_mul]
theorem q_captives (h : MR w x F s q ν ρ) (ha : a < ρ 1) : ∃ w', fX1_captives x (zN a) w = some (.inl (zI (cptN ρ 0 0 a : Int)), w') ∧ Kf w w' F := by
  obtain ⟨w', e, k⟩ := c_cpt h ha
  refine ⟨w', ?_, k⟩
  simp (disch := omega) only [b2_some, bd_some, nm_eq, Option.map_some, zN_lit, zN_add, zN_mul, zN_neg1, if_true, if_false, reduceIte, eq_self, Nat.reduceEqDiff, Nat.reduceAdd, Nat.reduceMul, Nat.reduceSub, Nat.reduceLeDiff, Nat.one_ne_zero, not_false_eq_true, Bool.false_eq_true, zN_eq, zN_lt, zN_le,  fX1_captives, h.g0, h.g1, h.xI, h.1.FI, c_snet h.1.2.1, c_sI h.1.2.1, c_nal h.1.2.2.1, c_ntl h.1.2.2.1, c_nn h.1.2.2.1, c_alI h.1.2.2.1, c_tlI h.1.2.2.1, c_size h.1.2.2.1, c_size2 h.1.2.2.1, c_isA1 h ha, c_rq1, ex_]
  exact e
theorem q_uses (h : MR w x F s q ν ρ) (ht : t < ρ 2) (ha : a < ρ 1) : ∃ w', fX1_uses x (zN t) (zN a) w = some (.inl (zI (if useB ρ 0 (-1) 0 t a then 1 else 0)), w') ∧ Kf w w' F := by
  have h1 := h.inv.h1
  obtain ⟨w', e, k⟩ := c_uses h ht (a := a) (by omega)
  refine ⟨w', ?_, k⟩
  generalize useB ρ 0 (-1) 0 t a = b at e ⊢
  cases b with
  | false =>
    have fz : fz_ .boolean (zN 0) = some () := by decide
    simp only [if_neg Bool.false_ne_true] at e ⊢
    simp (disch := omega) only [b2_some, bd_some, nm_eq, Option.map_some, zN_lit, zN_add, zN_mul, zN_neg1, if_true, if_false, reduceIte, eq_self, Nat.reduceEqDiff, Nat.reduceAdd, Nat.reduceMul, Nat.reduceSub, Nat.reduceLeDiff, Nat.one_ne_zero, not_false_eq_true, Bool.false_eq_true, zN_eq, zN_lt, zN_le,  fX1_uses, h.g0, h.g1, h.xI, h.1.FI, c_snet h.1.2.1, c_sI h.1.2.1, c_nal h.1.2.2.1, c_ntl h.1.2.2.1, c_nn h.1.2.2.1, c_alI h.1.2.2.1, c_tlI h.1.2.2.1, c_size h.1.2.2.1, c_size2 h.1.2.2.1, c_isP1 h ht, c_isA1 h ha, fX1_uses_b21, c_rq1, ex_, e, fz]
    rfl
  | true =>
    have fz : fz_ .boolean (zN 1) = some () := by decide
    simp only [if_true] at e ⊢
    simp (disch := omega) only [b2_some, bd_some, nm_eq, Option.map_some, zN_lit, zN_add, zN_mul, zN_neg1, if_true, if_false, reduceIte, eq_self, Nat.reduceEqDiff, Nat.reduceAdd, Nat.reduceMul, Nat.reduceSub, Nat.reduceLeDiff, Nat.one_ne_zero, not_false_eq_true, Bool.false_eq_true, zN_eq, zN_lt, zN_le,  fX1_uses, h.g0, h.g1, h.xI, h.1.FI, c_snet h.1.2.1, c_sI h.1.2.1, c_nal h.1.2.2.1, c_ntl h.1.2.2.1, c_nn h.1.2.2.1, c_alI h.1.2.2.1, c_tlI h.1.2.2.1, c_size h.1.2.2.1, c_size2 h.1.2.2.1, c_isP1 h ht, c_isA1 h ha, fX1_uses_b21, c_rq1, ex_, e, fz]
    rfl
theorem q_keepToll (h : MR w x F s q ν ρ) (ht : t < ρ 2) (ha : a < ρ 1) : ∃ w', fX1_keepToll x (zN t) (zN a) w = some (.inl (zI (kpI ρ 0 0 t a)), w') ∧ Kf w w' F := by
  obtain ⟨w', e, k⟩ := c_kept h ht ha
  refine ⟨w', ?_, k⟩
  simp (disch := omega) only [b2_some, bd_some, nm_eq, Option.map_some, zN_lit, zN_add, zN_mul, zN_neg1, if_true, if_false, reduceIte, eq_self, Nat.reduceEqDiff, Nat.reduceAdd, Nat.reduceMul, Nat.reduceSub, Nat.reduceLeDiff, Nat.one_ne_zero, not_false_eq_true, Bool.false_eq_true, zN_eq, zN_lt, zN_le,  fX1_keepToll, h.g0, h.g1, h.xI, h.1.FI, c_snet h.1.2.1, c_sI h.1.2.1, c_nal h.1.2.2.1, c_ntl h.1.2.2.1, c_nn h.1.2.2.1, c_alI h.1.2.2.1, c_tlI h.1.2.2.1, c_size h.1.2.2.1, c_size2 h.1.2.2.1, c_isP1 h ht, c_isA1 h ha, fX1_keepToll_b21, c_rq1, ex_, c_geta h.1.2.2.1 h.inv ha, c_aI h.1.2.2.1 ha, e]
theorem q_bestToll (h : MR w x F s q ν ρ) (hW : WF w) (ha : a < ρ 1) (hC : 1 ≤ wC w) (hS : 4 ≤ wS w) : ∃ w', fX1_bestToll x (zN a) w = some (.inl (zI (bst ρ a : Int)), w') ∧ Kg F nQ w w' 1 4 := by
  obtain ⟨w', e, k, t1, -⟩ := c_trial h hW ha
  refine ⟨w', ?_, k⟩
  have n1 : hNw w 4 18 [.null, .int 0, .long 0, .null] = some (wN w, hMk w 4 (.inr (18, [.null, .int 0, .long 0, .null]))) := c_new hC hS
  have K0 : Kg F nQ w (hMk w 4 (.inr (18, [.null, .int 0, .long 0, .null]))) 1 4 := Kg.mk h.FC hW _ _
  have M0 := h.kg hW K0
  have g1 : gI w' (wN w) 18 1 = some (zN (bst ρ a)) := c_I t1 1
  have ia := c_arcAt1 M0 ha
  have xi := M0.xI
  unfold fX1_bestToll
  rw [n1, b2_some]
  rw [xi, bd_some, ia, b2_some]
  unfold ex_
  dsimp only
  rw [bd_some, e, bd_some, g1, bd_some]
  rfl
theorem q_stepCount (h : MR w x F s q ν ρ) (hW : WF w) (ha : a < ρ 1) (hC : 8 ≤ wC w) (hS : 2000 ≤ wS w) : ∃ w', fX1_stepCount x (zN a) w = some (.inl (zI (scN ρ a : Int)), w') ∧ Kg F nQ w w' 8 2000 := by
  obtain ⟨w', ws, nw, u, W, st, e, hB, hb, k⟩ := c_steps h hW ha hC hS
  refine ⟨w', ?_, k⟩
  have ec := c_card hB
  have h1 := h.inv.ha ha
  have e2 : cnB (bit W) (64 * u) = scN ρ a := by
    have f1 : ∀ i, 64 * u ≤ i → bit W i = false := fun i hi => by
      unfold bit
      rw [hB.2.2.2.2.1 (i / 64) (by omega), Nat.zero_testBit]
    have f2 : ∀ i, 10000 ≤ i → bit W i = false := fun i hi => by
      cases e3 : bit W i with
      | false => rfl
      | true =>
        obtain ⟨t, -, -, h3⟩ := (hb i).mp e3
        omega
    have e3 : cnB (bit W) (64 * u + 10000) = cnB (bit W) (64 * u) := cnB_tl f1
    have e4 : cnB (bit W) (10000 + 64 * u) = cnB (bit W) 10000 := cnB_tl f2
    rw [← e3, Nat.add_comm, e4]
    refine cnB_cg (fun i _ => ?_)
    rw [Bool.eq_iff_iff]
    exact (hb i).trans (@decide_eq_true_iff _ (Classical.propDecidable _)).symm
  rw [e2] at ec
  have i1 : hIs w' (wN w) 0 = some () := c_C hB.1
  simp (disch := omega) only [b2_some, bd_some, nm_eq, Option.map_some, zN_lit, zN_add, zN_mul, zN_neg1, if_true, if_false, reduceIte, eq_self, Nat.reduceEqDiff, Nat.reduceAdd, Nat.reduceMul, Nat.reduceSub, Nat.reduceLeDiff, Nat.one_ne_zero, not_false_eq_true, Bool.false_eq_true, zN_eq, zN_lt, zN_le,  fX1_stepCount, h.g0, h.g1, h.xI, h.1.FI, c_snet h.1.2.1, c_sI h.1.2.1, c_nal h.1.2.2.1, c_ntl h.1.2.2.1, c_nn h.1.2.2.1, c_alI h.1.2.2.1, c_tlI h.1.2.2.1, c_size h.1.2.2.1, c_size2 h.1.2.2.1, c_arcAt1 h ha, ex_, e, i1, ec]
  rfl
theorem q_revW (h : MR w x F s q ν ρ) (ha : a < ρ 1) {v : Nat} (hv : v ≤ aMx ρ a) : ∃ w', fX1_revenueWith x (zN a) (zN v) w = some (.inl (zJ (allI (stl ρ a v) 0 (-1) 0)), w') ∧ Kf w w' F := by
  have hI := h.inv
  have h1 := hI.h1
  have b := hI.ha ha
  obtain ⟨f, hf, hfv⟩ := h.1.2.1.2.1
  have M1 := h.stl hf hfv ha hv
  obtain ⟨w2, e2, k2⟩ := c_all M1
  obtain ⟨w3, e3, k3⟩ := c_back h hf k2 (by omega) h.qF
  have h2 := M1.kf k2
  have l1 : ldI w q 0 (zN a) = some (f a) := c_ldI hf (by omega) (by omega)
  have s1 : stI w q 0 (zN a) (zN v) = some (hUp w q (tolC (upd f a (zN v)))) := c_stI hf (by omega) (by omega) _
  have e0 := c_inR (w := w) (a := v) (b := 0) (c := aMx ρ a) ⟨by omega, by omega⟩ ⟨by omega, by omega⟩ ⟨by omega, by omega⟩
  rw [if_pos (by omega)] at e0
  have z0 : (0 : Int64) = zJ 0 := rfl
  refine ⟨w3, ?_, k3⟩
  simp (disch := omega) only [b2_some, bd_some, nm_eq, Option.map_some, zN_lit, zN_add, zN_mul, zN_neg1, if_true, if_false, reduceIte, eq_self, Nat.reduceEqDiff, Nat.reduceAdd, Nat.reduceMul, Nat.reduceSub, Nat.reduceLeDiff, Nat.one_ne_zero, not_false_eq_true, Bool.false_eq_true, zN_eq, zN_lt, zN_le,  fX1_revenueWith, h.g0, h.g1, h.xI, h.1.FI, c_snet h.1.2.1, c_sI h.1.2.1, c_nal h.1.2.2.1, c_ntl h.1.2.2.1, c_nn h.1.2.2.1, c_alI h.1.2.2.1, c_tlI h.1.2.2.1, c_size h.1.2.2.1, c_size2 h.1.2.2.1, c_arcAt1 h ha, ex_, c_aI h.1.2.2.1 ha, c_most h.1.2.2.1 ha, zN_J, z0, e0, c_ra1, c_gtl h, l1, s1, M1.xI, e2, h2.g0, c_gtl h2, e3, fX1_revenueWith_b44]
end
