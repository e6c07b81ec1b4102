/-! Plain law: the component's uses, flows, sums -/
def rtC (s F P Sn Tx Ou : Nat) (len err es : Int32) : hE := .inr (17, [.ref s, .ref F, .ref P, .ref Sn, .ref Tx, .int len, .int err, .int es, .ref Ou])
/-- what a query needs -/
def MR (w : WH) (x F s q : Nat) (ν : NH) (ρ : Nat → Nat) : Prop := MS w F s q ν ρ ∧ ∃ P Sn Tx Ou len err es, w.1 x = some (rtC s F P Sn Tx Ou len err es)
theorem lT_none {ρ : Nat → Nat} {m fz t : Nat} {aw : Int} (hI : Inv ρ) (ht : t < ρ 2) : lT ρ m aw fz t (pFr ρ t) = (PT ρ m aw fz t).map fun p => ((pVa ρ t * pco ρ p + ptl ρ p : Nat) : Int) := by
  rw [lT_eq hI ht]
  unfold PT
  cases dT ρ m aw fz t (pFr ρ t) with
  | none => rfl
  | some z => simp only [Option.map_some]; rw [pfe_lsum]
theorem fltI_lI {ρ : Nat → Nat} {m fz t : Nat} {aw : Int} (hI : Inv ρ) (ht : t < ρ 2) : fltI ρ m aw fz t = lI ρ m aw fz t (pFr ρ t) := by
  unfold lI fltI
  rw [lT_none hI ht]
  cases PT ρ m aw fz t <;> rfl
section
variable {w : WH} {x s q F : Nat} {ρ : Nat → Nat} {ν : NH} {t : Nat}
theorem MR.kf {w' : WH} (h : MR w x F s q ν ρ) (hk : Kf w w' F) : MR w' x F s q ν ρ := by
  obtain ⟨h1, P, Sn, Tx, Ou, len, err, es, h2⟩ := h
  exact ⟨h1.kf hk, P, Sn, Tx, Ou, len, err, es, hk.keep h1.1 h2 rfl⟩
theorem MR.g0 (h : MR w x F s q ν ρ) : gR w x 17 0 = some (some s) := by
  obtain ⟨h1, P, Sn, Tx, Ou, len, err, es, h2⟩ := h
  exact c_R h2 0
theorem MR.g1 (h : MR w x F s q ν ρ) : gR w x 17 1 = some (some F) := by
  obtain ⟨h1, P, Sn, Tx, Ou, len, err, es, h2⟩ := h
  exact c_R h2 1
theorem MR.xI (h : MR w x F s q ν ρ) : hIs w x 17 = some () := by
  obtain ⟨h1, P, Sn, Tx, Ou, len, err, es, h2⟩ := h
  exact c_C h2
theorem MR.inv (h : MR w x F s q ν ρ) : Inv ρ := h.1.2.2.2.1
theorem PT_24 (hI : Inv ρ) (ht : t < ρ 2) {p : List Nat} (hp : PT ρ 0 (-1) 0 t = some p) : p.length < 10 ∧ (∀ a ∈ p, a < ρ 1) ∧ ∀ a ∈ p, a < 24 := by
  obtain ⟨h1, h2, h3, h4, h5, h6⟩ := PT_all hI ht hp
  have h0 := hI.h0
  exact ⟨by omega, fun a ha => (h4 a ha).1, fun a ha => (hI.ha (h4 a ha).1).2.2.2.2.2.2.2.2.2.2⟩
theorem c_uses (h : MR w x F s q ν ρ) (ht : t < ρ 2) {a : Nat} (ha : a < 24) : ∃ w', fX1_usesIt x (zN t) (zN a) w = some (zN (if useB ρ 0 (-1) 0 t a then 1 else 0), w') ∧ Kf w w' F := by
  have hI := h.inv
  obtain ⟨w', e, hK, hP⟩ := c_walk h.1 ht
  have h' := h.kf hK
  refine ⟨w', ?_, hK⟩
  unfold useB
  cases hp : PT ρ 0 (-1) 0 t with
  | none =>
    rw [hp] at e
    simp (disch := omega) only [b2_some, bd_some, nm_eq, Option.map_some, zN_lit, zN_add, zN_mul, zN_neg1, if_true, if_false, reduceIte, eq_self, Nat.reduceEqDiff, Nat.reduceAdd, Nat.reduceMul, Nat.reduceSub, Nat.reduceLeDiff, Nat.one_ne_zero, not_false_eq_true, Bool.false_eq_true, zN_eq, zN_lt, zN_le,  fX1_usesIt, h.g0, h.g1, h.xI, h.1.FI, c_snet h.1.2.1, c_sI h.1.2.1, c_nal h.1.2.2.1, c_ntl h.1.2.2.1, c_nn h.1.2.2.1, c_alI h.1.2.2.1, c_tlI h.1.2.2.1, c_size h.1.2.2.1, c_size2 h.1.2.2.1, c_gett h.1.2.2.1 hI ht, c_tI h.1.2.2.1 ht, e, Option.isSome_none]
  | some p =>
    rw [hp] at e
    obtain ⟨g1, g2, g3⟩ := PT_24 hI ht hp
    have e2 := c_has h'.1 g3 g1 (hP p hp) ha
    by_cases hm : a ∈ p
    · rw [if_pos hm] at e2
      simp (disch := omega) only [b2_some, bd_some, nm_eq, Option.map_some, zN_lit, zN_add, zN_mul, zN_neg1, if_true, if_false, reduceIte, eq_self, Nat.reduceEqDiff, Nat.reduceAdd, Nat.reduceMul, Nat.reduceSub, Nat.reduceLeDiff, Nat.one_ne_zero, not_false_eq_true, Bool.false_eq_true, zN_eq, zN_lt, zN_le,  fX1_usesIt, h.g0, h.g1, h.xI, h.1.FI, c_snet h.1.2.1, c_sI h.1.2.1, c_nal h.1.2.2.1, c_ntl h.1.2.2.1, c_nn h.1.2.2.1, c_alI h.1.2.2.1, c_tlI h.1.2.2.1, c_size h.1.2.2.1, c_size2 h.1.2.2.1, c_gett h.1.2.2.1 hI ht, c_tI h.1.2.2.1 ht, e, Option.isSome_some, h'.g1, h'.1.FI, e2, hm, decide_true]
    · rw [if_neg hm] at e2
      simp (disch := omega) only [b2_some, bd_some, nm_eq, Option.map_some, zN_lit, zN_add, zN_mul, zN_neg1, if_true, if_false, reduceIte, eq_self, Nat.reduceEqDiff, Nat.reduceAdd, Nat.reduceMul, Nat.reduceSub, Nat.reduceLeDiff, Nat.one_ne_zero, not_false_eq_true, Bool.false_eq_true, zN_eq, zN_lt, zN_le,  fX1_usesIt, h.g0, h.g1, h.xI, h.1.FI, c_snet h.1.2.1, c_sI h.1.2.1, c_nal h.1.2.2.1, c_ntl h.1.2.2.1, c_nn h.1.2.2.1, c_alI h.1.2.2.1, c_tlI h.1.2.2.1, c_size h.1.2.2.1, c_size2 h.1.2.2.1, c_gett h.1.2.2.1 hI ht, c_tI h.1.2.2.1 ht, e, Option.isSome_some, h'.g1, h'.1.FI, e2, hm, decide_false]
theorem c_usr (h : MR w x F s q ν ρ) {a : Nat} (ha : a < 24) : ∃ w', fX1_usersOf x (zN a) w = some (zN (usrN ρ 0 (-1) 0 a), w') ∧ Kf w w' F := by
  have hI := h.inv
  have h2 := hI.h2
  have H : ∃ r, fX1_usersOf_l4 x (zN a) 0 0 w = some r ∧ ∃ w', r = (zN (usrN ρ 0 (-1) 0 a), w') ∧ Kf w w' F := by
    refine wh_up (P := fun i y => i ≤ ρ 2 ∧ ∃ w', y = (zN (msk (fun t => useB ρ 0 (-1) 0 t a) i), zN i, w') ∧ Kf w w' F) (ρ 2) ?_ ?_ (ρ 2) 0 _ (by omega) ⟨by omega, w, rfl, Kf.refl h.1.1⟩
    · rintro i y hi ⟨-, w', rfl, hK⟩
      have h' := h.kf hK
      obtain ⟨w2, e2, hK2⟩ := c_uses h' (t := i) hi ha
      left
      refine ⟨_, ?_, by omega, w2, rfl, hK.trans hK2⟩
      have n1 : ¬ (ρ 2 ≤ i) := by omega
      rw [msk]
      cases hu : useB ρ 0 (-1) 0 i a with
      | true =>
        rw [hu] at e2
        simp (disch := omega) only [b2_some, bd_some, nm_eq, Option.map_some, zN_lit, zN_add, zN_mul, zN_neg1, if_true, if_false, reduceIte, eq_self, Nat.reduceEqDiff, Nat.reduceAdd, Nat.reduceMul, Nat.reduceSub, Nat.reduceLeDiff, Nat.one_ne_zero, not_false_eq_true, Bool.false_eq_true, zN_eq, zN_lt, zN_le,  fX1_usersOf_b4, h'.g0, h'.g1, h'.xI, h'.1.FI, c_snet h'.1.2.1, c_sI h'.1.2.1, c_nal h'.1.2.2.1, c_ntl h'.1.2.2.1, c_nn h'.1.2.2.1, c_alI h'.1.2.2.1, c_tlI h'.1.2.2.1, c_size h'.1.2.2.1, c_size2 h'.1.2.2.1, n1, e2, fX1_usersOf_b40, zN_or, zN_shlz]
      | false =>
        rw [hu] at e2
        simp (disch := omega) only [b2_some, bd_some, nm_eq, Option.map_some, zN_lit, zN_add, zN_mul, zN_neg1, if_true, if_false, reduceIte, eq_self, Nat.reduceEqDiff, Nat.reduceAdd, Nat.reduceMul, Nat.reduceSub, Nat.reduceLeDiff, Nat.one_ne_zero, not_false_eq_true, Bool.false_eq_true, zN_eq, zN_lt, zN_le,  fX1_usersOf_b4, h'.g0, h'.g1, h'.xI, h'.1.FI, c_snet h'.1.2.1, c_sI h'.1.2.1, c_nal h'.1.2.2.1, c_ntl h'.1.2.2.1, c_nn h'.1.2.2.1, c_alI h'.1.2.2.1, c_tlI h'.1.2.2.1, c_size h'.1.2.2.1, c_size2 h'.1.2.2.1, n1, e2, fX1_usersOf_b40, zN_or]
    · rintro y ⟨-, w', rfl, hK⟩
      have h' := h.kf hK
      refine ⟨_, ?_, w', rfl, hK⟩
      simp (disch := omega) only [b2_some, bd_some, nm_eq, Option.map_some, zN_lit, zN_add, zN_mul, zN_neg1, if_true, if_false, reduceIte, eq_self, Nat.reduceEqDiff, Nat.reduceAdd, Nat.reduceMul, Nat.reduceSub, Nat.reduceLeDiff, Nat.one_ne_zero, not_false_eq_true, Bool.false_eq_true, zN_eq, zN_lt, zN_le,  fX1_usersOf_b4, h'.g0, h'.g1, h'.xI, h'.1.FI, c_snet h'.1.2.1, c_sI h'.1.2.1, c_nal h'.1.2.2.1, c_ntl h'.1.2.2.1, c_nn h'.1.2.2.1, c_alI h'.1.2.2.1, c_tlI h'.1.2.2.1, c_size h'.1.2.2.1, c_size2 h'.1.2.2.1, Nat.le_refl]
      rfl
  obtain ⟨r, e, w', rfl, hK⟩ := H
  exact ⟨w', e, hK⟩
theorem c_dem (h : MR w x F s q ν ρ) (ht : t < ρ 2) : gR w s 21 2 = some (some (q + 1)) ∧ ldI w (q + 1) 0 (zN t) = some (zN (pDe ρ t)) := by
  obtain ⟨f, h1, h2⟩ := h.1.2.1.2.2.1
  have h6 := h.inv.h2
  exact ⟨c_R h.1.2.1.1 2, by rw [c_ldI h1 (by omega) (by omega), h2 t ht]⟩
theorem c_flw (h : MR w x F s q ν ρ) {a : Nat} (ha : a < 24) : ∃ w', fX1_flowOf x (zN a) w = some (zN (flwN ρ 0 (-1) 0 a), w') ∧ Kf w w' F := by
  have hI := h.inv
  have h2 := hI.h2
  obtain ⟨w1, e1, hK1⟩ := c_usr h ha
  have h1 := h.kf hK1
  have hlt := usrN_lt (m := 0) (aw := -1) (fz := 0) hI a
  have H : fX1_flowOf_l11 x (zN (usrN ρ 0 (-1) 0 a)) 0 0 w1 = some (zN (flwN ρ 0 (-1) 0 a), w1) := by
    refine wh_run (fun i => (zN (sgN (fun t => if useB ρ 0 (-1) 0 t a then pDe ρ t else 0) i), zN i, w1)) (ρ 2) _ (fun i hi => ?_) ?_ (ρ 2) 0 (by omega)
    · have n1 : ¬ (ρ 2 ≤ i) := by omega
      have hb : (usrN ρ 0 (-1) 0 a).testBit i = useB ρ 0 (-1) 0 i a := by
        unfold usrN
        rw [msk_bit, decide_eq_true hi, Bool.true_and]
      obtain ⟨d1, d2⟩ := c_dem h1 hi
      rw [sgN]
      cases hu : useB ρ 0 (-1) 0 i a with
      | true =>
        rw [hu] at hb
        simp (disch := omega) only [b2_some, bd_some, nm_eq, Option.map_some, zN_lit, zN_add, zN_mul, zN_neg1, if_true, if_false, reduceIte, eq_self, Nat.reduceEqDiff, Nat.reduceAdd, Nat.reduceMul, Nat.reduceSub, Nat.reduceLeDiff, Nat.one_ne_zero, not_false_eq_true, Bool.false_eq_true, zN_eq, zN_lt, zN_le,  fX1_flowOf_b11, h1.g0, h1.g1, h1.xI, h1.1.FI, c_snet h1.1.2.1, c_sI h1.1.2.1, c_nal h1.1.2.2.1, c_ntl h1.1.2.2.1, c_nn h1.1.2.2.1, c_alI h1.1.2.2.1, c_tlI h1.1.2.2.1, c_size h1.1.2.2.1, c_size2 h1.1.2.2.1, n1, zN_btz, hb, d1, d2, fX1_flowOf_b56]
      | false =>
        rw [hu] at hb
        simp (disch := omega) only [b2_some, bd_some, nm_eq, Option.map_some, zN_lit, zN_add, zN_mul, zN_neg1, if_true, if_false, reduceIte, eq_self, Nat.reduceEqDiff, Nat.reduceAdd, Nat.reduceMul, Nat.reduceSub, Nat.reduceLeDiff, Nat.one_ne_zero, not_false_eq_true, Bool.false_eq_true, zN_eq, zN_lt, zN_le,  fX1_flowOf_b11, h1.g0, h1.g1, h1.xI, h1.1.FI, c_snet h1.1.2.1, c_sI h1.1.2.1, c_nal h1.1.2.2.1, c_ntl h1.1.2.2.1, c_nn h1.1.2.2.1, c_alI h1.1.2.2.1, c_tlI h1.1.2.2.1, c_size h1.1.2.2.1, c_size2 h1.1.2.2.1, n1, zN_btz, hb, d1, d2, fX1_flowOf_b56, Nat.zero_ne_one]
    · simp (disch := omega) only [b2_some, bd_some, nm_eq, Option.map_some, zN_lit, zN_add, zN_mul, zN_neg1, if_true, if_false, reduceIte, eq_self, Nat.reduceEqDiff, Nat.reduceAdd, Nat.reduceMul, Nat.reduceSub, Nat.reduceLeDiff, Nat.one_ne_zero, not_false_eq_true, Bool.false_eq_true, zN_eq, zN_lt, zN_le,  fX1_flowOf_b11, h1.g0, h1.g1, h1.xI, h1.1.FI, c_snet h1.1.2.1, c_sI h1.1.2.1, c_nal h1.1.2.2.1, c_ntl h1.1.2.2.1, c_nn h1.1.2.2.1, c_alI h1.1.2.2.1, c_tlI h1.1.2.2.1, c_size h1.1.2.2.1, c_size2 h1.1.2.2.1, Nat.le_refl]
      rfl
  refine ⟨w1, ?_, hK1⟩
  have H' : fX1_flowOf_l11 x (zN (usrN ρ 0 (-1) 0 a)) (zN 0) (zN 0) w1 = _ := H
  simp (disch := omega) only [b2_some, bd_some, nm_eq, Option.map_some, zN_lit, zN_add, zN_mul, zN_neg1, if_true, if_false, reduceIte, eq_self, Nat.reduceEqDiff, Nat.reduceAdd, Nat.reduceMul, Nat.reduceSub, Nat.reduceLeDiff, Nat.one_ne_zero, not_false_eq_true, Bool.false_eq_true, zN_eq, zN_lt, zN_le,  fX1_flowOf, h.xI, e1, H']
theorem c_busy (h : MR w x F s q ν ρ) : ∃ w', fX1_busiest x w = some (zI (bsyI ρ 0 (-1) 0), w') ∧ Kf w w' F := by
  have hI := h.inv
  have h1 := hI.h1
  have H : ∃ r, fX1_busiest_l6 x (-1) (-1) 0 w = some r ∧ ∃ w', r = (zI (bsyI ρ 0 (-1) 0), w') ∧ Kf w w' F := by
    refine wh_up (P := fun i y => i ≤ ρ 1 ∧ ∃ w', y = (zI (bsy (fun a => (flwN ρ 0 (-1) 0 a : Int)) i).1, zI (bsy (fun a => (flwN ρ 0 (-1) 0 a : Int)) i).2, zN i, w') ∧ Kf w w' F) (ρ 1) ?_ ?_ (ρ 1) 0 _ (by omega) ⟨by omega, w, rfl, Kf.refl h.1.1⟩
    · rintro i y hi ⟨-, w', rfl, hK⟩
      have h' := h.kf hK
      obtain ⟨w2, e2, hK2⟩ := c_flw h' (a := i) (by omega)
      left
      have hr := bsy_rng (f := fun a => (flwN ρ 0 (-1) 0 a : Int)) (D := 5994) (by omega) i (fun k hk => by have := flwN_le (m := 0) (aw := -1) (fz := 0) hI k; omega)
      have hf := flwN_le (m := 0) (aw := -1) (fz := 0) hI i
      have n1 : ¬ (ρ 1 ≤ i) := by omega
      have n2 : (zN (flwN ρ 0 (-1) 0 i) ≤ zI (bsy (fun a => (flwN ρ 0 (-1) 0 a : Int)) i).2) = ((flwN ρ 0 (-1) 0 i : Int) ≤ (bsy (fun a => (flwN ρ 0 (-1) 0 a : Int)) i).2) := zI_le (by omega) (by omega)
      have n3 : mxI (zI (bsy (fun a => (flwN ρ 0 (-1) 0 a : Int)) i).2) (zN (flwN ρ 0 (-1) 0 i)) = _ := mxI_z (b := (flwN ρ 0 (-1) 0 i : Int)) (by omega) (by omega)
      refine ⟨_, ?_, by omega, w2, rfl, hK.trans hK2⟩
      rw [bsy]
      by_cases hc : (flwN ρ 0 (-1) 0 i : Int) ≤ (bsy (fun a => (flwN ρ 0 (-1) 0 a : Int)) i).2
      · have hc' : ¬ ((bsy (fun a => (flwN ρ 0 (-1) 0 a : Int)) i).2 < (flwN ρ 0 (-1) 0 i : Int)) := by omega
        simp (disch := omega) only [b2_some, bd_some, nm_eq, Option.map_some, zN_lit, zN_add, zN_mul, zN_neg1, if_true, if_false, reduceIte, eq_self, Nat.reduceEqDiff, Nat.reduceAdd, Nat.reduceMul, Nat.reduceSub, Nat.reduceLeDiff, Nat.one_ne_zero, not_false_eq_true, Bool.false_eq_true, zN_eq, zN_lt, zN_le,  fX1_busiest_b6, h'.g0, h'.g1, h'.xI, h'.1.FI, c_snet h'.1.2.1, c_sI h'.1.2.1, c_nal h'.1.2.2.1, c_ntl h'.1.2.2.1, c_nn h'.1.2.2.1, c_alI h'.1.2.2.1, c_tlI h'.1.2.2.1, c_size h'.1.2.2.1, c_size2 h'.1.2.2.1, n1, e2, n2, n3, hc, hc', fX1_busiest_b43]
      · have hc' : (bsy (fun a => (flwN ρ 0 (-1) 0 a : Int)) i).2 < (flwN ρ 0 (-1) 0 i : Int) := by omega
        simp (disch := omega) only [b2_some, bd_some, nm_eq, Option.map_some, zN_lit, zN_add, zN_mul, zN_neg1, if_true, if_false, reduceIte, eq_self, Nat.reduceEqDiff, Nat.reduceAdd, Nat.reduceMul, Nat.reduceSub, Nat.reduceLeDiff, Nat.one_ne_zero, not_false_eq_true, Bool.false_eq_true, zN_eq, zN_lt, zN_le,  fX1_busiest_b6, h'.g0, h'.g1, h'.xI, h'.1.FI, c_snet h'.1.2.1, c_sI h'.1.2.1, c_nal h'.1.2.2.1, c_ntl h'.1.2.2.1, c_nn h'.1.2.2.1, c_alI h'.1.2.2.1, c_tlI h'.1.2.2.1, c_size h'.1.2.2.1, c_size2 h'.1.2.2.1, n1, e2, n2, n3, hc, hc', fX1_busiest_b43]
        rfl
    · rintro y ⟨-, w', rfl, hK⟩
      have h' := h.kf hK
      refine ⟨_, ?_, w', rfl, hK⟩
      simp (disch := omega) only [b2_some, bd_some, nm_eq, Option.map_some, zN_lit, zN_add, zN_mul, zN_neg1, if_true, if_false, reduceIte, eq_self, Nat.reduceEqDiff, Nat.reduceAdd, Nat.reduceMul, Nat.reduceSub, Nat.reduceLeDiff, Nat.one_ne_zero, not_false_eq_true, Bool.false_eq_true, zN_eq, zN_lt, zN_le,  fX1_busiest_b6, h'.g0, h'.g1, h'.xI, h'.1.FI, c_snet h'.1.2.1, c_sI h'.1.2.1, c_nal h'.1.2.2.1, c_ntl h'.1.2.2.1, c_nn h'.1.2.2.1, c_alI h'.1.2.2.1, c_tlI h'.1.2.2.1, c_size h'.1.2.2.1, c_size2 h'.1.2.2.1, Nat.le_refl]
      rfl
  obtain ⟨r, e, w', rfl, hK⟩ := H
  exact ⟨w', e, hK⟩
theorem c_tolls {p : List Nat} (h : MS w F s q ν ρ) (hp : ∀ a ∈ p, a < ρ 1) (hl : p.length < 10) (hP : PaC w F p) : fX4_tolls F s w = some (zN (ptl ρ p), w) := by
  obtain ⟨h1, f, h2, h3⟩ := hP
  have hI := h.2.2.2.1
  have i5 : gI w F 23 5 = some (zN p.length) := c_I h1 5
  have e1 : gR w s 21 1 = some (some q) := c_R h.2.1.1 1
  obtain ⟨f', t1, t2⟩ := h.2.1.2.1
  refine wh_run (fun i => (zN (sgN (fun i => aTl ρ (p.getD i 0)) i), zN i, w)) p.length _ (fun i hi => ?_) ?_ p.length 0 (by omega)
  · have n1 : ¬ (p.length ≤ i) := by omega
    have g := hp _ (getD_mem hi)
    have b := hI.ha g
    have l1 : ldI w (F + 3) 0 (zN i) = some (zN (p.getD i 0)) := by
      rw [← h3.get hi]
      exact c_ldI h2 (by omega) (by omega)
    have l2 : ldI w q 0 (zN (p.getD i 0)) = some (zN (aTl ρ (p.getD i 0))) := by rw [c_ldI t1 (by omega) (by omega), t2 _ (by omega)]
    simp (disch := omega) only [b2_some, bd_some, nm_eq, Option.map_some, zN_lit, zN_add, zN_mul, zN_neg1, if_true, if_false, reduceIte, eq_self, Nat.reduceEqDiff, Nat.reduceAdd, Nat.reduceMul, Nat.reduceSub, Nat.reduceLeDiff, Nat.one_ne_zero, not_false_eq_true, Bool.false_eq_true, zN_eq, zN_lt, zN_le,  fX4_tolls_b4, i5, n1, e1, c_gP h.1, l1, l2]
    rfl
  · simp (disch := omega) only [b2_some, bd_some, nm_eq, Option.map_some, zN_lit, zN_add, zN_mul, zN_neg1, if_true, if_false, reduceIte, eq_self, Nat.reduceEqDiff, Nat.reduceAdd, Nat.reduceMul, Nat.reduceSub, Nat.reduceLeDiff, Nat.one_ne_zero, not_false_eq_true, Bool.false_eq_true, zN_eq, zN_lt, zN_le,  fX4_tolls_b4, i5, Nat.le_refl]
    rfl
theorem c_costs {p : List Nat} (h : MS w F s q ν ρ) (hp : ∀ a ∈ p, a < ρ 1) (hl : p.length < 10) (hP : PaC w F p) : fX4_costs F s w = some (zN (pco ρ p), w) := by
  obtain ⟨h1, f, h2, h3⟩ := hP
  have hI := h.2.2.2.1
  have i5 : gI w F 23 5 = some (zN p.length) := c_I h1 5
  refine wh_run (fun i => (zN (sgN (fun i => aCo ρ (p.getD i 0)) i), zN i, w)) p.length _ (fun i hi => ?_) ?_ p.length 0 (by omega)
  · have n1 : ¬ (p.length ≤ i) := by omega
    have g := hp _ (getD_mem hi)
    have b := hI.ha g
    have l1 : ldI w (F + 3) 0 (zN i) = some (zN (p.getD i 0)) := by
      rw [← h3.get hi]
      exact c_ldI h2 (by omega) (by omega)
    simp (disch := omega) only [b2_some, bd_some, nm_eq, Option.map_some, zN_lit, zN_add, zN_mul, zN_neg1, if_true, if_false, reduceIte, eq_self, Nat.reduceEqDiff, Nat.reduceAdd, Nat.reduceMul, Nat.reduceSub, Nat.reduceLeDiff, Nat.one_ne_zero, not_false_eq_true, Bool.false_eq_true, zN_eq, zN_lt, zN_le,  fX4_costs_b4, i5, n1, c_snet h.2.1, c_nal h.2.2.1, c_gP h.1, l1, c_alI h.2.2.1, c_geta h.2.2.1 hI g, c_aI h.2.2.1 g, c_cost h.2.2.1 g]
    rfl
  · simp (disch := omega) only [b2_some, bd_some, nm_eq, Option.map_some, zN_lit, zN_add, zN_mul, zN_neg1, if_true, if_false, reduceIte, eq_self, Nat.reduceEqDiff, Nat.reduceAdd, Nat.reduceMul, Nat.reduceSub, Nat.reduceLeDiff, Nat.one_ne_zero, not_false_eq_true, Bool.false_eq_true, zN_eq, zN_lt, zN_le,  fX4_costs_b4, i5, Nat.le_refl]
    rfl
theorem c_brings (h : MR w x F s q ν ρ) (ht : t < ρ 2) : ∃ w', fX1_brings x (zN t) w = some (zJ (brI ρ 0 (-1) 0 t), w') ∧ Kf w w' F := by
  have hI := h.inv
  have c := hI.ht ht
  obtain ⟨w', e, hK, hP⟩ := c_walk h.1 ht
  have h' := h.kf hK
  refine ⟨w', ?_, hK⟩
  unfold brI
  cases hp : PT ρ 0 (-1) 0 t with
  | none =>
    rw [hp] at e
    simp (disch := omega) only [b2_some, bd_some, nm_eq, Option.map_some, zN_lit, zN_add, zN_mul, zN_neg1, if_true, if_false, reduceIte, eq_self, Nat.reduceEqDiff, Nat.reduceAdd, Nat.reduceMul, Nat.reduceSub, Nat.reduceLeDiff, Nat.one_ne_zero, not_false_eq_true, Bool.false_eq_true, zN_eq, zN_lt, zN_le,  fX1_brings, h.g0, h.g1, h.xI, h.1.FI, c_snet h.1.2.1, c_sI h.1.2.1, c_nal h.1.2.2.1, c_ntl h.1.2.2.1, c_nn h.1.2.2.1, c_alI h.1.2.2.1, c_tlI h.1.2.2.1, c_size h.1.2.2.1, c_size2 h.1.2.2.1, c_gett h.1.2.2.1 hI ht, c_tI h.1.2.2.1 ht, e, Option.isSome_none]
    rfl
  | some p =>
    rw [hp] at e
    obtain ⟨g1, g2, g3⟩ := PT_24 hI ht hp
    have e2 := c_tolls h'.1 g2 g1 (hP p hp)
    obtain ⟨d1, d2⟩ := c_dem h' ht
    have h7 := ptl_le hI ht hp
    simp (disch := omega) only [b2_some, bd_some, nm_eq, Option.map_some, zN_lit, zN_add, zN_mul, zN_neg1, if_true, if_false, reduceIte, eq_self, Nat.reduceEqDiff, Nat.reduceAdd, Nat.reduceMul, Nat.reduceSub, Nat.reduceLeDiff, Nat.one_ne_zero, not_false_eq_true, Bool.false_eq_true, zN_eq, zN_lt, zN_le,  fX1_brings, h.g0, h.g1, h.xI, h.1.FI, c_snet h.1.2.1, c_sI h.1.2.1, c_nal h.1.2.2.1, c_ntl h.1.2.2.1, c_nn h.1.2.2.1, c_alI h.1.2.2.1, c_tlI h.1.2.2.1, c_size h.1.2.2.1, c_size2 h.1.2.2.1, c_gett h.1.2.2.1 hI ht, c_tI h.1.2.2.1 ht, e, Option.isSome_some, h'.g0, d1, d2, h'.g1, h'.1.FI, e2, zN_J, zJ_mul]
theorem c_all (h : MR w x F s q ν ρ) : ∃ w', fX1_brought x w = some (zJ (allI ρ 0 (-1) 0), w') ∧ Kf w w' F := by
  have hI := h.inv
  have h2 := hI.h2
  have H : ∃ r, fX1_brought_l4 x 0 0 w = some r ∧ ∃ w', r = (zJ (allI ρ 0 (-1) 0), w') ∧ Kf w w' F := by
    refine wh_up (P := fun i y => i ≤ ρ 2 ∧ ∃ w', y = (zJ (sgI (brI ρ 0 (-1) 0) i), zN i, w') ∧ Kf w w' F) (ρ 2) ?_ ?_ (ρ 2) 0 _ (by omega) ⟨by omega, w, rfl, Kf.refl h.1.1⟩
    · rintro i y hi ⟨-, w', rfl, hK⟩
      have h' := h.kf hK
      obtain ⟨w2, e2, hK2⟩ := c_brings h' hi
      left
      refine ⟨_, ?_, by omega, w2, rfl, hK.trans hK2⟩
      have n1 : ¬ (ρ 2 ≤ i) := by omega
      rw [sgI]
      simp (disch := omega) only [b2_some, bd_some, nm_eq, Option.map_some, zN_lit, zN_add, zN_mul, zN_neg1, if_true, if_false, reduceIte, eq_self, Nat.reduceEqDiff, Nat.reduceAdd, Nat.reduceMul, Nat.reduceSub, Nat.reduceLeDiff, Nat.one_ne_zero, not_false_eq_true, Bool.false_eq_true, zN_eq, zN_lt, zN_le,  fX1_brought_b4, h'.g0, h'.g1, h'.xI, h'.1.FI, c_snet h'.1.2.1, c_sI h'.1.2.1, c_nal h'.1.2.2.1, c_ntl h'.1.2.2.1, c_nn h'.1.2.2.1, c_alI h'.1.2.2.1, c_tlI h'.1.2.2.1, c_size h'.1.2.2.1, c_size2 h'.1.2.2.1, n1, e2, zJ_add]
    · rintro y ⟨-, w', rfl, hK⟩
      have h' := h.kf hK
      refine ⟨_, ?_, w', rfl, hK⟩
      simp (disch := omega) only [b2_some, bd_some, nm_eq, Option.map_some, zN_lit, zN_add, zN_mul, zN_neg1, if_true, if_false, reduceIte, eq_self, Nat.reduceEqDiff, Nat.reduceAdd, Nat.reduceMul, Nat.reduceSub, Nat.reduceLeDiff, Nat.one_ne_zero, not_false_eq_true, Bool.false_eq_true, zN_eq, zN_lt, zN_le,  fX1_brought_b4, h'.g0, h'.g1, h'.xI, h'.1.FI, c_snet h'.1.2.1, c_sI h'.1.2.1, c_nal h'.1.2.2.1, c_ntl h'.1.2.2.1, c_nn h'.1.2.2.1, c_alI h'.1.2.2.1, c_tlI h'.1.2.2.1, c_size h'.1.2.2.1, c_size2 h'.1.2.2.1, Nat.le_refl]
      rfl
  obtain ⟨r, e, w', rfl, hK⟩ := H
  exact ⟨w', e, hK⟩
theorem dW6 (ρ : Nat → Nat) (t n : Nat) : dW ρ t 6 n = lT ρ 0 (-1) 0 t n := rfl
theorem c_fltBy (h : MR w x F s q ν ρ) (ht : t < ρ 2) : ∃ w', fX1_feltBy x (nTr ν t) w = some (encF (lT ρ 0 (-1) 0 t (pFr ρ t)), w') ∧ Kf w w' F := by
  obtain ⟨f, e, hf⟩ := c_meas h.1 (k := 6) (by omega) ht
  rw [dW6] at e
  refine ⟨_, ?_, Kf.far h.1.1 f⟩
  simp (disch := omega) only [b2_some, bd_some, nm_eq, Option.map_some, zN_lit, zN_add, zN_mul, zN_neg1, if_true, if_false, reduceIte, eq_self, Nat.reduceEqDiff, Nat.reduceAdd, Nat.reduceMul, Nat.reduceSub, Nat.reduceLeDiff, Nat.one_ne_zero, not_false_eq_true, Bool.false_eq_true, zN_eq, zN_lt, zN_le,  fX1_feltBy, h.g0, h.g1, h.xI, h.1.FI, c_snet h.1.2.1, c_sI h.1.2.1, c_nal h.1.2.2.1, c_ntl h.1.2.2.1, c_nn h.1.2.2.1, c_alI h.1.2.2.1, c_tlI h.1.2.2.1, c_size h.1.2.2.1, c_size2 h.1.2.2.1, e]
end
