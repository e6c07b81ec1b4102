/-! Plain law: the component improves -/
/-- classes that do not make up a state, a network, the finder, the root -/
def fk (k : Nat) : Prop := k ≠ 0 ∧ k ≠ 2 ∧ k ≠ 17 ∧ k ≠ 21 ∧ k ≠ 22 ∧ k ≠ 23 ∧ k ≠ 27 ∧ k ≠ 28
theorem alW_zero {ρ : Nat → Nat} {a : Nat} (hI : Inv ρ) (ha : a < ρ 1) (h0 : aMx ρ a = 0) : alW ρ a (bst ρ a) = allI ρ 0 (-1) 0 := by
  have c := hI.ha ha
  have hb : bst ρ a = 0 := by
    unfold bst
    split
    · rename_i h
      have := cnd_le h.choose_spec.1
      omega
    · rfl
  unfold alW
  rw [hb, show (0 : Nat) = aTl ρ a by omega, stl_self]
section
variable {w : WH} {x s q F : Nat} {ρ : Nat → Nat} {ν : NH} {t a I : Nat}
theorem MR.upf (h : MR w x F s q ν ρ) {b k : Nat} {fs : List Value} (hb : w.1 b = some (.inr (k, fs))) (hk : fk k) (z : hE) : MR (hUp w b z) x F s q ν ρ := by
  obtain ⟨k1, k2, k3, k4, k5, k6, k7, k8⟩ := hk
  have na : ∀ y, (kd (.inr (k, fs)) == kd (.inl y)) = false ∨ y.1 = 100 + k := fun y => by
    by_cases e : y.1 = 100 + k
    · exact .inr e
    · refine .inl (beq_false_of_ne fun g => e ?_)
      exact (congrArg (fun z => z.1) g).symm
  have ni : ∀ {c : hE} {b' : Nat}, w.1 b' = some c → (kd c).1 ≠ 100 + k → (hUp w b z).1 b' = some c := fun hc hn => keep_kd hb hc (beq_false_of_ne fun g => hn (congrArg (fun z => z.1) g).symm) z
  obtain ⟨⟨h1, h2, ⟨n1, n2, ⟨g, n3, n4⟩, n5, n6, ⟨g', n7, n8⟩, n9⟩, h4, h5⟩, P, Sn, Tx, Ou, len, err, es, h6⟩ := h
  obtain ⟨s1, ⟨f, s2, s3⟩, ⟨f', s4, s5⟩, s6, ⟨g2, s7, s8⟩⟩ := h2
  refine ⟨⟨h1.upo (h1.out hb ?_) z, ⟨ni s1 ?_, ⟨f, ni s2 ?_, s3⟩, ⟨f', ni s4 ?_, s5⟩, ni s6 ?_, ⟨g2, ni s7 ?_, s8⟩⟩, ⟨ni n1 ?_, ni n2 ?_, ⟨g, ni n3 ?_, n4⟩, fun j hj => ni (n5 j hj) ?_, ni n6 ?_, ⟨g', ni n7 ?_, n8⟩, fun j hj => ni (n9 j hj) ?_⟩, h4, h5⟩, P, Sn, Tx, Ou, len, err, es, ni h6 ?_⟩
  · show (k == 23) = false
    exact beq_false_of_ne k6
  · show 100 + 21 ≠ 100 + k; omega
  · show 0 ≠ 100 + k; omega
  · show 0 ≠ 100 + k; omega
  · show 100 + 0 ≠ 100 + k; omega
  · show 1 ≠ 100 + k; omega
  · show 100 + 22 ≠ 100 + k; omega
  · show 100 + 2 ≠ 100 + k; omega
  · show 4 ≠ 100 + k; omega
  · show 100 + 27 ≠ 100 + k; omega
  · show 100 + 2 ≠ 100 + k; omega
  · show 4 ≠ 100 + k; omega
  · show 100 + 28 ≠ 100 + k; omega
  · show 100 + 17 ≠ 100 + k; omega
/-- the next arc of an iterator -/
theorem c_itA (h : MR w x F s q ν ρ) (hW : WF w) {Q : Nat → Prop} {w0 : WH} {c n : Nat} (hK : Kg F Q w0 w c n) {i : Nat} {lr : Int32} (hi : i < ρ 1) (hI : w.1 I = some (itC i lr ν.2.2.2.1 (nAl ν))) (hf : wN w0 ≤ I) :
    hIs w I 4 = some () ∧ fJ21_hasNext I w = some (zN 1, w) ∧ ∃ w1, fJ21_next I w = some (some (nAr ν i), w1) ∧ MR w1 x F s q ν ρ ∧ WF w1 ∧ Kg F Q w0 w1 c n ∧ w1.1 I = some (itC (i + 1) (zN i) ν.2.2.2.1 (nAl ν)) ∧ (wC w1 = wC w ∧ wS w1 = wS w) := by
  obtain ⟨g, hL, hg⟩ := h.1.2.2.1.la h.inv
  have e1 := c_hasN hL hI (Nat.le_of_lt hi)
  rw [if_neg (by omega)] at e1
  have e2 := c_nxt hL hI hi
  rw [hg i hi] at e2
  exact ⟨c_C hI, e1, _, e2, h.upf hI (show fk 4 by unfold fk; omega) _, hW.up (hW.lt hI) _, hK.up hI rfl (.inl hf) _, hUp_eq _ _ _, rfl, rfl⟩
theorem c_itAe (h : MR w x F s q ν ρ) {lr : Int32} (hI : w.1 I = some (itC (ρ 1) lr ν.2.2.2.1 (nAl ν))) : hIs w I 4 = some () ∧ fJ21_hasNext I w = some (zN 0, w) := by
  obtain ⟨g, hL, hg⟩ := h.1.2.2.1.la h.inv
  have e1 := c_hasN hL hI (Nat.le_refl _)
  rw [if_pos rfl] at e1
  exact ⟨c_C hI, e1⟩
theorem c_itT (h : MR w x F s q ν ρ) (hW : WF w) {Q : Nat → Prop} {w0 : WH} {c n : Nat} (hK : Kg F Q w0 w c n) {i : Nat} {lr : Int32} (hi : i < ρ 2) (hI : w.1 I = some (itC i lr ν.2.2.2.2 (nTl ν))) (hf : wN w0 ≤ I) :
    hIs w I 4 = some () ∧ fJ21_hasNext I w = some (zN 1, w) ∧ ∃ w1, fJ21_next I w = some (some (nTr ν i), w1) ∧ MR w1 x F s q ν ρ ∧ WF w1 ∧ Kg F Q w0 w1 c n ∧ w1.1 I = some (itC (i + 1) (zN i) ν.2.2.2.2 (nTl ν)) ∧ w1 = hUp w I (itC (i + 1) (zN i) ν.2.2.2.2 (nTl ν)) := by
  obtain ⟨g, hL, hg⟩ := h.1.2.2.1.lt h.inv
  have e1 := c_hasN hL hI (Nat.le_of_lt hi)
  rw [if_neg (by omega)] at e1
  have e2 := c_nxt hL hI hi
  rw [hg i hi] at e2
  exact ⟨c_C hI, e1, _, e2, h.upf hI (show fk 4 by unfold fk; omega) _, hW.up (hW.lt hI) _, hK.up hI rfl (.inl hf) _, hUp_eq _ _ _, rfl⟩
theorem c_itTe (h : MR w x F s q ν ρ) {lr : Int32} (hI : w.1 I = some (itC (ρ 2) lr ν.2.2.2.2 (nTl ν))) : hIs w I 4 = some () ∧ fJ21_hasNext I w = some (zN 0, w) := by
  obtain ⟨g, hL, hg⟩ := h.1.2.2.1.lt h.inv
  have e1 := c_hasN hL hI (Nat.le_refl _)
  rw [if_pos rfl] at e1
  exact ⟨c_C hI, e1⟩
theorem c_itN (h : MR w x F s q ν ρ) (hW : WF w) (h1 : 1 ≤ wC w) (h2 : 4 ≤ wS w) : fJ2_iterator (nAl ν) w = some (some (wN w), hMk w 4 (itC 0 (-1) ν.2.2.2.1 (nAl ν))) ∧ fJ2_iterator (nTl ν) w = some (some (wN w), hMk w 4 (itC 0 (-1) ν.2.2.2.2 (nTl ν))) := by
  obtain ⟨g, hL, -⟩ := h.1.2.2.1.la h.inv
  obtain ⟨g', hL', -⟩ := h.1.2.2.1.lt h.inv
  exact ⟨c_iter hL h1 h2 hW, c_iter hL' h1 h2 hW⟩
theorem c_impr (h : MR w x F s q ν ρ) (hW : WF w) (hC : 25 ≤ wC w) (hS : 100 ≤ wS w) : ∃ w', fX1_improved x w = some (zN (imp ρ (ρ 1)).2, w') ∧ MR w' x F s q ν (imp ρ (ρ 1)).1 ∧ Kg F (· = q) w w' 25 100 := by
  have hI := h.inv
  have h1 := hI.h1
  have K0 : Kg F (· = q) w (hMk w 4 (itC 0 (-1) ν.2.2.2.1 (nAl ν))) 1 4 := Kg.mk h.FC hW _ _
  have K0' : Kg F nQ w (hMk w 4 (itC 0 (-1) ν.2.2.2.1 (nAl ν))) 1 4 := Kg.mk h.FC hW _ _
  have M0 := h.kg hW K0'
  have H : ∃ r, fX1_improved_l18 x 0 (some (wN w)) (hMk w 4 (itC 0 (-1) ν.2.2.2.1 (nAl ν))) = some r ∧ ∃ w', r = (zN (imp ρ (ρ 1)).2, w') ∧ MR w' x F s q ν (imp ρ (ρ 1)).1 ∧ Kg F (· = q) w w' 25 100 := by
    refine wh_up (P := fun i y => i ≤ ρ 1 ∧ ∃ w' lr, y = (zN (imp ρ i).2, w') ∧ MR w' x F s q ν (imp ρ i).1 ∧ Kg F (· = q) w w' (1 + i) (4 + 4 * i) ∧ w'.1 (wN w) = some (itC i lr ν.2.2.2.1 (nAl ν))) (ρ 1) ?_ ?_ (ρ 1) 0 _ (by omega) ⟨by omega, _, _, rfl, M0, K0, hMk_eq _ _ _⟩
    · rintro i y hi ⟨-, w', lr, rfl, hM, hK, hIt⟩
      have hI' := hM.inv
      have e1 : (imp ρ i).1 1 = ρ 1 := imp_low i (by omega)
      have hi' : i < (imp ρ i).1 1 := by omega
      have ci := hI'.ha hi'
      have hcn := imp_cnt (ρ := ρ) i
      obtain ⟨i1, i2, w1, i3, M1, W1, K1, T1, -⟩ := c_itA hM hK.2.2.1 hK hi' hIt (Nat.le_refl _)
      have hCS : 1 ≤ wC w1 ∧ 4 ≤ wS w1 := by
        have := K1.2.2.2.2.2
        omega
      have hai := c_aI M1.1.2.2.1 hi'
      have hmo := c_most M1.1.2.2.1 hi'
      left
      by_cases h0 : aMx (imp ρ i).1 i = 0
      · have es : imp ρ (i + 1) = imp ρ i := by
          rw [imp, if_neg]
          rw [alW_zero hI' hi' h0]
          exact Int.lt_irrefl _
        rw [h0] at hmo
        refine ⟨(zN (imp ρ (i + 1)).2, w1), ?_, by omega, w1, _, rfl, by rw [es]; exact M1, K1.mono (by omega) (by omega), T1⟩
        rw [es]
        simp (disch := omega) only [b2_some, bd_some, nm_eq, Option.map_some, zN_lit, zN_add, zN_mul, zN_neg1, if_true, if_false, reduceIte, eq_self, Nat.reduceEqDiff, Nat.reduceAdd, Nat.reduceMul, Nat.reduceSub, Nat.reduceLeDiff, Nat.one_ne_zero, not_false_eq_true, Bool.false_eq_true, zN_eq, zN_lt, zN_le,  fX1_improved_b18, i1, i2, i3, hai, hmo]
      · obtain ⟨w2, e2, k2, t2, B2⟩ := c_trial M1 W1 hi'
        rw [show (0 : Int32) = zN 0 from rfl] at e2
        have M2 := M1.kg W1 k2
        have T2 := k2.keep M1.FC W1 T1 rfl id
        have g2 : gJ w2 (wN w1) 18 2 = some (zJ (alW (imp ρ i).1 i (bst (imp ρ i).1 i))) := c_J t2 2
        obtain ⟨w3, e3, k3⟩ := c_all M2
        have M3 := M2.kf k3
        have T3 := k3.keep M2.FC T2 rfl
        have t3 := k3.keep M2.FC t2 rfl
        have g3 : gI w3 (wN w1) 18 1 = some (zN (bst (imp ρ i).1 i)) := c_I t3 1
        have K3 : Kg F (· = q) w w3 (1 + (i + 1)) (4 + 4 * (i + 1)) := ((K1.tr0 k2).tr0 (k3.kg M2.FC k2.2.2.1)).mono (by omega) (by omega)
        have b2 := cnd_le B2.1
        have c1 := allI_rng (m := 0) (aw := -1) (fz := 0) hI'
        have c2 : 0 ≤ alW (imp ρ i).1 i (bst (imp ρ i).1 i) ∧ alW (imp ρ i).1 i (bst (imp ρ i).1 i) ≤ 539406054 := allI_rng (hI'.stl hi' b2)
        have m2 := lgc_gt (a := alW (imp ρ i).1 i (bst (imp ρ i).1 i)) (b := allI (imp ρ i).1 0 (-1) 0) ⟨by omega, by omega⟩ ⟨by omega, by omega⟩
        by_cases c : allI (imp ρ i).1 0 (-1) 0 < alW (imp ρ i).1 i (bst (imp ρ i).1 i)
        · have es : imp ρ (i + 1) = (stl (imp ρ i).1 i (bst (imp ρ i).1 i), (imp ρ i).2 + 1) := by rw [imp, if_pos c]
          rw [eq_true c] at m2
          obtain ⟨f, hf, hfv⟩ := M3.1.2.1.2.1
          have s1 : stI w3 q 0 (zN i) (zN (bst (imp ρ i).1 i)) = some (hUp w3 q (tolC (upd f i (zN (bst (imp ρ i).1 i))))) := c_stI hf (by omega) (by omega) _
          refine ⟨(zN ((imp ρ i).2 + 1), hUp w3 q (tolC (upd f i (zN (bst (imp ρ i).1 i))))), ?_, by omega, _, _, by rw [es], by rw [es]; exact M3.stl hf hfv hi' b2, K3.up hf rfl (.inr rfl) _, keep_kd hf T3 rfl _⟩
          simp (disch := omega) only [b2_some, bd_some, nm_eq, Option.map_some, zN_lit, zN_add, zN_mul, zN_neg1, if_true, if_false, reduceIte, eq_self, Nat.reduceEqDiff, Nat.reduceAdd, Nat.reduceMul, Nat.reduceSub, Nat.reduceLeDiff, Nat.one_ne_zero, not_false_eq_true, Bool.false_eq_true, zN_eq, zN_lt, zN_le,  fX1_improved_b18, i1, i2, i3, hai, hmo, h0, c_new hCS.1 hCS.2, e2, g2, M2.xI, e3, m2, fX1_improved_b74, M3.g0, c_gtl M3, c_aI M3.1.2.2.1 hi', c_num M3.1.2.2.1 hi', g3, s1]
        · have es : imp ρ (i + 1) = imp ρ i := by rw [imp, if_neg c]
          rw [eq_false c] at m2
          refine ⟨(zN (imp ρ (i + 1)).2, w3), ?_, by omega, w3, _, rfl, by rw [es]; exact M3, K3, T3⟩
          rw [es]
          simp (disch := omega) only [b2_some, bd_some, nm_eq, Option.map_some, zN_lit, zN_add, zN_mul, zN_neg1, if_true, if_false, reduceIte, eq_self, Nat.reduceEqDiff, Nat.reduceAdd, Nat.reduceMul, Nat.reduceSub, Nat.reduceLeDiff, Nat.one_ne_zero, not_false_eq_true, Bool.false_eq_true, zN_eq, zN_lt, zN_le,  fX1_improved_b18, i1, i2, i3, hai, hmo, h0, c_new hCS.1 hCS.2, e2, g2, M2.xI, e3, m2, fX1_improved_b71]
    · rintro y ⟨-, w', lr, rfl, hM, hK, hIt⟩
      have e1 : (imp ρ (ρ 1)).1 1 = ρ 1 := imp_low _ (by omega)
      obtain ⟨i1, i2⟩ := c_itAe (lr := lr) hM (by rw [e1]; exact hIt)
      refine ⟨_, ?_, w', rfl, hM, hK.mono (by omega) (by omega)⟩
      simp (disch := omega) only [b2_some, bd_some, nm_eq, Option.map_some, zN_lit, zN_add, zN_mul, zN_neg1, if_true, if_false, reduceIte, eq_self, Nat.reduceEqDiff, Nat.reduceAdd, Nat.reduceMul, Nat.reduceSub, Nat.reduceLeDiff, Nat.one_ne_zero, not_false_eq_true, Bool.false_eq_true, zN_eq, zN_lt, zN_le,  fX1_improved_b18, i1, i2]
  obtain ⟨r, e, w', rfl, H⟩ := H
  refine ⟨w', ?_, H⟩
  simp (disch := omega) only [b2_some, bd_some, nm_eq, Option.map_some, zN_lit, zN_add, zN_mul, zN_neg1, if_true, if_false, reduceIte, eq_self, Nat.reduceEqDiff, Nat.reduceAdd, Nat.reduceMul, Nat.reduceSub, Nat.reduceLeDiff, Nat.one_ne_zero, not_false_eq_true, Bool.false_eq_true, zN_eq, zN_lt, zN_le,  fX1_improved, h.g0, h.g1, h.xI, h.1.FI, c_snet h.1.2.1, c_sI h.1.2.1, c_nal h.1.2.2.1, c_ntl h.1.2.2.1, c_nn h.1.2.2.1, c_alI h.1.2.2.1, c_tlI h.1.2.2.1, c_size h.1.2.2.1, c_size2 h.1.2.2.1, (c_itN h hW (by omega) (by omega)).1]
  exact e
theorem c_ipb (h : MR w x F s q ν ρ) (hW : WF w) (hC : 25 ≤ wC w) (hS : 100 ≤ wS w) : ∃ w', fX1_improvable x w = some (zN (ipbN ρ), w') ∧ Kg F nQ w w' 25 100 := by
  have hI := h.inv
  have h1 := hI.h1
  obtain ⟨wa, ea, ka⟩ := c_all h
  have Ka := ka.kg (Q := nQ) h.FC hW
  have Ma := h.kf ka
  have Wa := Ka.2.2.1
  have hCa : 25 ≤ wC wa ∧ 100 ≤ wS wa := by have := Ka.2.2.2.2.2; omega
  have c1 := allI_rng (m := 0) (aw := -1) (fz := 0) hI
  have K0 : Kg F nQ wa (hMk wa 4 (itC 0 (-1) ν.2.2.2.1 (nAl ν))) 1 4 := Kg.mk Ma.FC Wa _ _
  have M0 := Ma.kg Wa K0
  have H : ∃ r, fX1_improvable_l24 x (zJ (allI ρ 0 (-1) 0)) 0 (some (wN wa)) (hMk wa 4 (itC 0 (-1) ν.2.2.2.1 (nAl ν))) = some r ∧ ∃ w', r = (zN (ipbN ρ), w') ∧ Kg F nQ wa w' 25 100 := by
    refine wh_up (P := fun i y => i ≤ ρ 1 ∧ ∃ w' lr, y = (zN (msk (fun a => decide (allI ρ 0 (-1) 0 < alW ρ a (bst ρ a))) i), w') ∧ MR w' x F s q ν ρ ∧ Kg F nQ wa w' (1 + i) (4 + 4 * i) ∧ w'.1 (wN wa) = some (itC i lr ν.2.2.2.1 (nAl ν))) (ρ 1) ?_ ?_ (ρ 1) 0 _ (by omega) ⟨by omega, _, _, rfl, M0, K0, hMk_eq _ _ _⟩
    · rintro i y hi ⟨-, w', lr, rfl, hM, hK, hIt⟩
      have ci := hI.ha hi
      obtain ⟨i1, i2, w1, i3, M1, W1, K1, T1, -⟩ := c_itA hM hK.2.2.1 hK hi hIt (Nat.le_refl _)
      have hCS : 1 ≤ wC w1 ∧ 4 ≤ wS w1 := by
        have := K1.2.2.2.2.2
        omega
      have hai := c_aI M1.1.2.2.1 hi
      have hmo := c_most M1.1.2.2.1 hi
      left
      by_cases h0 : aMx ρ i = 0
      · rw [h0] at hmo
        refine ⟨_, ?_, by omega, w1, _, rfl, M1, K1.mono (by omega) (by omega), T1⟩
        rw [msk, if_neg (by rw [alW_zero hI hi h0]; simp)]
        simp (disch := omega) only [b2_some, bd_some, nm_eq, Option.map_some, zN_lit, zN_add, zN_mul, zN_neg1, if_true, if_false, reduceIte, eq_self, Nat.reduceEqDiff, Nat.reduceAdd, Nat.reduceMul, Nat.reduceSub, Nat.reduceLeDiff, Nat.one_ne_zero, not_false_eq_true, Bool.false_eq_true, zN_eq, zN_lt, zN_le,  fX1_improvable_b24, i1, i2, i3, hai, hmo, Nat.le_refl, fX1_improvable_b83, fX1_improvable_b84, zN_or]
      · obtain ⟨w2, e2, k2, t2, B2⟩ := c_trial M1 W1 hi
        rw [show (0 : Int32) = zN 0 from rfl] at e2
        have M2 := M1.kg W1 k2
        have T2 := k2.keep M1.FC W1 T1 rfl id
        have g2 : gJ w2 (wN w1) 18 2 = some (zJ (alW ρ i (bst ρ i))) := c_J t2 2
        have K3 : Kg F nQ wa w2 (1 + (i + 1)) (4 + 4 * (i + 1)) := (K1.tr0 k2).mono (by omega) (by omega)
        have b2 := cnd_le B2.1
        have c2 : 0 ≤ alW ρ i (bst ρ i) ∧ alW ρ i (bst ρ i) ≤ 539406054 := allI_rng (hI.stl hi b2)
        have m2 := lgc_le' (a := alW ρ i (bst ρ i)) (b := allI ρ 0 (-1) 0) ⟨by omega, by omega⟩ ⟨by omega, by omega⟩
        have h0' : ¬ (aMx ρ i ≤ 0) := by omega
        refine ⟨_, ?_, by omega, w2, _, rfl, M2, K3, T2⟩
        rw [msk]
        by_cases c : allI ρ 0 (-1) 0 < alW ρ i (bst ρ i)
        · rw [eq_false (show ¬ (alW ρ i (bst ρ i) ≤ allI ρ 0 (-1) 0) by omega)] at m2
          rw [if_pos (decide_eq_true c)]
          simp (disch := omega) only [b2_some, bd_some, nm_eq, Option.map_some, zN_lit, zN_add, zN_mul, zN_neg1, if_true, if_false, reduceIte, eq_self, Nat.reduceEqDiff, Nat.reduceAdd, Nat.reduceMul, Nat.reduceSub, Nat.reduceLeDiff, Nat.one_ne_zero, not_false_eq_true, Bool.false_eq_true, zN_eq, zN_lt, zN_le,  fX1_improvable_b24, i1, i2, i3, hai, hmo, h0', c_new hCS.1 hCS.2, e2, g2, m2, c_aI M2.1.2.2.1 hi, c_num M2.1.2.2.1 hi, fX1_improvable_b84, zN_shlz, zN_or]
        · rw [eq_true (show alW ρ i (bst ρ i) ≤ allI ρ 0 (-1) 0 by omega)] at m2
          rw [if_neg (by rw [decide_eq_false c]; exact Bool.false_ne_true)]
          simp (disch := omega) only [b2_some, bd_some, nm_eq, Option.map_some, zN_lit, zN_add, zN_mul, zN_neg1, if_true, if_false, reduceIte, eq_self, Nat.reduceEqDiff, Nat.reduceAdd, Nat.reduceMul, Nat.reduceSub, Nat.reduceLeDiff, Nat.one_ne_zero, not_false_eq_true, Bool.false_eq_true, zN_eq, zN_lt, zN_le,  fX1_improvable_b24, i1, i2, i3, hai, hmo, h0', c_new hCS.1 hCS.2, e2, g2, m2, fX1_improvable_b83, fX1_improvable_b84, zN_or]
    · rintro y ⟨-, w', lr, rfl, hM, hK, hIt⟩
      obtain ⟨i1, i2⟩ := c_itAe hM hIt
      refine ⟨_, ?_, w', rfl, hK.mono (by omega) (by omega)⟩
      simp (disch := omega) only [b2_some, bd_some, nm_eq, Option.map_some, zN_lit, zN_add, zN_mul, zN_neg1, if_true, if_false, reduceIte, eq_self, Nat.reduceEqDiff, Nat.reduceAdd, Nat.reduceMul, Nat.reduceSub, Nat.reduceLeDiff, Nat.one_ne_zero, not_false_eq_true, Bool.false_eq_true, zN_eq, zN_lt, zN_le,  fX1_improvable_b24, i1, i2]
      rfl
  obtain ⟨r, e, w', rfl, hK⟩ := H
  refine ⟨w', ?_, (Ka.tr0 hK).mono (by omega) (by omega)⟩
  simp (disch := omega) only [b2_some, bd_some, nm_eq, Option.map_some, zN_lit, zN_add, zN_mul, zN_neg1, if_true, if_false, reduceIte, eq_self, Nat.reduceEqDiff, Nat.reduceAdd, Nat.reduceMul, Nat.reduceSub, Nat.reduceLeDiff, Nat.one_ne_zero, not_false_eq_true, Bool.false_eq_true, zN_eq, zN_lt, zN_le,  fX1_improvable, h.xI, ea, Ma.g0, Ma.g1, Ma.xI, Ma.1.FI, c_snet Ma.1.2.1, c_sI Ma.1.2.1, c_nal Ma.1.2.2.1, c_ntl Ma.1.2.2.1, c_nn Ma.1.2.2.1, c_alI Ma.1.2.2.1, c_tlI Ma.1.2.2.1, c_size Ma.1.2.2.1, c_size2 Ma.1.2.2.1, (c_itN Ma Wa (by omega) (by omega)).1]
  exact e
end
