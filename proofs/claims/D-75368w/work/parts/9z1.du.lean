/-! Plain law: counts and values; best pair and best toll with any arguments -/
def tlbN (ρ : Nat → Nat) : Nat → Nat
  | 0 => 0
  | k + 1 => tlbN ρ k + if 0 < aMx ρ k then 1 else 0
def spBt (σ : SG) (z : Int) (B : Nat → Nat) : SP := if 0 ≤ z ∧ z < σ.1 1 then (0, (B z.toNat : Int), σ) else (1, 0, σ)
def cntI (ρ : Nat → Nat) (z : Int) : Option Nat := if z = 0 then some (ρ 0) else if z = 1 then some (ρ 1) else if z = 2 then some (ρ 2) else if z = 3 then some (tlbN ρ (ρ 1)) else if z = 4 then some (cnB (fun a => aCl ρ a == 1) 24) else none
def spCnt (σ : SG) (z : Int) : SP := match cntI σ.1 z with
  | some n => (0, (n : Int), σ)
  | none => (1, 0, σ)
def arvI (ρ : Nat → Nat) (a : Nat) (z : Int) : Option Nat := if z = 0 then some (aFr ρ a) else if z = 1 then some (aTo ρ a) else if z = 2 then some (aCo ρ a) else if z = 3 then some (aMx ρ a) else if z = 4 then some (aTl ρ a) else if z = 5 then some (aCl ρ a) else none
def trvI (ρ : Nat → Nat) (t : Nat) (z : Int) : Option Nat := if z = 0 then some (pFr ρ t) else if z = 1 then some (pTo ρ t) else if z = 2 then some (pDe ρ t) else if z = 3 then some (pVa ρ t) else none
def spArv (σ : SG) (y z : Int) : SP := if 0 ≤ y ∧ y < σ.1 1 then (match arvI σ.1 y.toNat z with
  | some n => (0, (n : Int), σ)
  | none => (2, 0, σ)) else (1, 0, σ)
def spTrv (σ : SG) (y z : Int) : SP := if 0 ≤ y ∧ y < σ.1 2 then (match trvI σ.1 y.toNat z with
  | some n => (0, (n : Int), σ)
  | none => (2, 0, σ)) else (1, 0, σ)
section
variable {w : WH} {x s q F n t a : Nat} {ρ : Nat → Nat} {ν : NH} {σ : SG} {η : RH}
theorem f_bp (h : RcP w x σ F s q ν η) {y z u : Int} (hy : bI y) (hz : bI z) (hu : bI u) (hC : 1 ≤ wC w) (hS : 6 ≤ wS w) : F1 zI km2 (fX1_bestPair x (zI y) (zI z) (zI u) w) w x (hL η) (spBp σ y z u) 1 6 := by
  unfold spBp
  by_cases c : (0 ≤ y ∧ y < σ.1 1) ∧ (0 ≤ z ∧ z < σ.1 1)
  · rw [if_pos c]
    have e1 := c_isA1 h.mr (a := y.toNat) (by omega)
    have e2 := c_isA1 h.mr (a := z.toNat) (by omega)
    by_cases c2 : y ≠ z ∧ 1 ≤ u ∧ u ≤ 9999
    · rw [if_pos c2, zI_nn c.1.1, zI_nn c.2.1, zI_nn (show 0 ≤ u by omega)]
      obtain ⟨w', e, d⟩ := c_bp1 h.mr h.2.1 (a := y.toNat) (b := z.toNat) (st := u.toNat) (by omega) (by omega) (by omega) (by omega)
      exact F1.of ((h.kgd d).mono (by omega) (by omega)) e
    · rw [if_neg c2]
      rw [zI_nn c.1.1, zI_nn c.2.1]
      have h1 := h.1.2.2.2.1.h1
      refine (F1.thr (km := km2) h (j := 1) (by omega) (by decide) ?_).mono (by omega) (by omega)
      by_cases c3 : y = z
      · subst c3
        simp (disch := omega) only [b2_some, bd_some, nm_eq, Option.map_some, zN_lit, zN_add, zN_mul, zN_neg1, if_true, if_false, reduceIte, eq_self, Nat.reduceEqDiff, Nat.reduceAdd, Nat.reduceMul, Nat.reduceSub, Nat.reduceLeDiff, Nat.one_ne_zero, not_false_eq_true, Bool.false_eq_true, zN_eq, zN_lt, zN_le,  fX1_bestPair, h.mr.g0, h.mr.g1, h.mr.xI, h.mr.1.FI, c_snet h.mr.1.2.1, c_sI h.mr.1.2.1, c_nal h.mr.1.2.2.1, c_ntl h.mr.1.2.2.1, c_nn h.mr.1.2.2.1, c_alI h.mr.1.2.2.1, c_tlI h.mr.1.2.2.1, c_size h.mr.1.2.2.1, c_size2 h.mr.1.2.2.1, e1, fX1_bestPair_b21, c_rq1, ex_, fX1_bestPair_b45, fX1_bestPair_b46, c_ra0 (show 1 ≤ wC w by omega) (show 6 ≤ wS w by omega)]
      · have n1 : ¬ (y.toNat = z.toNat) := by omega
        have e4 := c_inZ (w := w) hu (lo := 1) (hi := 9999) ⟨by omega, by omega⟩ ⟨by omega, by omega⟩
        rw [if_neg (fun h => c2 ⟨c3, h⟩)] at e4
        have z0 : (1 : Int64) = zJ 1 := rfl
        have z1 : (9999 : Int64) = zJ 9999 := rfl
        simp (disch := omega) only [b2_some, bd_some, nm_eq, Option.map_some, zN_lit, zN_add, zN_mul, zN_neg1, if_true, if_false, reduceIte, eq_self, Nat.reduceEqDiff, Nat.reduceAdd, Nat.reduceMul, Nat.reduceSub, Nat.reduceLeDiff, Nat.one_ne_zero, not_false_eq_true, Bool.false_eq_true, zN_eq, zN_lt, zN_le,  fX1_bestPair, h.mr.g0, h.mr.g1, h.mr.xI, h.mr.1.FI, c_snet h.mr.1.2.1, c_sI h.mr.1.2.1, c_nal h.mr.1.2.2.1, c_ntl h.mr.1.2.2.1, c_nn h.mr.1.2.2.1, c_alI h.mr.1.2.2.1, c_tlI h.mr.1.2.2.1, c_size h.mr.1.2.2.1, c_size2 h.mr.1.2.2.1, e1, e2, fX1_bestPair_b21, c_rq1, ex_, n1, z0, z1, e4, fX1_bestPair_b45, fX1_bestPair_b46, c_ra0 (show 1 ≤ wC w by omega) (show 6 ≤ wS w by omega)]
  · rw [if_neg c]
    refine (F1.thr (km := km2) h (j := 0) (by omega) (by decide) ?_).mono (by omega) (by omega)
    by_cases c1 : 0 ≤ y ∧ y < σ.1 1
    · have e1 := c_isA1 h.mr (a := y.toNat) (by omega)
      have e := c_isA0 h.mr hz (fun h => c ⟨c1, h⟩)
      rw [zI_nn c1.1]
      simp (disch := omega) only [b2_some, bd_some, nm_eq, Option.map_some, zN_lit, zN_add, zN_mul, zN_neg1, if_true, if_false, reduceIte, eq_self, Nat.reduceEqDiff, Nat.reduceAdd, Nat.reduceMul, Nat.reduceSub, Nat.reduceLeDiff, Nat.one_ne_zero, not_false_eq_true, Bool.false_eq_true, zN_eq, zN_lt, zN_le,  fX1_bestPair, h.mr.g0, h.mr.g1, h.mr.xI, h.mr.1.FI, c_snet h.mr.1.2.1, c_sI h.mr.1.2.1, c_nal h.mr.1.2.2.1, c_ntl h.mr.1.2.2.1, c_nn h.mr.1.2.2.1, c_alI h.mr.1.2.2.1, c_tlI h.mr.1.2.2.1, c_size h.mr.1.2.2.1, c_size2 h.mr.1.2.2.1, e1, e, fX1_bestPair_b20, fX1_bestPair_b21, c_rq0 (show 1 ≤ wC w by omega) (show 6 ≤ wS w by omega), ex_]
    · have e := c_isA0 h.mr hy c1
      simp (disch := omega) only [b2_some, bd_some, nm_eq, Option.map_some, zN_lit, zN_add, zN_mul, zN_neg1, if_true, if_false, reduceIte, eq_self, Nat.reduceEqDiff, Nat.reduceAdd, Nat.reduceMul, Nat.reduceSub, Nat.reduceLeDiff, Nat.one_ne_zero, not_false_eq_true, Bool.false_eq_true, zN_eq, zN_lt, zN_le,  fX1_bestPair, h.mr.g0, h.mr.g1, h.mr.xI, h.mr.1.FI, c_snet h.mr.1.2.1, c_sI h.mr.1.2.1, c_nal h.mr.1.2.2.1, c_ntl h.mr.1.2.2.1, c_nn h.mr.1.2.2.1, c_alI h.mr.1.2.2.1, c_tlI h.mr.1.2.2.1, c_size h.mr.1.2.2.1, c_size2 h.mr.1.2.2.1, e, fX1_bestPair_b20, fX1_bestPair_b21, c_rq0 (show 1 ≤ wC w by omega) (show 6 ≤ wS w by omega), ex_]
theorem f_bt (h : RcP w x σ F s q ν η) {z : Int} (hz : bI z) (hC : 2 ≤ wC w) (hS : 10 ≤ wS w) : F1 zI km0 (fX1_bestToll x (zI z) w) w x (hL η) (spBt σ z (bst σ.1)) 2 10 := by
  unfold spBt
  by_cases c : 0 ≤ z ∧ z < σ.1 1
  · rw [if_pos c, zI_nn c.1]
    obtain ⟨w', e, d⟩ := q_bestToll h.mr h.2.1 (a := z.toNat) (by omega) (by omega) (by omega)
    exact F1.of ((h.kgd d).mono (by omega) (by omega)) e
  · rw [if_neg c]
    have K0 : Kg F nQ w (hMk w 4 (.inr (18, [.null, .int 0, .long 0, .null]))) 1 4 := Kg.mk h.1.1 h.2.1 _ _
    have h0 := h.kg K0
    have n1 : hNw w 4 18 [.null, .int 0, .long 0, .null] = some (wN w, hMk w 4 (.inr (18, [.null, .int 0, .long 0, .null]))) := c_new (by omega) (by omega)
    have c1 : wC (hMk w 4 (.inr (18, [.null, .int 0, .long 0, .null]))) = wC w - 1 := rfl
    have c2 : wS (hMk w 4 (.inr (18, [.null, .int 0, .long 0, .null]))) = wS w - 4 := rfl
    generalize hMk w 4 (.inr (18, [.null, .int 0, .long 0, .null])) = w0 at K0 h0 n1 c1 c2
    have e := c_arcAt0 h0.mr hz c (by omega) (by omega)
    have xi := h0.mr.xI
    have d := h0.kgd (wTh_Kg (Q := nQ) h0.1.1 h0.2.1)
    refine ⟨wTh w0, (Don.tr (w := w) (c := 1) (k := 4) (by omega) (by omega) d).mono (by omega) (by omega), .inr ⟨0, wN w0, rfl, by decide, by omega, ?_⟩⟩
    unfold fX1_bestToll
    rw [n1, b2_some, xi, bd_some, e, b2_some]
    rfl
theorem c_tol (h : MR w x F s q ν ρ) (hW : WF w) (hC : 1 ≤ wC w) (hS : 4 ≤ wS w) : ∃ w', fX1_tollable x w = some (zN (tlbN ρ (ρ 1)), w') ∧ Kg F nQ w w' 1 4 := by
  have hI := h.inv
  have h1 := hI.h1
  have K0 : Kg F nQ w (hMk w 4 (itC 0 (-1) ν.2.2.2.1 (nAl ν))) 1 4 := Kg.mk h.FC hW _ _
  have M0 := h.kg hW K0
  have H : ∃ r, fX1_tollable_l18 (zN 0) (some (wN w)) (hMk w 4 (itC 0 (-1) ν.2.2.2.1 (nAl ν))) = some r ∧ ∃ w', r = (zN (tlbN ρ (ρ 1)), w') ∧ Kg F nQ w w' 1 4 := by
    refine wh_up (P := fun i y => i ≤ ρ 1 ∧ ∃ w' lr, y = (zN (tlbN ρ i), w') ∧ MR w' x F s q ν ρ ∧ Kg F nQ w w' 1 4 ∧ w'.1 (wN w) = some (itC i lr ν.2.2.2.1 (nAl ν))) (ρ 1) ?_ ?_ (ρ 1) 0 _ (by omega) ⟨by omega, _, _, rfl, M0, K0, hMk_eq _ _ _⟩
    · rintro i y hi ⟨-, w', lr, rfl, hM, hK, hIt⟩
      obtain ⟨i1, i2, w1, i3, M1, W1, K1, T1, -⟩ := c_itA hM hK.2.2.1 hK hi hIt (Nat.le_refl _)
      have hai := c_aI M1.1.2.2.1 hi
      have hmo := c_most M1.1.2.2.1 hi
      have ci := hI.ha hi
      left
      refine ⟨(zN (tlbN ρ (i + 1)), w1), ?_, by omega, w1, _, rfl, M1, K1, T1⟩
      rw [tlbN]
      by_cases c : 0 < aMx ρ i
      · rw [if_pos c]
        have n1 : ¬ (aMx ρ i ≤ 0) := by omega
        simp (disch := omega) only [b2_some, bd_some, nm_eq, Option.map_some, zN_lit, zN_add, zN_mul, zN_neg1, if_true, if_false, reduceIte, eq_self, Nat.reduceEqDiff, Nat.reduceAdd, Nat.reduceMul, Nat.reduceSub, Nat.reduceLeDiff, Nat.one_ne_zero, not_false_eq_true, Bool.false_eq_true, zN_eq, zN_lt, zN_le,  fX1_tollable_b18, i1, i2, i3, hai, hmo, n1, fX1_tollable_b50]
      · rw [if_neg c]
        have n1 : aMx ρ i ≤ 0 := by omega
        simp (disch := omega) only [b2_some, bd_some, nm_eq, Option.map_some, zN_lit, zN_add, zN_mul, zN_neg1, if_true, if_false, reduceIte, eq_self, Nat.reduceEqDiff, Nat.reduceAdd, Nat.reduceMul, Nat.reduceSub, Nat.reduceLeDiff, Nat.one_ne_zero, not_false_eq_true, Bool.false_eq_true, zN_eq, zN_lt, zN_le,  fX1_tollable_b18, i1, i2, i3, hai, hmo, n1, fX1_tollable_b50]
    · rintro y ⟨-, w', lr, rfl, hM, hK, hIt⟩
      obtain ⟨i1, i2⟩ := c_itAe hM hIt
      refine ⟨_, ?_, w', rfl, hK⟩
      simp (disch := omega) only [b2_some, bd_some, nm_eq, Option.map_some, zN_lit, zN_add, zN_mul, zN_neg1, if_true, if_false, reduceIte, eq_self, Nat.reduceEqDiff, Nat.reduceAdd, Nat.reduceMul, Nat.reduceSub, Nat.reduceLeDiff, Nat.one_ne_zero, not_false_eq_true, Bool.false_eq_true, zN_eq, zN_lt, zN_le,  fX1_tollable_b18, i1, i2]
  obtain ⟨r, e, w', rfl, hK⟩ := H
  refine ⟨w', ?_, hK⟩
  have it := (c_itN h hW hC hS).1
  generalize hMk w 4 (itC 0 (-1) ν.2.2.2.1 (nAl ν)) = wi at it e
  simp (disch := omega) only [b2_some, bd_some, nm_eq, Option.map_some, zN_lit, zN_add, zN_mul, zN_neg1, if_true, if_false, reduceIte, eq_self, Nat.reduceEqDiff, Nat.reduceAdd, Nat.reduceMul, Nat.reduceSub, Nat.reduceLeDiff, Nat.one_ne_zero, not_false_eq_true, Bool.false_eq_true, zN_eq, zN_lt, zN_le,  fX1_tollable, h.g0, h.g1, h.xI, h.1.FI, c_snet h.1.2.1, c_sI h.1.2.1, c_nal h.1.2.2.1, c_ntl h.1.2.2.1, c_nn h.1.2.2.1, c_alI h.1.2.2.1, c_tlI h.1.2.2.1, c_size h.1.2.2.1, c_size2 h.1.2.2.1, it]
  exact e
theorem cls_eq (ρ : Nat → Nat) : cnB (clm ρ).testBit 64 = cnB (fun a => aCl ρ a == 1) 24 := by
  have e1 : cnB (clm ρ).testBit (24 + 40) = cnB (clm ρ).testBit 24 := cnB_0 (fun i h1 h2 => by
    unfold clm
    rw [msk_bit, decide_eq_false (by omega), Bool.false_and])
  rw [show 64 = 24 + 40 from rfl, e1]
  exact cnB_cg (fun i hi => clm_bit ρ hi)
theorem f_cnt (h : RcP w x σ F s q ν η) {z : Int} (hz : bI z) (hC : 1 ≤ wC w) (hS : 6 ≤ wS w) : F1 zI km1 (fX1_count x (zI z) w) w x (hL η) (spCnt σ z) 1 6 := by
  have M := h.mr
  unfold bI at hz
  have d0 : Don w w x (hL η) σ 1 6 := ⟨⟨F, s, q, ν, η, h, rfl⟩, by omega, by omega⟩
  have n : ∀ k : Nat, k < 10 → ¬ (z = (k : Int)) → ¬ (zI z = zN k) := fun k hk hn => by
    rw [← zI_cast, zI_eq (by omega) (by omega)]
    exact hn
  unfold spCnt cntI
  by_cases c0 : z = 0
  · subst c0
    rw [if_pos rfl]
    refine F1.of d0 ?_
    have z0 : zI 0 = zN 0 := rfl
    rw [z0]
    simp (disch := omega) only [b2_some, bd_some, nm_eq, Option.map_some, zN_lit, zN_add, zN_mul, zN_neg1, if_true, if_false, reduceIte, eq_self, Nat.reduceEqDiff, Nat.reduceAdd, Nat.reduceMul, Nat.reduceSub, Nat.reduceLeDiff, Nat.one_ne_zero, not_false_eq_true, Bool.false_eq_true, zN_eq, zN_lt, zN_le,  fX1_count, M.g0, M.g1, M.xI, M.1.FI, c_snet M.1.2.1, c_sI M.1.2.1, c_nal M.1.2.2.1, c_ntl M.1.2.2.1, c_nn M.1.2.2.1, c_alI M.1.2.2.1, c_tlI M.1.2.2.1, c_size M.1.2.2.1, c_size2 M.1.2.2.1]
    rfl
  · rw [if_neg c0]
    have n0 := n 0 (by omega) c0
    by_cases c1 : z = 1
    · subst c1
      rw [if_pos rfl]
      refine F1.of d0 ?_
      have z0 : zI 1 = zN 1 := rfl
      rw [z0]
      simp (disch := omega) only [b2_some, bd_some, nm_eq, Option.map_some, zN_lit, zN_add, zN_mul, zN_neg1, if_true, if_false, reduceIte, eq_self, Nat.reduceEqDiff, Nat.reduceAdd, Nat.reduceMul, Nat.reduceSub, Nat.reduceLeDiff, Nat.one_ne_zero, not_false_eq_true, Bool.false_eq_true, zN_eq, zN_lt, zN_le,  fX1_count, M.g0, M.g1, M.xI, M.1.FI, c_snet M.1.2.1, c_sI M.1.2.1, c_nal M.1.2.2.1, c_ntl M.1.2.2.1, c_nn M.1.2.2.1, c_alI M.1.2.2.1, c_tlI M.1.2.2.1, c_size M.1.2.2.1, c_size2 M.1.2.2.1]
      rfl
    · rw [if_neg c1]
      have n1 := n 1 (by omega) c1
      by_cases c2 : z = 2
      · subst c2
        rw [if_pos rfl]
        refine F1.of d0 ?_
        have z0 : zI 2 = zN 2 := rfl
        rw [z0]
        simp (disch := omega) only [b2_some, bd_some, nm_eq, Option.map_some, zN_lit, zN_add, zN_mul, zN_neg1, if_true, if_false, reduceIte, eq_self, Nat.reduceEqDiff, Nat.reduceAdd, Nat.reduceMul, Nat.reduceSub, Nat.reduceLeDiff, Nat.one_ne_zero, not_false_eq_true, Bool.false_eq_true, zN_eq, zN_lt, zN_le,  fX1_count, M.g0, M.g1, M.xI, M.1.FI, c_snet M.1.2.1, c_sI M.1.2.1, c_nal M.1.2.2.1, c_ntl M.1.2.2.1, c_nn M.1.2.2.1, c_alI M.1.2.2.1, c_tlI M.1.2.2.1, c_size M.1.2.2.1, c_size2 M.1.2.2.1]
        rfl
      · rw [if_neg c2]
        have n2 := n 2 (by omega) c2
        by_cases c3 : z = 3
        · subst c3
          rw [if_pos rfl]
          obtain ⟨w', e, k⟩ := c_tol M h.2.1 (by omega) (by omega)
          refine F1.of ((h.kgd k).mono (by omega) (by omega)) ?_
          have z0 : zI 3 = zN 3 := rfl
          rw [z0]
          simp (disch := omega) only [b2_some, bd_some, nm_eq, Option.map_some, zN_lit, zN_add, zN_mul, zN_neg1, if_true, if_false, reduceIte, eq_self, Nat.reduceEqDiff, Nat.reduceAdd, Nat.reduceMul, Nat.reduceSub, Nat.reduceLeDiff, Nat.one_ne_zero, not_false_eq_true, Bool.false_eq_true, zN_eq, zN_lt, zN_le,  fX1_count, M.g0, M.g1, M.xI, M.1.FI, c_snet M.1.2.1, c_sI M.1.2.1, c_nal M.1.2.2.1, c_ntl M.1.2.2.1, c_nn M.1.2.2.1, c_alI M.1.2.2.1, c_tlI M.1.2.2.1, c_size M.1.2.2.1, c_size2 M.1.2.2.1, e]
          rfl
        · rw [if_neg c3]
          have n3 := n 3 (by omega) c3
          by_cases c4 : z = 4
          · subst c4
            rw [if_pos rfl]
            refine F1.of d0 ?_
            have z0 : zI 4 = zN 4 := rfl
            rw [z0]
            obtain ⟨g, hB⟩ := M.1.2.1.Bs
            have i1 : hIs w (q + 2) 0 = some () := c_C hB.1
            have ec : fJ17_cardinality (q + 2) w = some (zN (cnB (fun a => aCl σ.1 a == 1) 24), w) := by
              by_cases c : clm σ.1 = 0
              · have hc := c_card hB.n
                rw [show uM (clm σ.1) = 0 from if_pos c] at hc
                rw [← cls_eq, c]
                have e0 : cnB (Nat.testBit 0) (0 + 64) = cnB (Nat.testBit 0) 0 := cnB_0 (fun i _ _ => Nat.zero_testBit i)
                rw [show 64 = 0 + 64 from rfl, e0]
                exact hc
              · have := c_card1 hB c
                rw [← cls_eq]
                exact this
            simp (disch := omega) only [b2_some, bd_some, nm_eq, Option.map_some, zN_lit, zN_add, zN_mul, zN_neg1, if_true, if_false, reduceIte, eq_self, Nat.reduceEqDiff, Nat.reduceAdd, Nat.reduceMul, Nat.reduceSub, Nat.reduceLeDiff, Nat.one_ne_zero, not_false_eq_true, Bool.false_eq_true, zN_eq, zN_lt, zN_le,  fX1_count, M.g0, M.g1, M.xI, M.1.FI, c_snet M.1.2.1, c_sI M.1.2.1, c_nal M.1.2.2.1, c_ntl M.1.2.2.1, c_nn M.1.2.2.1, c_alI M.1.2.2.1, c_tlI M.1.2.2.1, c_size M.1.2.2.1, c_size2 M.1.2.2.1, c_gcl M, i1, ec]
            rfl
          · rw [if_neg c4]
            have n4 := n 4 (by omega) c4
            refine (F1.thr (km := km1) h (j := 1) (by omega) (by decide) ?_)
            simp (disch := omega) only [b2_some, bd_some, nm_eq, Option.map_some, zN_lit, zN_add, zN_mul, zN_neg1, if_true, if_false, reduceIte, eq_self, Nat.reduceEqDiff, Nat.reduceAdd, Nat.reduceMul, Nat.reduceSub, Nat.reduceLeDiff, Nat.one_ne_zero, not_false_eq_true, Bool.false_eq_true, zN_eq, zN_lt, zN_le,  fX1_count, n0, n1, n2, n3, n4, fX1_count_b95, c_thr (show 1 ≤ wC w by omega) (show 6 ≤ wS w by omega)]
theorem f_arv (h : RcP w x σ F s q ν η) {y z : Int} (hy : bI y) (hz : bI z) (hC : 1 ≤ wC w) (hS : 6 ≤ wS w) : F1 zI km2 (fX1_arcValue x (zI y) (zI z) w) w x (hL η) (spArv σ y z) 1 6 := by
  have M := h.mr
  have d0 : Don w w x (hL η) σ 1 6 := ⟨⟨F, s, q, ν, η, h, rfl⟩, by omega, by omega⟩
  unfold bI at hz
  have n : ∀ k : Nat, k < 10 → ¬ (z = (k : Int)) → ¬ (zI z = zN k) := fun k hk hn => by
    rw [← zI_cast, zI_eq (by omega) (by omega)]
    exact hn
  unfold spArv
  by_cases c : 0 ≤ y ∧ y < σ.1 1
  · rw [if_pos c, zI_nn c.1]
    have ha : y.toNat < σ.1 1 := by omega
    generalize y.toNat = a at ha
    have hai := c_aI M.1.2.2.1 ha
    have e1 := c_from M.1.2.2.1 ha
    have e2 := c_to M.1.2.2.1 ha
    have e3 := c_cost M.1.2.2.1 ha
    have e4 := c_most M.1.2.2.1 ha
    have e5 := c_toll M.1.2.1 M.1.2.2.1 h.1.2.2.2.1 ha
    have e6 := c_open M.1.2.1 M.1.2.2.1 h.1.2.2.2.1 ha
    have at1 := c_arcAt1 M ha
    have cl := (h.1.2.2.2.1.ha ha).2.2.2.2.2
    unfold arvI
    by_cases c0 : z = 0
    · subst c0
      rw [if_pos rfl]
      refine F1.of d0 ?_
      have z0 : zI 0 = zN 0 := rfl
      rw [z0]
      simp (disch := omega) only [b2_some, bd_some, nm_eq, Option.map_some, zN_lit, zN_add, zN_mul, zN_neg1, if_true, if_false, reduceIte, eq_self, Nat.reduceEqDiff, Nat.reduceAdd, Nat.reduceMul, Nat.reduceSub, Nat.reduceLeDiff, Nat.one_ne_zero, not_false_eq_true, Bool.false_eq_true, zN_eq, zN_lt, zN_le,  fX1_arcValue, M.g0, M.g1, M.xI, M.1.FI, c_snet M.1.2.1, c_sI M.1.2.1, c_nal M.1.2.2.1, c_ntl M.1.2.2.1, c_nn M.1.2.2.1, c_alI M.1.2.2.1, c_tlI M.1.2.2.1, c_size M.1.2.2.1, c_size2 M.1.2.2.1, at1, ex_, hai, e1]
      rfl
    · rw [if_neg c0]
      have n0 := n 0 (by omega) c0
      by_cases c1 : z = 1
      · subst c1
        rw [if_pos rfl]
        refine F1.of d0 ?_
        have z0 : zI 1 = zN 1 := rfl
        rw [z0]
        simp (disch := omega) only [b2_some, bd_some, nm_eq, Option.map_some, zN_lit, zN_add, zN_mul, zN_neg1, if_true, if_false, reduceIte, eq_self, Nat.reduceEqDiff, Nat.reduceAdd, Nat.reduceMul, Nat.reduceSub, Nat.reduceLeDiff, Nat.one_ne_zero, not_false_eq_true, Bool.false_eq_true, zN_eq, zN_lt, zN_le,  fX1_arcValue, M.g0, M.g1, M.xI, M.1.FI, c_snet M.1.2.1, c_sI M.1.2.1, c_nal M.1.2.2.1, c_ntl M.1.2.2.1, c_nn M.1.2.2.1, c_alI M.1.2.2.1, c_tlI M.1.2.2.1, c_size M.1.2.2.1, c_size2 M.1.2.2.1, at1, ex_, hai, e2]
        rfl
      · rw [if_neg c1]
        have n1 := n 1 (by omega) c1
        by_cases c2 : z = 2
        · subst c2
          rw [if_pos rfl]
          refine F1.of d0 ?_
          have z0 : zI 2 = zN 2 := rfl
          rw [z0]
          simp (disch := omega) only [b2_some, bd_some, nm_eq, Option.map_some, zN_lit, zN_add, zN_mul, zN_neg1, if_true, if_false, reduceIte, eq_self, Nat.reduceEqDiff, Nat.reduceAdd, Nat.reduceMul, Nat.reduceSub, Nat.reduceLeDiff, Nat.one_ne_zero, not_false_eq_true, Bool.false_eq_true, zN_eq, zN_lt, zN_le,  fX1_arcValue, M.g0, M.g1, M.xI, M.1.FI, c_snet M.1.2.1, c_sI M.1.2.1, c_nal M.1.2.2.1, c_ntl M.1.2.2.1, c_nn M.1.2.2.1, c_alI M.1.2.2.1, c_tlI M.1.2.2.1, c_size M.1.2.2.1, c_size2 M.1.2.2.1, at1, ex_, hai, e3]
          rfl
        · rw [if_neg c2]
          have n2 := n 2 (by omega) c2
          by_cases c3 : z = 3
          · subst c3
            rw [if_pos rfl]
            refine F1.of d0 ?_
            have z0 : zI 3 = zN 3 := rfl
            rw [z0]
            simp (disch := omega) only [b2_some, bd_some, nm_eq, Option.map_some, zN_lit, zN_add, zN_mul, zN_neg1, if_true, if_false, reduceIte, eq_self, Nat.reduceEqDiff, Nat.reduceAdd, Nat.reduceMul, Nat.reduceSub, Nat.reduceLeDiff, Nat.one_ne_zero, not_false_eq_true, Bool.false_eq_true, zN_eq, zN_lt, zN_le,  fX1_arcValue, M.g0, M.g1, M.xI, M.1.FI, c_snet M.1.2.1, c_sI M.1.2.1, c_nal M.1.2.2.1, c_ntl M.1.2.2.1, c_nn M.1.2.2.1, c_alI M.1.2.2.1, c_tlI M.1.2.2.1, c_size M.1.2.2.1, c_size2 M.1.2.2.1, at1, ex_, hai, e4]
            rfl
          · rw [if_neg c3]
            have n3 := n 3 (by omega) c3
            by_cases c4 : z = 4
            · subst c4
              rw [if_pos rfl]
              refine F1.of d0 ?_
              have z0 : zI 4 = zN 4 := rfl
              rw [z0]
              simp (disch := omega) only [b2_some, bd_some, nm_eq, Option.map_some, zN_lit, zN_add, zN_mul, zN_neg1, if_true, if_false, reduceIte, eq_self, Nat.reduceEqDiff, Nat.reduceAdd, Nat.reduceMul, Nat.reduceSub, Nat.reduceLeDiff, Nat.one_ne_zero, not_false_eq_true, Bool.false_eq_true, zN_eq, zN_lt, zN_le,  fX1_arcValue, M.g0, M.g1, M.xI, M.1.FI, c_snet M.1.2.1, c_sI M.1.2.1, c_nal M.1.2.2.1, c_ntl M.1.2.2.1, c_nn M.1.2.2.1, c_alI M.1.2.2.1, c_tlI M.1.2.2.1, c_size M.1.2.2.1, c_size2 M.1.2.2.1, at1, ex_, hai, e5]
              rfl
            · rw [if_neg c4]
              have n4 := n 4 (by omega) c4
              by_cases c5 : z = 5
              · subst c5
                rw [if_pos rfl]
                refine F1.of d0 ?_
                have z0 : zI 5 = zN 5 := rfl
                rw [z0]
                by_cases cc : aCl σ.1 a = 0
                · rw [if_pos cc] at e6
                  rw [cc]
                  simp (disch := omega) only [b2_some, bd_some, nm_eq, Option.map_some, zN_lit, zN_add, zN_mul, zN_neg1, if_true, if_false, reduceIte, eq_self, Nat.reduceEqDiff, Nat.reduceAdd, Nat.reduceMul, Nat.reduceSub, Nat.reduceLeDiff, Nat.one_ne_zero, not_false_eq_true, Bool.false_eq_true, zN_eq, zN_lt, zN_le,  fX1_arcValue, M.g0, M.g1, M.xI, M.1.FI, c_snet M.1.2.1, c_sI M.1.2.1, c_nal M.1.2.2.1, c_ntl M.1.2.2.1, c_nn M.1.2.2.1, c_alI M.1.2.2.1, c_tlI M.1.2.2.1, c_size M.1.2.2.1, c_size2 M.1.2.2.1, at1, ex_, fX1_arcValue_b73, e6]
                  rfl
                · rw [if_neg cc] at e6
                  rw [show aCl σ.1 a = 1 by omega]
                  simp (disch := omega) only [b2_some, bd_some, nm_eq, Option.map_some, zN_lit, zN_add, zN_mul, zN_neg1, if_true, if_false, reduceIte, eq_self, Nat.reduceEqDiff, Nat.reduceAdd, Nat.reduceMul, Nat.reduceSub, Nat.reduceLeDiff, Nat.one_ne_zero, not_false_eq_true, Bool.false_eq_true, zN_eq, zN_lt, zN_le,  fX1_arcValue, M.g0, M.g1, M.xI, M.1.FI, c_snet M.1.2.1, c_sI M.1.2.1, c_nal M.1.2.2.1, c_ntl M.1.2.2.1, c_nn M.1.2.2.1, c_alI M.1.2.2.1, c_tlI M.1.2.2.1, c_size M.1.2.2.1, c_size2 M.1.2.2.1, at1, ex_, fX1_arcValue_b73, e6]
                  rfl
              · rw [if_neg c5]
                have n5 := n 5 (by omega) c5
                refine F1.thr (km := km2) h (j := 1) (by omega) (by decide) ?_
                simp (disch := omega) only [b2_some, bd_some, nm_eq, Option.map_some, zN_lit, zN_add, zN_mul, zN_neg1, if_true, if_false, reduceIte, eq_self, Nat.reduceEqDiff, Nat.reduceAdd, Nat.reduceMul, Nat.reduceSub, Nat.reduceLeDiff, Nat.one_ne_zero, not_false_eq_true, Bool.false_eq_true, zN_eq, zN_lt, zN_le,  fX1_arcValue, M.g0, M.g1, M.xI, M.1.FI, c_snet M.1.2.1, c_sI M.1.2.1, c_nal M.1.2.2.1, c_ntl M.1.2.2.1, c_nn M.1.2.2.1, c_alI M.1.2.2.1, c_tlI M.1.2.2.1, c_size M.1.2.2.1, c_size2 M.1.2.2.1, at1, ex_, n0, n1, n2, n3, n4, n5, fX1_arcValue_b90, c_thr (show 1 ≤ wC w by omega) (show 6 ≤ wS w by omega)]
  · rw [if_neg c]
    have e := c_arcAt0 h.mr hy c (by omega) (by omega)
    refine F1.thr (km := km2) h (j := 0) (by omega) (by decide) ?_
    simp (disch := omega) only [b2_some, bd_some, nm_eq, Option.map_some, zN_lit, zN_add, zN_mul, zN_neg1, if_true, if_false, reduceIte, eq_self, Nat.reduceEqDiff, Nat.reduceAdd, Nat.reduceMul, Nat.reduceSub, Nat.reduceLeDiff, Nat.one_ne_zero, not_false_eq_true, Bool.false_eq_true, zN_eq, zN_lt, zN_le,  fX1_arcValue, h.mr.g0, h.mr.g1, h.mr.xI, h.mr.1.FI, c_snet h.mr.1.2.1, c_sI h.mr.1.2.1, c_nal h.mr.1.2.2.1, c_ntl h.mr.1.2.2.1, c_nn h.mr.1.2.2.1, c_alI h.mr.1.2.2.1, c_tlI h.mr.1.2.2.1, c_size h.mr.1.2.2.1, c_size2 h.mr.1.2.2.1, e, ex_]
theorem f_trv (h : RcP w x σ F s q ν η) {y z : Int} (hy : bI y) (hz : bI z) (hC : 1 ≤ wC w) (hS : 6 ≤ wS w) : F1 zI km2 (fX1_tripValue x (zI y) (zI z) w) w x (hL η) (spTrv σ y z) 1 6 := by
  have M := h.mr
  have d0 : Don w w x (hL η) σ 1 6 := ⟨⟨F, s, q, ν, η, h, rfl⟩, by omega, by omega⟩
  unfold bI at hz
  have n : ∀ k : Nat, k < 10 → ¬ (z = (k : Int)) → ¬ (zI z = zN k) := fun k hk hn => by
    rw [← zI_cast, zI_eq (by omega) (by omega)]
    exact hn
  unfold spTrv
  by_cases c : 0 ≤ y ∧ y < σ.1 2
  · rw [if_pos c, zI_nn c.1]
    have ht : y.toNat < σ.1 2 := by omega
    have h2 := h.1.2.2.2.1.h2
    generalize y.toNat = t at ht
    have hti := c_tI M.1.2.2.1 ht
    have e1 := c_tfrom M.1.2.2.1 ht
    have e2 := c_tto M.1.2.2.1 ht
    have e3 := c_tval M.1.2.2.1 ht
    obtain ⟨f', hf', hfv'⟩ := M.1.2.1.2.2.1
    have gd : gR w s 21 2 = some (some (q + 1)) := c_R M.1.2.1.1 2
    have l1 : ldI w (q + 1) 0 (zN t) = some (f' t) := c_ldI hf' (by omega) (by omega)
    rw [hfv' t ht] at l1
    have at1 := c_tripAt1 M ht
    unfold trvI
    by_cases c0 : z = 0
    · subst c0
      rw [if_pos rfl]
      refine F1.of d0 ?_
      have z0 : zI 0 = zN 0 := rfl
      rw [z0]
      simp (disch := omega) only [b2_some, bd_some, nm_eq, Option.map_some, zN_lit, zN_add, zN_mul, zN_neg1, if_true, if_false, reduceIte, eq_self, Nat.reduceEqDiff, Nat.reduceAdd, Nat.reduceMul, Nat.reduceSub, Nat.reduceLeDiff, Nat.one_ne_zero, not_false_eq_true, Bool.false_eq_true, zN_eq, zN_lt, zN_le,  fX1_tripValue, M.g0, M.g1, M.xI, M.1.FI, c_snet M.1.2.1, c_sI M.1.2.1, c_nal M.1.2.2.1, c_ntl M.1.2.2.1, c_nn M.1.2.2.1, c_alI M.1.2.2.1, c_tlI M.1.2.2.1, c_size M.1.2.2.1, c_size2 M.1.2.2.1, at1, ex_, hti, e1]
      rfl
    · rw [if_neg c0]
      have n0 := n 0 (by omega) c0
      by_cases c1 : z = 1
      · subst c1
        rw [if_pos rfl]
        refine F1.of d0 ?_
        have z0 : zI 1 = zN 1 := rfl
        rw [z0]
        simp (disch := omega) only [b2_some, bd_some, nm_eq, Option.map_some, zN_lit, zN_add, zN_mul, zN_neg1, if_true, if_false, reduceIte, eq_self, Nat.reduceEqDiff, Nat.reduceAdd, Nat.reduceMul, Nat.reduceSub, Nat.reduceLeDiff, Nat.one_ne_zero, not_false_eq_true, Bool.false_eq_true, zN_eq, zN_lt, zN_le,  fX1_tripValue, M.g0, M.g1, M.xI, M.1.FI, c_snet M.1.2.1, c_sI M.1.2.1, c_nal M.1.2.2.1, c_ntl M.1.2.2.1, c_nn M.1.2.2.1, c_alI M.1.2.2.1, c_tlI M.1.2.2.1, c_size M.1.2.2.1, c_size2 M.1.2.2.1, at1, ex_, hti, e2]
        rfl
      · rw [if_neg c1]
        have n1 := n 1 (by omega) c1
        by_cases c2 : z = 2
        · subst c2
          rw [if_pos rfl]
          refine F1.of d0 ?_
          have z0 : zI 2 = zN 2 := rfl
          rw [z0]
          simp (disch := omega) only [b2_some, bd_some, nm_eq, Option.map_some, zN_lit, zN_add, zN_mul, zN_neg1, if_true, if_false, reduceIte, eq_self, Nat.reduceEqDiff, Nat.reduceAdd, Nat.reduceMul, Nat.reduceSub, Nat.reduceLeDiff, Nat.one_ne_zero, not_false_eq_true, Bool.false_eq_true, zN_eq, zN_lt, zN_le,  fX1_tripValue, M.g0, M.g1, M.xI, M.1.FI, c_snet M.1.2.1, c_sI M.1.2.1, c_nal M.1.2.2.1, c_ntl M.1.2.2.1, c_nn M.1.2.2.1, c_alI M.1.2.2.1, c_tlI M.1.2.2.1, c_size M.1.2.2.1, c_size2 M.1.2.2.1, at1, ex_, gd, l1]
          rfl
        · rw [if_neg c2]
          have n2 := n 2 (by omega) c2
          by_cases c3 : z = 3
          · subst c3
            rw [if_pos rfl]
            refine F1.of d0 ?_
            have z0 : zI 3 = zN 3 := rfl
            rw [z0]
            simp (disch := omega) only [b2_some, bd_some, nm_eq, Option.map_some, zN_lit, zN_add, zN_mul, zN_neg1, if_true, if_false, reduceIte, eq_self, Nat.reduceEqDiff, Nat.reduceAdd, Nat.reduceMul, Nat.reduceSub, Nat.reduceLeDiff, Nat.one_ne_zero, not_false_eq_true, Bool.false_eq_true, zN_eq, zN_lt, zN_le,  fX1_tripValue, M.g0, M.g1, M.xI, M.1.FI, c_snet M.1.2.1, c_sI M.1.2.1, c_nal M.1.2.2.1, c_ntl M.1.2.2.1, c_nn M.1.2.2.1, c_alI M.1.2.2.1, c_tlI M.1.2.2.1, c_size M.1.2.2.1, c_size2 M.1.2.2.1, at1, ex_, hti, e3]
            rfl
          · rw [if_neg c3]
            have n3 := n 3 (by omega) c3
            refine F1.thr (km := km2) h (j := 1) (by omega) (by decide) ?_
            simp (disch := omega) only [b2_some, bd_some, nm_eq, Option.map_some, zN_lit, zN_add, zN_mul, zN_neg1, if_true, if_false, reduceIte, eq_self, Nat.reduceEqDiff, Nat.reduceAdd, Nat.reduceMul, Nat.reduceSub, Nat.reduceLeDiff, Nat.one_ne_zero, not_false_eq_true, Bool.false_eq_true, zN_eq, zN_lt, zN_le,  fX1_tripValue, M.g0, M.g1, M.xI, M.1.FI, c_snet M.1.2.1, c_sI M.1.2.1, c_nal M.1.2.2.1, c_ntl M.1.2.2.1, c_nn M.1.2.2.1, c_alI M.1.2.2.1, c_tlI M.1.2.2.1, c_size M.1.2.2.1, c_size2 M.1.2.2.1, at1, ex_, n0, n1, n2, n3, c_thr (show 1 ≤ wC w by omega) (show 6 ≤ wS w by omega)]
  · rw [if_neg c]
    have e := c_tripAt0 h.mr hy c (by omega) (by omega)
    refine F1.thr (km := km2) h (j := 0) (by omega) (by decide) ?_
    simp (disch := omega) only [b2_some, bd_some, nm_eq, Option.map_some, zN_lit, zN_add, zN_mul, zN_neg1, if_true, if_false, reduceIte, eq_self, Nat.reduceEqDiff, Nat.reduceAdd, Nat.reduceMul, Nat.reduceSub, Nat.reduceLeDiff, Nat.one_ne_zero, not_false_eq_true, Bool.false_eq_true, zN_eq, zN_lt, zN_le,  fX1_tripValue, h.mr.g0, h.mr.g1, h.mr.xI, h.mr.1.FI, c_snet h.mr.1.2.1, c_sI h.mr.1.2.1, c_nal h.mr.1.2.2.1, c_ntl h.mr.1.2.2.1, c_nn h.mr.1.2.2.1, c_alI h.mr.1.2.2.1, c_tlI h.mr.1.2.2.1, c_size h.mr.1.2.2.1, c_size2 h.mr.1.2.2.1, e, ex_]
end
