/-! Plain law: more of the component's operations with any arguments -/
def spSet (σ : SG) (y z : Int) : SP := if 0 ≤ y ∧ y < σ.1 1 then (if 0 ≤ z ∧ z ≤ aMx σ.1 y.toNat then (0, (aTl σ.1 y.toNat : Int), (stl σ.1 y.toNat z.toNat, (kee σ).2)) else (2, 0, σ)) else (1, 0, σ)
def spDem (σ : SG) (y z : Int) : SP := if 0 ≤ y ∧ y < σ.1 2 then (if 0 ≤ z ∧ z ≤ 999 then (0, (pDe σ.1 y.toNat : Int), (sde σ.1 y.toNat z.toNat, (kee σ).2)) else (2, 0, σ)) else (1, 0, σ)
def spClo (σ : SG) (y : Int) (v : Nat) : SP := if 0 ≤ y ∧ y < σ.1 1 then (0, (aCl σ.1 y.toNat : Int), (scl σ.1 y.toNat v, (kee σ).2)) else (1, 0, σ)
def spAdd (σ : SG) (z : Int) : SP := if -9999 ≤ z ∧ z ≤ 9999 then (0, ((blk σ.1 (fun k => clp (aMx σ.1 k) ((aTl σ.1 k : Int) + z)) (σ.1 1)).2 : Int), ((blk σ.1 (fun k => clp (aMx σ.1 k) ((aTl σ.1 k : Int) + z)) (σ.1 1)).1, (kee σ).2)) else (1, 0, σ)
def spScl (σ : SG) (z : Int) : SP := if 0 ≤ z ∧ z ≤ 1000 then (0, ((blk σ.1 (fun k => clp (aMx σ.1 k) ((aTl σ.1 k * z.toNat / 100 : Nat) : Int)) (σ.1 1)).2 : Int), ((blk σ.1 (fun k => clp (aMx σ.1 k) ((aTl σ.1 k * z.toNat / 100 : Nat) : Int)) (σ.1 1)).1, (kee σ).2)) else (1, 0, σ)
noncomputable def spOpt (σ : SG) (z : Int) : SP := if 1 ≤ z ∧ z ≤ 10 then (0, ((opt z.toNat (z.toNat + 1) σ.1 1).2 : Int), ((opt z.toNat (z.toNat + 1) σ.1 1).1, (kee σ).2)) else (1, 0, σ)
noncomputable def spBp (σ : SG) (y z u : Int) : SP := if (0 ≤ y ∧ y < σ.1 1) ∧ (0 ≤ z ∧ z < σ.1 1) then (if y ≠ z ∧ 1 ≤ u ∧ u ≤ 9999 then (0, bpR σ.1 y.toNat z.toNat u.toNat, σ) else (2, 0, σ)) else (1, 0, σ)
def spSwp (σ : SG) (y z : Int) : SP := if (0 ≤ y ∧ y < σ.1 1) ∧ (0 ≤ z ∧ z < σ.1 1) then (if aTl σ.1 z.toNat ≤ aMx σ.1 y.toNat ∧ aTl σ.1 y.toNat ≤ aMx σ.1 z.toNat then (0, 1, (stl (stl σ.1 y.toNat (aTl σ.1 z.toNat)) z.toNat (aTl σ.1 y.toNat), (kee σ).2)) else (0, 0, σ)) else (1, 0, σ)
def spSav (σ : SG) (z : Int) : SP := if 0 ≤ z ∧ z ≤ 1 then (0, (σ.1 1 : Int), snS σ z.toNat) else (1, 0, σ)
def spRes (σ : SG) (z : Int) : SP := if 0 ≤ z ∧ z ≤ 1 then (0, (match (if z.toNat = 0 then σ.2.2.1 else σ.2.2.2.1) with | none => -1 | some ρ => (ρ 1 : Int)), snR_ σ z.toNat) else (1, 0, σ)
noncomputable def rchN (ρ : Nat → Nat) (n : Nat) : Nat := @dite _ (∃ M, Rch ρ (uT ρ 0 (-1) 0) n M) (Classical.propDecidable _) (fun h => Classical.choose h) (fun _ => 0)
noncomputable def spRch (σ : SG) (z : Int) : SP := if 0 ≤ z ∧ z < σ.1 0 then (0, (rchN σ.1 z.toNat : Int), σ) else (1, 0, σ)
noncomputable def spJud (σ : SG) (z : Int) : SP := if 0 ≤ z ∧ z < σ.1 2 then (0, judI σ.1 z.toNat (sgB σ) (sgL σ), sgC σ) else (1, 0, σ)
noncomputable def spSte (σ : SG) (y z : Int) : SP := if 0 ≤ y ∧ y < σ.1 1 then (0, steI σ.1 y.toNat z, σ) else (1, 0, σ)
noncomputable def spRevW (σ : SG) (y z : Int) : SP := if 0 ≤ y ∧ y < σ.1 1 then (if 0 ≤ z ∧ z ≤ aMx σ.1 y.toNat then (0, allI (stl σ.1 y.toNat z.toNat) 0 (-1) 0, σ) else (2, 0, σ)) else (1, 0, σ)
theorem Rch.eq {ρ : Nat → Nat} {n M : Nat} (h : Rch ρ (uT ρ 0 (-1) 0) n M) : M = rchN ρ n := by
  have hh : ∃ M, Rch ρ (uT ρ 0 (-1) 0) n M := ⟨M, h⟩
  unfold rchN
  rw [dif_pos hh]
  exact h.uniq (Classical.choose_spec hh)
section
variable {w : WH} {x s q F n t a : Nat} {ν : NH} {σ : SG} {η : RH}
theorem F1.of {α : Type} {enc : Int → α} {km : Nat → Nat} {w' : WH} {o c k : Nat} {res : Option ((Sum α (Nat × Nat)) × WH)} {a : Int} {σ' : SG} (hd : Don w w' x o σ' c k) (e : res = some (.inl (enc a), w')) : F1 enc km res w x o (0, a, σ') c k := ⟨w', hd, .inl ⟨rfl, e⟩⟩
theorem c_inZ {y lo hi : Int} (hy : bI y) (hl : bI lo) (hh : bI hi) : fX1_inRange (zI y).toInt64 (zJ lo) (zJ hi) w = some (zN (if lo ≤ y ∧ y ≤ hi then 1 else 0), w) := by
  rw [zI_J hy]
  unfold bI at hy hl hh
  exact c_inR ⟨by omega, by omega⟩ ⟨by omega, by omega⟩ ⟨by omega, by omega⟩
theorem f_setToll (h : RcP w x σ F s q ν η) {y z : Int} (hy : bI y) (hz : bI z) (hC : 5 ≤ wC w) (hS : 39 ≤ wS w) : F1 zI km2 (fX1_setToll x (zI y) (zI z) w) w x (hL η) (spSet σ y z) 5 39 := by
  have hI := h.1.2.2.2.1
  have h1 := hI.h1
  unfold spSet
  by_cases c : 0 ≤ y ∧ y < σ.1 1
  · rw [if_pos c]
    have ha : y.toNat < σ.1 1 := by omega
    have ca := hI.ha ha
    by_cases c2 : 0 ≤ z ∧ z ≤ aMx σ.1 y.toNat
    · rw [if_pos c2, zI_nn c.1, zI_nn c2.1]
      obtain ⟨w', e, d⟩ := c_setToll1 h ha (v := z.toNat) (by omega) hC hS
      exact F1.of d e
    · rw [if_neg c2]
      have e2 := c_inZ (w := w) hz (lo := 0) (hi := aMx σ.1 y.toNat) ⟨by omega, by omega⟩ ⟨by omega, by omega⟩
      rw [if_neg c2] at e2
      have e3 : (zN (aMx σ.1 y.toNat)).toInt64 = zJ (aMx σ.1 y.toNat : Int) := zN_J (by omega)
      have z0 : (0 : Int64) = zJ 0 := rfl
      rw [zI_nn c.1]
      refine (F1.thr (km := km2) h (j := 1) (by omega) (by decide) ?_).mono (by omega) (by omega)
      simp (disch := omega) only [b2_some, bd_some, nm_eq, Option.map_some, zN_lit, zN_add, zN_mul, zN_neg1, if_true, if_false, reduceIte, eq_self, Nat.reduceEqDiff, Nat.reduceAdd, Nat.reduceMul, Nat.reduceSub, Nat.reduceLeDiff, Nat.one_ne_zero, not_false_eq_true, Bool.false_eq_true, zN_eq, zN_lt, zN_le,  fX1_setToll, h.mr.g0, h.mr.g1, h.mr.xI, h.mr.1.FI, c_snet h.mr.1.2.1, c_sI h.mr.1.2.1, c_nal h.mr.1.2.2.1, c_ntl h.mr.1.2.2.1, c_nn h.mr.1.2.2.1, c_alI h.mr.1.2.2.1, c_tlI h.mr.1.2.2.1, c_size h.mr.1.2.2.1, c_size2 h.mr.1.2.2.1, c_arcAt1 h.mr ha, ex_, c_aI h.mr.1.2.2.1 ha, c_most h.mr.1.2.2.1 ha, e3, z0, e2, c_ra0 (show 1 ≤ wC w by omega) (show 6 ≤ wS w by omega)]
  · rw [if_neg c]
    have e := c_arcAt0 h.mr hy c (by omega) (by omega)
    refine (F1.thr (km := km2) h (j := 0) (by omega) (by decide) ?_).mono (by omega) (by omega)
    simp (disch := omega) only [b2_some, bd_some, nm_eq, Option.map_some, zN_lit, zN_add, zN_mul, zN_neg1, if_true, if_false, reduceIte, eq_self, Nat.reduceEqDiff, Nat.reduceAdd, Nat.reduceMul, Nat.reduceSub, Nat.reduceLeDiff, Nat.one_ne_zero, not_false_eq_true, Bool.false_eq_true, zN_eq, zN_lt, zN_le,  fX1_setToll, h.mr.g0, h.mr.g1, h.mr.xI, h.mr.1.FI, c_snet h.mr.1.2.1, c_sI h.mr.1.2.1, c_nal h.mr.1.2.2.1, c_ntl h.mr.1.2.2.1, c_nn h.mr.1.2.2.1, c_alI h.mr.1.2.2.1, c_tlI h.mr.1.2.2.1, c_size h.mr.1.2.2.1, c_size2 h.mr.1.2.2.1, e, ex_]
theorem f_revW (h : RcP w x σ F s q ν η) {y z : Int} (hy : bI y) (hz : bI z) (hC : 1 ≤ wC w) (hS : 6 ≤ wS w) : F1 zJ km2 (fX1_revenueWith x (zI y) (zI z) w) w x (hL η) (spRevW σ y z) 1 6 := by
  have hI := h.1.2.2.2.1
  have h1 := hI.h1
  unfold spRevW
  by_cases c : 0 ≤ y ∧ y < σ.1 1
  · rw [if_pos c]
    have ha : y.toNat < σ.1 1 := by omega
    have ca := hI.ha ha
    by_cases c2 : 0 ≤ z ∧ z ≤ aMx σ.1 y.toNat
    · rw [if_pos c2, zI_nn c.1, zI_nn c2.1]
      obtain ⟨w', e, d⟩ := q_revW h.mr ha (v := z.toNat) (by omega)
      exact F1.of ((h.kfd d).mono (by omega) (by omega)) e
    · rw [if_neg c2]
      have e2 := c_inZ (w := w) hz (lo := 0) (hi := aMx σ.1 y.toNat) ⟨by omega, by omega⟩ ⟨by omega, by omega⟩
      rw [if_neg c2] at e2
      have e3 : (zN (aMx σ.1 y.toNat)).toInt64 = zJ (aMx σ.1 y.toNat : Int) := zN_J (by omega)
      have z0 : (0 : Int64) = zJ 0 := rfl
      rw [zI_nn c.1]
      refine (F1.thr (km := km2) h (j := 1) (by omega) (by decide) ?_).mono (by omega) (by omega)
      simp (disch := omega) only [b2_some, bd_some, nm_eq, Option.map_some, zN_lit, zN_add, zN_mul, zN_neg1, if_true, if_false, reduceIte, eq_self, Nat.reduceEqDiff, Nat.reduceAdd, Nat.reduceMul, Nat.reduceSub, Nat.reduceLeDiff, Nat.one_ne_zero, not_false_eq_true, Bool.false_eq_true, zN_eq, zN_lt, zN_le,  fX1_revenueWith, h.mr.g0, h.mr.g1, h.mr.xI, h.mr.1.FI, c_snet h.mr.1.2.1, c_sI h.mr.1.2.1, c_nal h.mr.1.2.2.1, c_ntl h.mr.1.2.2.1, c_nn h.mr.1.2.2.1, c_alI h.mr.1.2.2.1, c_tlI h.mr.1.2.2.1, c_size h.mr.1.2.2.1, c_size2 h.mr.1.2.2.1, c_arcAt1 h.mr ha, ex_, c_aI h.mr.1.2.2.1 ha, c_most h.mr.1.2.2.1 ha, e3, z0, e2, c_ra0 (show 1 ≤ wC w by omega) (show 6 ≤ wS w by omega)]
  · rw [if_neg c]
    have e := c_arcAt0 h.mr hy c (by omega) (by omega)
    refine (F1.thr (km := km2) h (j := 0) (by omega) (by decide) ?_).mono (by omega) (by omega)
    simp (disch := omega) only [b2_some, bd_some, nm_eq, Option.map_some, zN_lit, zN_add, zN_mul, zN_neg1, if_true, if_false, reduceIte, eq_self, Nat.reduceEqDiff, Nat.reduceAdd, Nat.reduceMul, Nat.reduceSub, Nat.reduceLeDiff, Nat.one_ne_zero, not_false_eq_true, Bool.false_eq_true, zN_eq, zN_lt, zN_le,  fX1_revenueWith, h.mr.g0, h.mr.g1, h.mr.xI, h.mr.1.FI, c_snet h.mr.1.2.1, c_sI h.mr.1.2.1, c_nal h.mr.1.2.2.1, c_ntl h.mr.1.2.2.1, c_nn h.mr.1.2.2.1, c_alI h.mr.1.2.2.1, c_tlI h.mr.1.2.2.1, c_size h.mr.1.2.2.1, c_size2 h.mr.1.2.2.1, e, ex_]
theorem f_setDem (h : RcP w x σ F s q ν η) {y z : Int} (hy : bI y) (hz : bI z) (hC : 5 ≤ wC w) (hS : 39 ≤ wS w) : F1 zI km2 (fX1_setDemand x (zI y) (zI z) w) w x (hL η) (spDem σ y z) 5 39 := by
  unfold spDem
  by_cases c : 0 ≤ y ∧ y < σ.1 2
  · rw [if_pos c]
    have ht : y.toNat < σ.1 2 := by omega
    by_cases c2 : 0 ≤ z ∧ z ≤ 999
    · rw [if_pos c2, zI_nn c.1, zI_nn c2.1]
      obtain ⟨w', e, d⟩ := c_setDem1 h ht (v := z.toNat) (by omega) hC hS
      exact F1.of d e
    · rw [if_neg c2]
      have e2 := c_inZ (w := w) hz (lo := 0) (hi := 999) ⟨by omega, by omega⟩ ⟨by omega, by omega⟩
      rw [if_neg c2] at e2
      have z0 : (0 : Int64) = zJ 0 := rfl
      have z1 : (999 : Int64) = zJ 999 := rfl
      rw [zI_nn c.1]
      refine (F1.thr (km := km2) h (j := 1) (by omega) (by decide) ?_).mono (by omega) (by omega)
      simp (disch := omega) only [b2_some, bd_some, nm_eq, Option.map_some, zN_lit, zN_add, zN_mul, zN_neg1, if_true, if_false, reduceIte, eq_self, Nat.reduceEqDiff, Nat.reduceAdd, Nat.reduceMul, Nat.reduceSub, Nat.reduceLeDiff, Nat.one_ne_zero, not_false_eq_true, Bool.false_eq_true, zN_eq, zN_lt, zN_le,  fX1_setDemand, h.mr.g0, h.mr.g1, h.mr.xI, h.mr.1.FI, c_snet h.mr.1.2.1, c_sI h.mr.1.2.1, c_nal h.mr.1.2.2.1, c_ntl h.mr.1.2.2.1, c_nn h.mr.1.2.2.1, c_alI h.mr.1.2.2.1, c_tlI h.mr.1.2.2.1, c_size h.mr.1.2.2.1, c_size2 h.mr.1.2.2.1, c_isP1 h.mr ht, c_rq1, ex_, z0, z1, e2, c_ra0 (show 1 ≤ wC w by omega) (show 6 ≤ wS w by omega)]
  · rw [if_neg c]
    have e := c_isP0 h.mr hy c
    refine (F1.thr (km := km2) h (j := 0) (by omega) (by decide) ?_).mono (by omega) (by omega)
    simp (disch := omega) only [b2_some, bd_some, nm_eq, Option.map_some, zN_lit, zN_add, zN_mul, zN_neg1, if_true, if_false, reduceIte, eq_self, Nat.reduceEqDiff, Nat.reduceAdd, Nat.reduceMul, Nat.reduceSub, Nat.reduceLeDiff, Nat.one_ne_zero, not_false_eq_true, Bool.false_eq_true, zN_eq, zN_lt, zN_le,  fX1_setDemand, h.mr.g0, h.mr.g1, h.mr.xI, h.mr.1.FI, c_snet h.mr.1.2.1, c_sI h.mr.1.2.1, c_nal h.mr.1.2.2.1, c_ntl h.mr.1.2.2.1, c_nn h.mr.1.2.2.1, c_alI h.mr.1.2.2.1, c_tlI h.mr.1.2.2.1, c_size h.mr.1.2.2.1, c_size2 h.mr.1.2.2.1, e, c_rq0 (show 1 ≤ wC w by omega) (show 6 ≤ wS w by omega), ex_]
theorem f_close (h : RcP w x σ F s q ν η) {y : Int} {v : Nat} (hy : bI y) (hv : v ≤ 1) (hC : 5 ≤ wC w) (hS : 39 ≤ wS w) : F1 zI km0 (fX1_close x (zI y) (zN v) w) w x (hL η) (spClo σ y v) 5 39 := by
  unfold spClo
  by_cases c : 0 ≤ y ∧ y < σ.1 1
  · rw [if_pos c]
    have ha : y.toNat < σ.1 1 := by omega
    rw [zI_nn c.1]
    obtain ⟨w', e, d⟩ := c_close1 h ha hv hC hS
    exact F1.of d e
  · rw [if_neg c]
    have e := c_isA0 h.mr hy c
    refine (F1.thr (km := km0) h (j := 0) (by omega) (by decide) ?_).mono (by omega) (by omega)
    simp (disch := omega) only [b2_some, bd_some, nm_eq, Option.map_some, zN_lit, zN_add, zN_mul, zN_neg1, if_true, if_false, reduceIte, eq_self, Nat.reduceEqDiff, Nat.reduceAdd, Nat.reduceMul, Nat.reduceSub, Nat.reduceLeDiff, Nat.one_ne_zero, not_false_eq_true, Bool.false_eq_true, zN_eq, zN_lt, zN_le,  fX1_close, h.mr.g0, h.mr.g1, h.mr.xI, h.mr.1.FI, c_snet h.mr.1.2.1, c_sI h.mr.1.2.1, c_nal h.mr.1.2.2.1, c_ntl h.mr.1.2.2.1, c_nn h.mr.1.2.2.1, c_alI h.mr.1.2.2.1, c_tlI h.mr.1.2.2.1, c_size h.mr.1.2.2.1, c_size2 h.mr.1.2.2.1, e, c_rq0 (show 1 ≤ wC w by omega) (show 6 ≤ wS w by omega), ex_]
theorem f_add (h : RcP w x σ F s q ν η) {z : Int} (hz : bI z) (hC : 6 ≤ wC w) (hS : 43 ≤ wS w) : F1 zI km1 (fX1_addTolls x (zI z) w) w x (hL η) (spAdd σ z) 6 43 := by
  unfold spAdd
  by_cases c : -9999 ≤ z ∧ z ≤ 9999
  · rw [if_pos c]
    obtain ⟨w', e, d⟩ := c_addT1 h c hC hS
    exact F1.of d e
  · rw [if_neg c]
    have e2 := c_inZ (w := w) hz (lo := -9999) (hi := 9999) ⟨by omega, by omega⟩ ⟨by omega, by omega⟩
    rw [if_neg c] at e2
    have z0 : (-9999 : Int64) = zJ (-9999) := rfl
    have z1 : (9999 : Int64) = zJ 9999 := rfl
    refine (F1.thr (km := km1) h (j := 1) (by omega) (by decide) ?_).mono (by omega) (by omega)
    unfold fX1_addTolls
    rw [z0, z1, e2, b2_some, c_ra0 (show 1 ≤ wC w by omega) (show 6 ≤ wS w by omega), b2_some]
    rfl
theorem f_scl (h : RcP w x σ F s q ν η) {z : Int} (hz : bI z) (hC : 6 ≤ wC w) (hS : 43 ≤ wS w) : F1 zI km1 (fX1_scaleTolls x (zI z) w) w x (hL η) (spScl σ z) 6 43 := by
  unfold spScl
  by_cases c : 0 ≤ z ∧ z ≤ 1000
  · rw [if_pos c, zI_nn c.1]
    obtain ⟨w', e, d⟩ := c_sclT1 h (v := z.toNat) (by omega) hC hS
    exact F1.of d e
  · rw [if_neg c]
    have e2 := c_inZ (w := w) hz (lo := 0) (hi := 1000) ⟨by omega, by omega⟩ ⟨by omega, by omega⟩
    rw [if_neg c] at e2
    have z0 : (0 : Int64) = zJ 0 := rfl
    have z1 : (1000 : Int64) = zJ 1000 := rfl
    refine (F1.thr (km := km1) h (j := 1) (by omega) (by decide) ?_).mono (by omega) (by omega)
    unfold fX1_scaleTolls
    rw [z0, z1, e2, b2_some, c_ra0 (show 1 ≤ wC w by omega) (show 6 ≤ wS w by omega), b2_some]
    rfl
theorem f_opt (h : RcP w x σ F s q ν η) {z : Int} (hz : bI z) (hC : 260 ≤ wC w) (hS : 1040 ≤ wS w) : F1 zI km1 (fX1_optimize x (zI z) w) w x (hL η) (spOpt σ z) 260 1040 := by
  unfold spOpt
  by_cases c : 1 ≤ z ∧ z ≤ 10
  · rw [if_pos c, zI_nn (by omega)]
    obtain ⟨w', e, d⟩ := c_optim1 h (v := z.toNat) (by omega) hC hS
    exact F1.of d e
  · rw [if_neg c]
    have e2 := c_inZ (w := w) hz (lo := 1) (hi := 10) ⟨by omega, by omega⟩ ⟨by omega, by omega⟩
    rw [if_neg c] at e2
    have z0 : (1 : Int64) = zJ 1 := rfl
    have z1 : (10 : Int64) = zJ 10 := rfl
    refine (F1.thr (km := km1) h (j := 1) (by omega) (by decide) ?_).mono (by omega) (by omega)
    unfold fX1_optimize
    rw [z0, z1, e2, b2_some, c_ra0 (show 1 ≤ wC w by omega) (show 6 ≤ wS w by omega), b2_some]
    rfl
theorem f_rch (h : RcP w x σ F s q ν η) {z : Int} (hz : bI z) (hC : 40 ≤ wC w) (hS : 100 ≤ wS w) : F1 zI km1 (fX1_reachable x (zI z) w) w x (hL η) (spRch σ z) 40 100 := by
  have h0 := h.1.2.2.2.1.h0
  unfold spRch
  by_cases c : 0 ≤ z ∧ z < σ.1 0
  · rw [if_pos c, zI_nn c.1]
    obtain ⟨M, w', e, hM, d⟩ := c_rch h.mr h.2.1 (n := z.toNat) (by omega) hC hS
    rw [hM.eq] at e
    exact F1.of (h.kgd d) e
  · rw [if_neg c]
    have e2 := c_inZ (w := w) hz (lo := 0) (hi := (σ.1 0 : Int) - 1) ⟨by omega, by omega⟩ ⟨by omega, by omega⟩
    rw [if_neg (by omega)] at e2
    have e1 : (zN (σ.1 0) - 1).toInt64 = zJ ((σ.1 0 : Int) - 1) := by
      rw [show zN (σ.1 0) - 1 = zI ((σ.1 0 : Int) - 1) from zI_sub (σ.1 0 : Int) 1, zI_J (by omega)]
    have z0 : (0 : Int64) = zJ 0 := rfl
    refine (F1.thr (km := km1) h (j := 1) (by omega) (by decide) ?_).mono (by omega) (by omega)
    have M := h.mr
    unfold fX1_reachable
    simp only [M.g0, bd_some, c_snet M.1.2.1, c_nn M.1.2.2.1, z0, e1, e2, b2_some, c_ra0 (show 1 ≤ wC w by omega) (show 6 ≤ wS w by omega)]
    rfl
theorem f_jud (h : RcP w x σ F s q ν η) {z : Int} (hz : bI z) (hC : 1 ≤ wC w) (hS : 6 ≤ wS w) : F1 zI km0 (fX1_judge x (zI z) w) w x (hL η) (spJud σ z) 1 6 := by
  unfold spJud
  by_cases c : 0 ≤ z ∧ z < σ.1 2
  · rw [if_pos c, zI_nn c.1]
    obtain ⟨w', e, d⟩ := c_judge1 h (t := z.toNat) (by omega)
    exact F1.of (d.mono (by omega) (by omega)) e
  · rw [if_neg c]
    have e := c_tripAt0 h.mr hz c (by omega) (by omega)
    refine (F1.thr (km := km0) h (j := 0) (by omega) (by decide) ?_).mono (by omega) (by omega)
    simp (disch := omega) only [b2_some, bd_some, nm_eq, Option.map_some, zN_lit, zN_add, zN_mul, zN_neg1, if_true, if_false, reduceIte, eq_self, Nat.reduceEqDiff, Nat.reduceAdd, Nat.reduceMul, Nat.reduceSub, Nat.reduceLeDiff, Nat.one_ne_zero, not_false_eq_true, Bool.false_eq_true, zN_eq, zN_lt, zN_le,  fX1_judge, h.mr.g0, h.mr.g1, h.mr.xI, h.mr.1.FI, c_snet h.mr.1.2.1, c_sI h.mr.1.2.1, c_nal h.mr.1.2.2.1, c_ntl h.mr.1.2.2.1, c_nn h.mr.1.2.2.1, c_alI h.mr.1.2.2.1, c_tlI h.mr.1.2.2.1, c_size h.mr.1.2.2.1, c_size2 h.mr.1.2.2.1, e, ex_]
theorem f_step (h : RcP w x σ F s q ν η) {y z : Int} (hy : bI y) (hz : bI z) (hC : 8 ≤ wC w) (hS : 2000 ≤ wS w) : F1 zI km0 (fX1_step x (zI y) (zI z) w) w x (hL η) (spSte σ y z) 8 2000 := by
  unfold spSte
  by_cases c : 0 ≤ y ∧ y < σ.1 1
  · rw [if_pos c, zI_nn c.1]
    obtain ⟨w', e, d⟩ := q_step h.mr h.2.1 (a := y.toNat) (by omega) hz hC hS
    exact F1.of (h.kgd d) e
  · rw [if_neg c]
    have e := c_arcAt0 h.mr hy c (by omega) (by omega)
    refine (F1.thr (km := km0) h (j := 0) (by omega) (by decide) ?_).mono (by omega) (by omega)
    simp (disch := omega) only [b2_some, bd_some, nm_eq, Option.map_some, zN_lit, zN_add, zN_mul, zN_neg1, if_true, if_false, reduceIte, eq_self, Nat.reduceEqDiff, Nat.reduceAdd, Nat.reduceMul, Nat.reduceSub, Nat.reduceLeDiff, Nat.one_ne_zero, not_false_eq_true, Bool.false_eq_true, zN_eq, zN_lt, zN_le,  fX1_step, h.mr.g0, h.mr.g1, h.mr.xI, h.mr.1.FI, c_snet h.mr.1.2.1, c_sI h.mr.1.2.1, c_nal h.mr.1.2.2.1, c_ntl h.mr.1.2.2.1, c_nn h.mr.1.2.2.1, c_alI h.mr.1.2.2.1, c_tlI h.mr.1.2.2.1, c_size h.mr.1.2.2.1, c_size2 h.mr.1.2.2.1, e, ex_]
theorem f_slot0 {z : Int} (hz : bI z) (c : ¬ (0 ≤ z ∧ z ≤ 1)) (hC : 1 ≤ wC w) (hS : 6 ≤ wS w) : fX1_requireSlot (zI z) w = some (.inr (1, wN w), wTh w) := by
  have e2 := c_inZ (w := w) hz (lo := 0) (hi := 1) ⟨by omega, by omega⟩ ⟨by omega, by omega⟩
  rw [if_neg c] at e2
  have z0 : (0 : Int64) = zJ 0 := rfl
  have z1 : (1 : Int64) = zJ 1 := rfl
  unfold fX1_requireSlot
  rw [z0, z1, e2, b2_some, c_ra0 hC hS, b2_some]
  rfl
theorem f_save (h : RcP w x σ F s q ν η) {z : Int} (hz : bI z) (hC : 5 ≤ wC w) (hS : 39 ≤ wS w) : F1 zI km1 (fX1_saveSnapshot x (zI z) w) w x (hL η) (spSav σ z) 5 39 := by
  unfold spSav
  by_cases c : 0 ≤ z ∧ z ≤ 1
  · rw [if_pos c, zI_nn c.1]
    obtain ⟨w', e, d⟩ := c_save1 h (v := z.toNat) (by omega) hC hS
    exact F1.of d e
  · rw [if_neg c]
    refine (F1.thr (km := km1) h (j := 1) (by omega) (by decide) ?_).mono (by omega) (by omega)
    unfold fX1_saveSnapshot
    rw [f_slot0 hz c (by omega) (by omega), b2_some]
    rfl
theorem f_rest (h : RcP w x σ F s q ν η) {z : Int} (hz : bI z) (hC : 5 ≤ wC w) (hS : 39 ≤ wS w) : F1 zI km1 (fX1_restoreSnapshot x (zI z) w) w x (hL η) (spRes σ z) 5 39 := by
  unfold spRes
  by_cases c : 0 ≤ z ∧ z ≤ 1
  · rw [if_pos c, zI_nn c.1]
    obtain ⟨w', e, d⟩ := c_rest1 h (v := z.toNat) (by omega) hC hS
    exact F1.of d e
  · rw [if_neg c]
    refine (F1.thr (km := km1) h (j := 1) (by omega) (by decide) ?_).mono (by omega) (by omega)
    unfold fX1_restoreSnapshot
    rw [f_slot0 hz c (by omega) (by omega), b2_some]
    rfl
theorem f_swap (h : RcP w x σ F s q ν η) {y z : Int} (hy : bI y) (hz : bI z) (hC : 5 ≤ wC w) (hS : 39 ≤ wS w) : F1 zI km0 (fX1_swapTolls x (zI y) (zI z) w) w x (hL η) (spSwp σ y z) 5 39 := by
  unfold spSwp
  by_cases c : (0 ≤ y ∧ y < σ.1 1) ∧ (0 ≤ z ∧ z < σ.1 1)
  · rw [if_pos c, zI_nn c.1.1, zI_nn c.2.1]
    obtain ⟨w', e, d⟩ := c_swap1 h (a := y.toNat) (b := z.toNat) (by omega) (by omega) hC hS
    by_cases c2 : aTl σ.1 z.toNat ≤ aMx σ.1 y.toNat ∧ aTl σ.1 y.toNat ≤ aMx σ.1 z.toNat
    · rw [if_pos c2] at e d ⊢
      exact F1.of d e
    · rw [if_neg c2] at e d ⊢
      exact F1.of d e
  · rw [if_neg c]
    refine (F1.thr (km := km0) h (j := 0) (by omega) (by decide) ?_).mono (by omega) (by omega)
    by_cases c1 : 0 ≤ y ∧ y < σ.1 1
    · have e1 := c_isA1 h.mr (a := y.toNat) (by omega)
      have e := c_isA0 h.mr hz (fun h => c ⟨c1, h⟩)
      rw [zI_nn c1.1]
      simp (disch := omega) only [b2_some, bd_some, nm_eq, Option.map_some, zN_lit, zN_add, zN_mul, zN_neg1, if_true, if_false, reduceIte, eq_self, Nat.reduceEqDiff, Nat.reduceAdd, Nat.reduceMul, Nat.reduceSub, Nat.reduceLeDiff, Nat.one_ne_zero, not_false_eq_true, Bool.false_eq_true, zN_eq, zN_lt, zN_le,  fX1_swapTolls, h.mr.g0, h.mr.g1, h.mr.xI, h.mr.1.FI, c_snet h.mr.1.2.1, c_sI h.mr.1.2.1, c_nal h.mr.1.2.2.1, c_ntl h.mr.1.2.2.1, c_nn h.mr.1.2.2.1, c_alI h.mr.1.2.2.1, c_tlI h.mr.1.2.2.1, c_size h.mr.1.2.2.1, c_size2 h.mr.1.2.2.1, e1, e, fX1_swapTolls_b20, fX1_swapTolls_b21, c_rq0 (show 1 ≤ wC w by omega) (show 6 ≤ wS w by omega), ex_]
    · have e := c_isA0 h.mr hy c1
      simp (disch := omega) only [b2_some, bd_some, nm_eq, Option.map_some, zN_lit, zN_add, zN_mul, zN_neg1, if_true, if_false, reduceIte, eq_self, Nat.reduceEqDiff, Nat.reduceAdd, Nat.reduceMul, Nat.reduceSub, Nat.reduceLeDiff, Nat.one_ne_zero, not_false_eq_true, Bool.false_eq_true, zN_eq, zN_lt, zN_le,  fX1_swapTolls, h.mr.g0, h.mr.g1, h.mr.xI, h.mr.1.FI, c_snet h.mr.1.2.1, c_sI h.mr.1.2.1, c_nal h.mr.1.2.2.1, c_ntl h.mr.1.2.2.1, c_nn h.mr.1.2.2.1, c_alI h.mr.1.2.2.1, c_tlI h.mr.1.2.2.1, c_size h.mr.1.2.2.1, c_size2 h.mr.1.2.2.1, e, fX1_swapTolls_b20, fX1_swapTolls_b21, c_rq0 (show 1 ≤ wC w by omega) (show 6 ≤ wS w by omega), ex_]
end
