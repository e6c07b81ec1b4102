/-! Plain law: the component's actions on all tolls; swap -/
section
variable {w w' : WH} {x s q F n o a b v t : Nat} {ρ ρ' : Nat → Nat} {ν : NH} {σ : SG} {η : RH}
theorem clp_mm {M : Nat} {z : Int} (hM : M ≤ 9999) (hz : -100000000 ≤ z ∧ z ≤ 100000000) : mxI (zN 0) (mnI (zN M) (zI z)) = zN (clp M z) := by
  have m1 : mnI (zN M) (zI z) = zI (if z < M then z else M) := mnI_z (a := M) (b := z) (by omega) (by omega)
  have m2 : mxI (zN 0) (zI (if z < M then z else M)) = zI (if 0 < (if z < M then z else (M : Int)) then (if z < M then z else M) else 0) := mxI_z (a := 0) (b := if z < M then z else (M : Int)) (by omega) (by split <;> omega)
  rw [m1, m2]
  unfold clp
  by_cases c1 : z < 0
  · rw [if_pos c1, if_pos (show z < (M : Int) by omega), if_neg (by omega)]
    rfl
  · rw [if_neg c1]
    by_cases c2 : (M : Int) < z
    · rw [if_pos c2, if_neg (show ¬ z < (M : Int) by omega)]
      by_cases c3 : 0 < (M : Int)
      · rw [if_pos c3]; rfl
      · rw [if_neg c3, show M = 0 by omega]; rfl
    · rw [if_neg c2]
      by_cases c3 : z < (M : Int)
      · rw [if_pos c3]
        by_cases c4 : 0 < z
        · rw [if_pos c4]; exact zI_nn (by omega)
        · rw [if_neg c4, show z = 0 by omega]; rfl
      · rw [if_neg c3, show z = (M : Int) by omega]
        by_cases c4 : 0 < (M : Int)
        · rw [if_pos c4]; rfl
        · rw [if_neg c4, show M = 0 by omega]; rfl
theorem clp_mn {M v : Nat} (hM : M ≤ 9999) (hv : v ≤ 100000000) : mnI (zN M) (zN v) = zN (clp M (v : Int)) := by
  have m1 : mnI (zN M) (zN v) = zI (if (v : Int) < M then v else M) := mnI_z (a := M) (b := v) (by omega) (by omega)
  rw [m1]
  unfold clp
  have n0 : ¬ ((v : Int) < 0) := by omega
  by_cases c2 : (M : Int) < v
  · rw [if_neg (show ¬ ((v : Int) < M) by omega), if_neg n0, if_pos c2]; rfl
  · by_cases c3 : (v : Int) < M
    · rw [if_pos c3, if_neg n0, if_neg c2]; rfl
    · rw [if_neg c3, if_neg n0, if_neg c2, show M = v by omega]; rfl
theorem c_addL (h : RcP w x σ F s q ν η) {z : Int} (hz : -9999 ≤ z ∧ z ≤ 9999) (hC : 1 ≤ wC w) (hS : 4 ≤ wS w) : ∃ w', fX1_addTolls_l36 x (zI z) 0 (some (wN w)) (hMk w 4 (itC 0 (-1) ν.2.2.2.1 (nAl ν))) = some (.inl (zN (blk σ.1 (fun k => clp (aMx σ.1 k) ((aTl σ.1 k : Int) + z)) (σ.1 1)).2), w') ∧ Don w w' x (hL η) ((blk σ.1 (fun k => clp (aMx σ.1 k) ((aTl σ.1 k : Int) + z)) (σ.1 1)).1, σ.2) 1 4 := by
  have hI := h.1.2.2.2.1
  have h1 := hI.h1
  have hW := h.2.1
  have K0 : Kg F (· = q) w (hMk w 4 (itC 0 (-1) ν.2.2.2.1 (nAl ν))) 1 4 := Kg.mk h.1.1 hW _ _
  have K0' : Kg F nQ w (hMk w 4 (itC 0 (-1) ν.2.2.2.1 (nAl ν))) 1 4 := Kg.mk h.1.1 hW _ _
  have M0 := h.mr.kg hW K0'
  have hf : ∀ k, k < σ.1 1 → (fun k => clp (aMx σ.1 k) ((aTl σ.1 k : Int) + z)) k ≤ aMx σ.1 k := fun k _ => clp_le _ _
  generalize hfe : (fun k => clp (aMx σ.1 k) ((aTl σ.1 k : Int) + z)) = f at hf
  have hfx : ∀ k, f k = (fun k => clp (aMx σ.1 k) ((aTl σ.1 k : Int) + z)) k := fun k => by rw [hfe]
  have H : ∃ r, fX1_addTolls_l36 x (zI z) (zN 0) (some (wN w)) (hMk w 4 (itC 0 (-1) ν.2.2.2.1 (nAl ν))) = some r ∧ ∃ w', r = (.inl (zN (blk σ.1 f (σ.1 1)).2), w') ∧ MR w' x F s q ν (blk σ.1 f (σ.1 1)).1 ∧ Kg F (· = q) w w' 1 4 := by
    refine wh_up (P := fun i y => i ≤ σ.1 1 ∧ ∃ w' lr, y = (zN (blk σ.1 f i).2, w') ∧ MR w' x F s q ν (blk σ.1 f i).1 ∧ Kg F (· = q) w w' 1 4 ∧ w'.1 (wN w) = some (itC i lr ν.2.2.2.1 (nAl ν))) (σ.1 1) ?_ ?_ (σ.1 1) 0 _ (by omega) ⟨by omega, _, _, rfl, M0, K0, hMk_eq _ _ _⟩
    · rintro i y hi ⟨-, w', lr, rfl, hM, hK, hIt⟩
      have hI' := hM.inv
      have e1 : (blk σ.1 f i).1 1 = σ.1 1 := blk_low _ _ _ (by omega)
      have hi' : i < (blk σ.1 f i).1 1 := by omega
      have ci := hI.ha hi
      obtain ⟨ac1, ac2⟩ := blk_acc σ.1 f i i
      rw [if_neg (by omega)] at ac2
      obtain ⟨i1, i2, w1, i3, M1, W1, K1, T1, -⟩ := c_itA hM hK.2.2.1 hK hi' hIt (Nat.le_refl _)
      have hto := c_toll M1.1.2.1 M1.1.2.2.1 M1.inv hi'
      have hmo := c_most M1.1.2.2.1 hi'
      have hnu := c_num M1.1.2.2.1 hi'
      have hai := c_aI M1.1.2.2.1 hi'
      rw [ac2] at hto
      rw [ac1] at hmo
      have hfi := hf i hi
      obtain ⟨g, hg, hgv⟩ := M1.1.2.1.2.1
      have s1 : stI w1 q 0 (zN i) (zN (f i)) = some (hUp w1 q (tolC (upd g i (zN (f i))))) := c_stI hg (by omega) (by omega) _
      have M2 := M1.stl hg hgv hi' (y := f i) (by rw [ac1]; exact hfi)
      have T2 : (hUp w1 q (tolC (upd g i (zN (f i))))).1 (wN w) = _ := keep_kd hg T1 rfl _
      have K2 := K1.up hg rfl (.inr rfl) (tolC (upd g i (zN (f i))))
      have hto2 := c_toll M2.1.2.1 M2.1.2.2.1 M2.inv (a := i) (by rw [stl_low _ _ _ (by omega)]; exact hi')
      rw [stl_L, if_pos rfl] at hto2
      have sI2 := c_sI M2.1.2.1
      have x1 : zN (aTl σ.1 i) + zI z = zI ((aTl σ.1 i : Int) + z) := zI_add _ _
      have x2 : mxI (zN 0) (mnI (zN (aMx σ.1 i)) (zI ((aTl σ.1 i : Int) + z))) = zN (f i) := by rw [clp_mm (by omega) (by omega), hfx]
      left
      refine ⟨(zN (blk σ.1 f (i + 1)).2, hUp w1 q (tolC (upd g i (zN (f i))))), ?_, by omega, _, _, rfl, M2, K2, T2⟩
      rw [blk_succ]
      by_cases c : f i = aTl σ.1 i
      · rw [if_pos c]
        rw [c] at hto2 s1 x2 sI2
        rw [c] at M2
        rw [c]
        simp (disch := omega) only [b2_some, bd_some, nm_eq, Option.map_some, zN_lit, zN_add, zN_mul, zN_neg1, if_true, if_false, reduceIte, eq_self, Nat.reduceEqDiff, Nat.reduceAdd, Nat.reduceMul, Nat.reduceSub, Nat.reduceLeDiff, Nat.one_ne_zero, not_false_eq_true, Bool.false_eq_true, zN_eq, zN_lt, zN_le,  fX1_addTolls_b36, i1, i2, i3, M1.g0, c_sI M1.1.2.1, hto, c_gtl M1, hai, hnu, hmo, x1, x2, s1, fX1_addTolls_b96, M2.g0, sI2, hto2, fX1_addTolls_b116, Nat.add_zero]
      · rw [if_neg c]
        simp (disch := omega) only [b2_some, bd_some, nm_eq, Option.map_some, zN_lit, zN_add, zN_mul, zN_neg1, if_true, if_false, reduceIte, eq_self, Nat.reduceEqDiff, Nat.reduceAdd, Nat.reduceMul, Nat.reduceSub, Nat.reduceLeDiff, Nat.one_ne_zero, not_false_eq_true, Bool.false_eq_true, zN_eq, zN_lt, zN_le,  fX1_addTolls_b36, i1, i2, i3, M1.g0, c_sI M1.1.2.1, hto, c_gtl M1, hai, hnu, hmo, x1, x2, s1, fX1_addTolls_b96, M2.g0, sI2, hto2, c, fX1_addTolls_b116]
    · rintro y ⟨-, w', lr, rfl, hM, hK, hIt⟩
      have e1 : (blk σ.1 f (σ.1 1)).1 1 = σ.1 1 := blk_low _ _ _ (by omega)
      rw [← e1] at hIt
      obtain ⟨i1, i2⟩ := c_itAe hM hIt
      refine ⟨_, ?_, w', rfl, hM, hK⟩
      simp (disch := omega) only [b2_some, bd_some, nm_eq, Option.map_some, zN_lit, zN_add, zN_mul, zN_neg1, if_true, if_false, reduceIte, eq_self, Nat.reduceEqDiff, Nat.reduceAdd, Nat.reduceMul, Nat.reduceSub, Nat.reduceLeDiff, Nat.one_ne_zero, not_false_eq_true, Bool.false_eq_true, zN_eq, zN_lt, zN_le,  fX1_addTolls_b36, i1, i2]
  obtain ⟨r, e, w', rfl, hM, hK⟩ := H
  exact ⟨w', e, ⟨F, s, q, ν, η, h.mut hK.wq hM.1, rfl⟩, hK.2.2.2.2.2.1, hK.2.2.2.2.2.2⟩
theorem c_sclL (h : RcP w x σ F s q ν η) (hv : v ≤ 1000) (hC : 1 ≤ wC w) (hS : 4 ≤ wS w) : ∃ w', fX1_scaleTolls_l34 x (zN v) 0 (some (wN w)) (hMk w 4 (itC 0 (-1) ν.2.2.2.1 (nAl ν))) = some (.inl (zN (blk σ.1 (fun k => clp (aMx σ.1 k) ((aTl σ.1 k * v / 100 : Nat) : Int)) (σ.1 1)).2), w') ∧ Don w w' x (hL η) ((blk σ.1 (fun k => clp (aMx σ.1 k) ((aTl σ.1 k * v / 100 : Nat) : Int)) (σ.1 1)).1, σ.2) 1 4 := by
  have hI := h.1.2.2.2.1
  have h1 := hI.h1
  have hW := h.2.1
  have K0 : Kg F (· = q) w (hMk w 4 (itC 0 (-1) ν.2.2.2.1 (nAl ν))) 1 4 := Kg.mk h.1.1 hW _ _
  have K0' : Kg F nQ w (hMk w 4 (itC 0 (-1) ν.2.2.2.1 (nAl ν))) 1 4 := Kg.mk h.1.1 hW _ _
  have M0 := h.mr.kg hW K0'
  have hf : ∀ k, k < σ.1 1 → (fun k => clp (aMx σ.1 k) ((aTl σ.1 k * v / 100 : Nat) : Int)) k ≤ aMx σ.1 k := fun k _ => clp_le _ _
  generalize hfe : (fun k => clp (aMx σ.1 k) ((aTl σ.1 k * v / 100 : Nat) : Int)) = f at hf
  have hfx : ∀ k, f k = (fun k => clp (aMx σ.1 k) ((aTl σ.1 k * v / 100 : Nat) : Int)) k := fun k => by rw [hfe]
  have H : ∃ r, fX1_scaleTolls_l34 x (zN v) (zN 0) (some (wN w)) (hMk w 4 (itC 0 (-1) ν.2.2.2.1 (nAl ν))) = some r ∧ ∃ w', r = (.inl (zN (blk σ.1 f (σ.1 1)).2), w') ∧ MR w' x F s q ν (blk σ.1 f (σ.1 1)).1 ∧ Kg F (· = q) w w' 1 4 := by
    refine wh_up (P := fun i y => i ≤ σ.1 1 ∧ ∃ w' lr, y = (zN (blk σ.1 f i).2, w') ∧ MR w' x F s q ν (blk σ.1 f i).1 ∧ Kg F (· = q) w w' 1 4 ∧ w'.1 (wN w) = some (itC i lr ν.2.2.2.1 (nAl ν))) (σ.1 1) ?_ ?_ (σ.1 1) 0 _ (by omega) ⟨by omega, _, _, rfl, M0, K0, hMk_eq _ _ _⟩
    · rintro i y hi ⟨-, w', lr, rfl, hM, hK, hIt⟩
      have hI' := hM.inv
      have e1 : (blk σ.1 f i).1 1 = σ.1 1 := blk_low _ _ _ (by omega)
      have hi' : i < (blk σ.1 f i).1 1 := by omega
      have ci := hI.ha hi
      obtain ⟨ac1, ac2⟩ := blk_acc σ.1 f i i
      rw [if_neg (by omega)] at ac2
      obtain ⟨i1, i2, w1, i3, M1, W1, K1, T1, -⟩ := c_itA hM hK.2.2.1 hK hi' hIt (Nat.le_refl _)
      have hto := c_toll M1.1.2.1 M1.1.2.2.1 M1.inv hi'
      have hmo := c_most M1.1.2.2.1 hi'
      have hnu := c_num M1.1.2.2.1 hi'
      have hai := c_aI M1.1.2.2.1 hi'
      rw [ac2] at hto
      rw [ac1] at hmo
      have hfi := hf i hi
      obtain ⟨g, hg, hgv⟩ := M1.1.2.1.2.1
      have s1 : stI w1 q 0 (zN i) (zN (f i)) = some (hUp w1 q (tolC (upd g i (zN (f i))))) := c_stI hg (by omega) (by omega) _
      have M2 := M1.stl hg hgv hi' (y := f i) (by rw [ac1]; exact hfi)
      have T2 : (hUp w1 q (tolC (upd g i (zN (f i))))).1 (wN w) = _ := keep_kd hg T1 rfl _
      have K2 := K1.up hg rfl (.inr rfl) (tolC (upd g i (zN (f i))))
      have hto2 := c_toll M2.1.2.1 M2.1.2.2.1 M2.inv (a := i) (by rw [stl_low _ _ _ (by omega)]; exact hi')
      rw [stl_L, if_pos rfl] at hto2
      have sI2 := c_sI M2.1.2.1
      have mb : aTl σ.1 i * v ≤ 9999 * 1000 := Nat.mul_le_mul (by omega) hv
      have x1 : zN (aTl σ.1 i * v) / zN 100 = zN (aTl σ.1 i * v / 100) := zN_div (by omega) (by omega)
      have x2 : mnI (zN (aMx σ.1 i)) (zN (aTl σ.1 i * v / 100)) = zN (f i) := by rw [clp_mn (by omega) (by omega), hfx]
      left
      refine ⟨(zN (blk σ.1 f (i + 1)).2, hUp w1 q (tolC (upd g i (zN (f i))))), ?_, by omega, _, _, rfl, M2, K2, T2⟩
      rw [blk_succ]
      by_cases c : f i = aTl σ.1 i
      · rw [if_pos c]
        rw [c] at hto2 s1 x2 sI2
        rw [c] at M2
        rw [c]
        simp (disch := omega) only [b2_some, bd_some, nm_eq, Option.map_some, zN_lit, zN_add, zN_mul, zN_neg1, if_true, if_false, reduceIte, eq_self, Nat.reduceEqDiff, Nat.reduceAdd, Nat.reduceMul, Nat.reduceSub, Nat.reduceLeDiff, Nat.one_ne_zero, not_false_eq_true, Bool.false_eq_true, zN_eq, zN_lt, zN_le,  fX1_scaleTolls_b34, i1, i2, i3, M1.g0, c_sI M1.1.2.1, hto, c_gtl M1, hai, hnu, hmo, x1, x2, s1, fX1_scaleTolls_b93, M2.g0, sI2, hto2, fX1_scaleTolls_b113, Nat.add_zero]
      · rw [if_neg c]
        simp (disch := omega) only [b2_some, bd_some, nm_eq, Option.map_some, zN_lit, zN_add, zN_mul, zN_neg1, if_true, if_false, reduceIte, eq_self, Nat.reduceEqDiff, Nat.reduceAdd, Nat.reduceMul, Nat.reduceSub, Nat.reduceLeDiff, Nat.one_ne_zero, not_false_eq_true, Bool.false_eq_true, zN_eq, zN_lt, zN_le,  fX1_scaleTolls_b34, i1, i2, i3, M1.g0, c_sI M1.1.2.1, hto, c_gtl M1, hai, hnu, hmo, x1, x2, s1, fX1_scaleTolls_b93, M2.g0, sI2, hto2, c, fX1_scaleTolls_b113]
    · rintro y ⟨-, w', lr, rfl, hM, hK, hIt⟩
      have e1 : (blk σ.1 f (σ.1 1)).1 1 = σ.1 1 := blk_low _ _ _ (by omega)
      rw [← e1] at hIt
      obtain ⟨i1, i2⟩ := c_itAe hM hIt
      refine ⟨_, ?_, w', rfl, hM, hK⟩
      simp (disch := omega) only [b2_some, bd_some, nm_eq, Option.map_some, zN_lit, zN_add, zN_mul, zN_neg1, if_true, if_false, reduceIte, eq_self, Nat.reduceEqDiff, Nat.reduceAdd, Nat.reduceMul, Nat.reduceSub, Nat.reduceLeDiff, Nat.one_ne_zero, not_false_eq_true, Bool.false_eq_true, zN_eq, zN_lt, zN_le,  fX1_scaleTolls_b34, i1, i2]
  obtain ⟨r, e, w', rfl, hM, hK⟩ := H
  exact ⟨w', e, ⟨F, s, q, ν, η, h.mut hK.wq hM.1, rfl⟩, hK.2.2.2.2.2.1, hK.2.2.2.2.2.2⟩
end
