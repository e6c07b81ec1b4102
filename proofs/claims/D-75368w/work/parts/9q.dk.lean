/-! Plain law: the component's actions on all tolls, whole; swap, undo -/
section
variable {w w' : WH} {x s q F n o a b v t : Nat} {ρ ρ' : Nat → Nat} {ν : NH} {σ : SG} {η : RH}
theorem Don.tr {w1 w2 : WH} {c k c' k' : Nat} (d1 : wC w ≤ wC w1 + c) (d2 : wS w ≤ wS w1 + k) (h : Don w1 w2 x o σ c' k') : Don w w2 x o σ (c + c') (k + k') := ⟨h.1, by have := h.2.1; omega, by have := h.2.2; omega⟩
theorem c_addT1 (h : RcP w x σ F s q ν η) {z : Int} (hz : -9999 ≤ z ∧ z ≤ 9999) (hC : 6 ≤ wC w) (hS : 43 ≤ wS w) : ∃ w', fX1_addTolls x (zI z) w = some (.inl (zN (blk σ.1 (fun k => clp (aMx σ.1 k) ((aTl σ.1 k : Int) + z)) (σ.1 1)).2), w') ∧ Don w w' x (hL η) ((blk σ.1 (fun k => clp (aMx σ.1 k) ((aTl σ.1 k : Int) + z)) (σ.1 1)).1, (kee σ).2) 6 43 := by
  obtain ⟨w1, η1, e1, h1, d0, d1, d2⟩ := c_act h (by omega) (by omega)
  obtain ⟨w2, e2, D2⟩ := c_addL h1 hz (by omega) (by omega)
  rw [d0] at D2
  refine ⟨w2, ?_, Don.tr d1 d2 D2⟩
  have M1 := h1.mr
  have it := (c_itN M1 h1.2.1 (by omega) (by omega)).1
  have e0 := c_inR (w := w) (a := z) (b := -9999) (c := 9999) ⟨by omega, by omega⟩ ⟨by omega, by omega⟩ ⟨by omega, by omega⟩
  rw [if_pos (by omega)] at e0
  have z0 : -zJ 9999 = zJ (-9999) := rfl
  have z1 : (9999 : Int64) = zJ 9999 := rfl
  have e2' : fX1_addTolls_l36 x (zI z) (zN 0) (some (wN w1)) (hMk w1 4 (itC 0 (-1) ν.2.2.2.1 (nAl ν))) = _ := e2
  generalize hMk w1 4 (itC 0 (-1) ν.2.2.2.1 (nAl ν)) = wi at it e2'
  simp (disch := omega) only [b2_some, bd_some, nm_eq, Option.map_some, zN_lit, zN_add, zN_mul, zN_neg1, if_true, if_false, reduceIte, eq_self, Nat.reduceEqDiff, Nat.reduceAdd, Nat.reduceMul, Nat.reduceSub, Nat.reduceLeDiff, Nat.one_ne_zero, not_false_eq_true, Bool.false_eq_true, zN_eq, zN_lt, zN_le,  fX1_addTolls, zI_J (show -2147483648 ≤ z ∧ z < 2147483648 by omega), z1, z0, e0, c_ra1, ex_, h.mr.xI, e1, M1.g0, M1.g1, M1.xI, M1.1.FI, c_snet M1.1.2.1, c_sI M1.1.2.1, c_nal M1.1.2.2.1, c_ntl M1.1.2.2.1, c_nn M1.1.2.2.1, c_alI M1.1.2.2.1, c_tlI M1.1.2.2.1, c_size M1.1.2.2.1, c_size2 M1.1.2.2.1, it, e2']
  rfl
theorem c_sclT1 (h : RcP w x σ F s q ν η) (hv : v ≤ 1000) (hC : 6 ≤ wC w) (hS : 43 ≤ wS w) : ∃ w', fX1_scaleTolls x (zN v) w = some (.inl (zN (blk σ.1 (fun k => clp (aMx σ.1 k) ((aTl σ.1 k * v / 100 : Nat) : Int)) (σ.1 1)).2), w') ∧ Don w w' x (hL η) ((blk σ.1 (fun k => clp (aMx σ.1 k) ((aTl σ.1 k * v / 100 : Nat) : Int)) (σ.1 1)).1, (kee σ).2) 6 43 := by
  obtain ⟨w1, η1, e1, h1, d0, d1, d2⟩ := c_act h (by omega) (by omega)
  obtain ⟨w2, e2, D2⟩ := c_sclL h1 hv (by omega) (by omega)
  rw [d0] at D2
  refine ⟨w2, ?_, Don.tr d1 d2 D2⟩
  have M1 := h1.mr
  have it := (c_itN M1 h1.2.1 (by omega) (by omega)).1
  have e0 := c_inR (w := w) (a := v) (b := 0) (c := 1000) ⟨by omega, by omega⟩ ⟨by omega, by omega⟩ ⟨by omega, by omega⟩
  rw [if_pos (by omega)] at e0
  have z0 : (0 : Int64) = zJ 0 := rfl
  have z1 : (1000 : Int64) = zJ 1000 := rfl
  have e2' : fX1_scaleTolls_l34 x (zN v) (zN 0) (some (wN w1)) (hMk w1 4 (itC 0 (-1) ν.2.2.2.1 (nAl ν))) = _ := e2
  generalize hMk w1 4 (itC 0 (-1) ν.2.2.2.1 (nAl ν)) = wi at it e2'
  simp (disch := omega) only [b2_some, bd_some, nm_eq, Option.map_some, zN_lit, zN_add, zN_mul, zN_neg1, if_true, if_false, reduceIte, eq_self, Nat.reduceEqDiff, Nat.reduceAdd, Nat.reduceMul, Nat.reduceSub, Nat.reduceLeDiff, Nat.one_ne_zero, not_false_eq_true, Bool.false_eq_true, zN_eq, zN_lt, zN_le,  fX1_scaleTolls, zN_J, z0, z1, e0, c_ra1, ex_, h.mr.xI, e1, M1.g0, M1.g1, M1.xI, M1.1.FI, c_snet M1.1.2.1, c_sI M1.1.2.1, c_nal M1.1.2.2.1, c_ntl M1.1.2.2.1, c_nn M1.1.2.2.1, c_alI M1.1.2.2.1, c_tlI M1.1.2.2.1, c_size M1.1.2.2.1, c_size2 M1.1.2.2.1, it, e2']
  rfl
theorem c_clrT (h : RcP w x σ F s q ν η) (hC : 5 ≤ wC w) (hS : 39 ≤ wS w) : ∃ w', fX1_clearTolls x w = some (zN (blk σ.1 (fun _ => 0) (σ.1 1)).2, w') ∧ Don w w' x (hL η) ((blk σ.1 (fun _ => 0) (σ.1 1)).1, (kee σ).2) 5 39 := by
  obtain ⟨w1, η1, e1, h1, d0, d1, d2⟩ := c_act h hC hS
  have hI := h.1.2.2.2.1
  have i1 := hI.h1
  have H : ∃ r, fX1_clearTolls_l8 x (zN 0) (zN 0) w1 = some r ∧ ∃ w', r = (zN (blk σ.1 (fun _ => 0) (σ.1 1)).2, w') ∧ RcP w' x ((blk σ.1 (fun _ => 0) (σ.1 1)).1, (kee σ).2) F s q ν η1 ∧ w'.2 = w1.2 := by
    refine wh_up (P := fun i y => i ≤ 24 ∧ ∃ w' j, j = min i (σ.1 1) ∧ y = (zN (blk σ.1 (fun _ => 0) j).2, zN i, w') ∧ RcP w' x ((blk σ.1 (fun _ => 0) j).1, (kee σ).2) F s q ν η1 ∧ w'.2 = w1.2) 24 ?_ ?_ 24 0 _ (by omega) ⟨by omega, w1, 0, by omega, rfl, h1, rfl⟩
    · rintro i y hi ⟨-, w', j, hj, rfl, hR, hk⟩
      have M := hR.mr
      have n1 : ¬ (24 ≤ i) := by omega
      obtain ⟨g, hg, hgv⟩ := M.1.2.1.2.1
      have l1 : ldI w' q 0 (zN i) = some (g i) := c_ldI hg (by omega) (by omega)
      have s1 : stI w' q 0 (zN i) (zN 0) = some (hUp w' q (tolC (upd g i (zN 0)))) := c_stI hg (by omega) (by omega) _
      rw [hgv i hi] at l1
      obtain ⟨ac1, ac2⟩ := blk_acc σ.1 (fun _ => 0) j i
      have l1e : aTl (blk σ.1 (fun _ => 0) j).1 i = if i < σ.1 1 then aTl σ.1 i else 0 := by
        rw [ac2]
        by_cases c : i < σ.1 1
        · rw [if_pos c, if_neg (by omega)]
        · rw [if_neg c]
          have := (hI.2.2.2.2.2.2.2.2 i (by omega) hi).1
          split
          · rfl
          · exact this
      rw [l1e] at l1
      left
      by_cases c : i < σ.1 1
      · have ej : j = i := by omega
        subst ej
        rw [if_pos c] at l1
        have M2 := M.stl hg hgv (a := j) (by rw [blk_low _ _ _ (by omega)]; exact c) (Nat.zero_le _)
        have K : Kg F (fun a => a = q) w' (hUp w' q (tolC (upd g j (zN 0)))) 0 0 := (Kg.refl (Q := fun a => a = q) hR.1.1 hR.2.1).up hg rfl (.inr rfl) _
        have R2 := hR.mut K.wq M2.1
        refine ⟨(zN (blk σ.1 (fun _ => 0) (j + 1)).2, zN (j + 1), hUp w' q (tolC (upd g j (zN 0)))), ?_, by omega, _, j + 1, by omega, rfl, R2, hk⟩
        have hb := hI.ha c
        rw [blk_succ]
        by_cases c0 : aTl σ.1 j = 0
        · rw [if_pos c0.symm]
          rw [c0] at l1
          simp (disch := omega) only [b2_some, bd_some, nm_eq, Option.map_some, zN_lit, zN_add, zN_mul, zN_neg1, if_true, if_false, reduceIte, eq_self, Nat.reduceEqDiff, Nat.reduceAdd, Nat.reduceMul, Nat.reduceSub, Nat.reduceLeDiff, Nat.one_ne_zero, not_false_eq_true, Bool.false_eq_true, zN_eq, zN_lt, zN_le,  fX1_clearTolls_b8, n1, M.g0, c_gtl M, l1, fX1_clearTolls_b32, s1, Nat.add_zero]
        · rw [if_neg (fun e => c0 e.symm)]
          simp (disch := omega) only [b2_some, bd_some, nm_eq, Option.map_some, zN_lit, zN_add, zN_mul, zN_neg1, if_true, if_false, reduceIte, eq_self, Nat.reduceEqDiff, Nat.reduceAdd, Nat.reduceMul, Nat.reduceSub, Nat.reduceLeDiff, Nat.one_ne_zero, not_false_eq_true, Bool.false_eq_true, zN_eq, zN_lt, zN_le,  fX1_clearTolls_b8, n1, M.g0, c_gtl M, l1, c0, fX1_clearTolls_b32, s1]
      · have ej : min (i + 1) (σ.1 1) = j := by omega
        rw [if_neg c] at l1
        have eg : upd g i (zN 0) = g := by
          funext k
          unfold upd
          by_cases e : k = i
          · rw [if_pos e, e, hgv i hi, l1e, if_neg c]
          · rw [if_neg e]
        rw [eg, show hUp w' q (tolC g) = w' from hUp_self hg] at s1
        refine ⟨(zN (blk σ.1 (fun _ => 0) j).2, zN (i + 1), w'), ?_, by omega, w', j, ej.symm, rfl, hR, hk⟩
        simp (disch := omega) only [b2_some, bd_some, nm_eq, Option.map_some, zN_lit, zN_add, zN_mul, zN_neg1, if_true, if_false, reduceIte, eq_self, Nat.reduceEqDiff, Nat.reduceAdd, Nat.reduceMul, Nat.reduceSub, Nat.reduceLeDiff, Nat.one_ne_zero, not_false_eq_true, Bool.false_eq_true, zN_eq, zN_lt, zN_le,  fX1_clearTolls_b8, n1, M.g0, c_gtl M, l1, fX1_clearTolls_b32, s1, Nat.add_zero]
    · rintro y ⟨-, w', j, hj, rfl, hR, hk⟩
      have ej : j = σ.1 1 := by omega
      subst ej
      refine ⟨_, ?_, w', rfl, hR, hk⟩
      simp (disch := omega) only [b2_some, bd_some, nm_eq, Option.map_some, zN_lit, zN_add, zN_mul, zN_neg1, if_true, if_false, reduceIte, eq_self, Nat.reduceEqDiff, Nat.reduceAdd, Nat.reduceMul, Nat.reduceSub, Nat.reduceLeDiff, Nat.one_ne_zero, not_false_eq_true, Bool.false_eq_true, zN_eq, zN_lt, zN_le,  fX1_clearTolls_b8, Nat.le_refl]
  obtain ⟨r, e2, w2, rfl, h2, k2⟩ := H
  refine ⟨w2, ?_, don_of h2 k2 d0 d1 d2⟩
  simp (disch := omega) only [b2_some, bd_some, nm_eq, Option.map_some, zN_lit, zN_add, zN_mul, zN_neg1, if_true, if_false, reduceIte, eq_self, Nat.reduceEqDiff, Nat.reduceAdd, Nat.reduceMul, Nat.reduceSub, Nat.reduceLeDiff, Nat.one_ne_zero, not_false_eq_true, Bool.false_eq_true, zN_eq, zN_lt, zN_le,  fX1_clearTolls, h.mr.xI, e1]
  exact e2
theorem c_swap1 (h : RcP w x σ F s q ν η) (ha : a < σ.1 1) (hb : b < σ.1 1) (hC : 5 ≤ wC w) (hS : 39 ≤ wS w) : ∃ w', fX1_swapTolls x (zN a) (zN b) w = some (.inl (zN (if aTl σ.1 b ≤ aMx σ.1 a ∧ aTl σ.1 a ≤ aMx σ.1 b then 1 else 0)), w') ∧ Don w w' x (hL η) (if aTl σ.1 b ≤ aMx σ.1 a ∧ aTl σ.1 a ≤ aMx σ.1 b then (stl (stl σ.1 a (aTl σ.1 b)) b (aTl σ.1 a), (kee σ).2) else σ) 5 39 := by
  have hI := h.1.2.2.2.1
  have i1 := hI.h1
  have ca := hI.ha ha
  have cb := hI.ha hb
  have M := h.mr
  obtain ⟨g, hg, hgv⟩ := M.1.2.1.2.1
  have l1 : ldI w q 0 (zN a) = some (g a) := c_ldI hg (by omega) (by omega)
  have l2 : ldI w q 0 (zN b) = some (g b) := c_ldI hg (by omega) (by omega)
  rw [hgv a (by omega)] at l1
  rw [hgv b (by omega)] at l2
  have ga := c_geta M.1.2.2.1 hI ha
  have gb := c_geta M.1.2.2.1 hI hb
  have aa := c_aI M.1.2.2.1 ha
  have ab := c_aI M.1.2.2.1 hb
  have ma := c_most M.1.2.2.1 ha
  have mb := c_most M.1.2.2.1 hb
  by_cases c1 : aTl σ.1 b ≤ aMx σ.1 a
  · have n1 : ¬ (aMx σ.1 a < aTl σ.1 b) := by omega
    by_cases c2 : aTl σ.1 a ≤ aMx σ.1 b
    · rw [if_pos ⟨c1, c2⟩, if_pos ⟨c1, c2⟩]
      obtain ⟨w1, η1, e1, h1, d0, d1, d2⟩ := c_act h hC hS
      obtain ⟨w2, s1, h2, k2, -⟩ := h1.wtl ha c1
      obtain ⟨w3, s2, h3, k3, -⟩ := h2.wtl (a := b) (v := aTl σ.1 a) (by show b < stl σ.1 a (aTl σ.1 b) 1; rw [stl_low _ _ _ (by omega)]; exact hb) (by show aTl σ.1 a ≤ aMx (stl σ.1 a (aTl σ.1 b)) b; rw [stl_M]; exact c2)
      refine ⟨w3, ?_, don_of h3 (k3.trans k2) d0 d1 d2⟩
      have M1 := h1.mr
      have M2 := h2.mr
      simp (disch := omega) only [b2_some, bd_some, nm_eq, Option.map_some, zN_lit, zN_add, zN_mul, zN_neg1, if_true, if_false, reduceIte, eq_self, Nat.reduceEqDiff, Nat.reduceAdd, Nat.reduceMul, Nat.reduceSub, Nat.reduceLeDiff, Nat.one_ne_zero, not_false_eq_true, Bool.false_eq_true, zN_eq, zN_lt, zN_le,  fX1_swapTolls, M.xI, c_isA1 M ha, c_isA1 M hb, fX1_swapTolls_b21, c_rq1, ex_, M.g0, M.g1, M.xI, M.1.FI, c_snet M.1.2.1, c_sI M.1.2.1, c_nal M.1.2.2.1, c_ntl M.1.2.2.1, c_nn M.1.2.2.1, c_alI M.1.2.2.1, c_tlI M.1.2.2.1, c_size M.1.2.2.1, c_size2 M.1.2.2.1, c_gtl M, l1, l2, ga, gb, aa, ab, ma, mb, n1, c2, fX1_swapTolls_b72, e1, M1.g0, c_gtl M1, s1, M2.g0, c_gtl M2, s2, fX1_swapTolls_b125]
    · rw [if_neg (fun h => c2 h.2), if_neg (fun h => c2 h.2)]
      refine ⟨w, ?_, ⟨F, s, q, ν, η, h, rfl⟩, by omega, by omega⟩
      simp (disch := omega) only [b2_some, bd_some, nm_eq, Option.map_some, zN_lit, zN_add, zN_mul, zN_neg1, if_true, if_false, reduceIte, eq_self, Nat.reduceEqDiff, Nat.reduceAdd, Nat.reduceMul, Nat.reduceSub, Nat.reduceLeDiff, Nat.one_ne_zero, not_false_eq_true, Bool.false_eq_true, zN_eq, zN_lt, zN_le,  fX1_swapTolls, M.xI, c_isA1 M ha, c_isA1 M hb, fX1_swapTolls_b21, c_rq1, ex_, M.g0, M.g1, M.xI, M.1.FI, c_snet M.1.2.1, c_sI M.1.2.1, c_nal M.1.2.2.1, c_ntl M.1.2.2.1, c_nn M.1.2.2.1, c_alI M.1.2.2.1, c_tlI M.1.2.2.1, c_size M.1.2.2.1, c_size2 M.1.2.2.1, c_gtl M, l1, l2, ga, gb, aa, ab, ma, mb, n1, c2, fX1_swapTolls_b72, fX1_swapTolls_b98]
  · have n1 : aMx σ.1 a < aTl σ.1 b := by omega
    rw [if_neg (fun h => c1 h.1), if_neg (fun h => c1 h.1)]
    refine ⟨w, ?_, ⟨F, s, q, ν, η, h, rfl⟩, by omega, by omega⟩
    simp (disch := omega) only [b2_some, bd_some, nm_eq, Option.map_some, zN_lit, zN_add, zN_mul, zN_neg1, if_true, if_false, reduceIte, eq_self, Nat.reduceEqDiff, Nat.reduceAdd, Nat.reduceMul, Nat.reduceSub, Nat.reduceLeDiff, Nat.one_ne_zero, not_false_eq_true, Bool.false_eq_true, zN_eq, zN_lt, zN_le,  fX1_swapTolls, M.xI, c_isA1 M ha, c_isA1 M hb, fX1_swapTolls_b21, c_rq1, ex_, M.g0, M.g1, M.xI, M.1.FI, c_snet M.1.2.1, c_sI M.1.2.1, c_nal M.1.2.2.1, c_ntl M.1.2.2.1, c_nn M.1.2.2.1, c_alI M.1.2.2.1, c_tlI M.1.2.2.1, c_size M.1.2.2.1, c_size2 M.1.2.2.1, c_gtl M, l1, l2, ga, gb, aa, ab, ma, mb, n1, fX1_swapTolls_b98]
end
