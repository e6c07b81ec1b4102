/-! Plain law: the component's actions, one by one -/
section
variable {w w' : WH} {x s q F n o a b v : Nat} {ρ ρ' : Nat → Nat} {ν : NH} {σ : SG} {η : RH}
theorem RcP.kfd (h : RcP w x σ F s q ν η) (hk : Kf w w' F) : Don w w' x (hL η) σ 0 0 := ⟨⟨F, s, q, ν, η, h.kf hk, rfl⟩, Nat.le_of_eq (congrArg (fun z => z.2.2.1) hk.2.1).symm, Nat.le_of_eq (congrArg (fun z => z.2.2.2) hk.2.1).symm⟩
theorem RcP.kgd {c k : Nat} (h : RcP w x σ F s q ν η) (hk : Kg F nQ w w' c k) : Don w w' x (hL η) σ c k := ⟨⟨F, s, q, ν, η, h.kg hk, rfl⟩, hk.2.2.2.2.2.1, hk.2.2.2.2.2.2⟩
theorem Don.mono {c k c' k' : Nat} (h : Don w w' x o σ c k) (hc : c ≤ c') (hk : k ≤ k') : Don w w' x o σ c' k' := ⟨h.1, by have := h.2.1; omega, by have := h.2.2; omega⟩
theorem kee1 (σ : SG) : (kee σ).1 = σ.1 := rfl
/-- a toll is written into the current state -/
theorem RcP.wtl (h : RcP w x σ F s q ν η) (ha : a < σ.1 1) (hv : v ≤ aMx σ.1 a) : ∃ w', stI w q 0 (zN a) (zN v) = some w' ∧ RcP w' x (stl σ.1 a v, σ.2) F s q ν η ∧ w'.2 = w.2 ∧ ldI w q 0 (zN a) = some (zN (aTl σ.1 a)) := by
  have h1 := h.1.2.2.2.1.h1
  obtain ⟨f, hf, hfv⟩ := h.1.2.1.2.1
  have M := h.mr.stl hf hfv ha hv
  have K : Kg F (· = q) w (hUp w q (tolC (upd f a (zN v)))) 0 0 := (Kg.refl (Q := fun a => a = q) h.1.1 h.2.1).up hf rfl (.inr rfl) _
  refine ⟨_, c_stI hf (by omega) (by omega) _, h.mut K.wq M.1, rfl, ?_⟩
  rw [c_ldI hf (by omega) (by omega), hfv a (by omega)]
theorem c_setToll1 (h : RcP w x σ F s q ν η) (ha : a < σ.1 1) (hv : v ≤ aMx σ.1 a) (hC : 5 ≤ wC w) (hS : 39 ≤ wS w) : ∃ w', fX1_setToll x (zN a) (zN v) w = some (.inl (zN (aTl σ.1 a)), w') ∧ Don w w' x (hL η) (stl σ.1 a v, (kee σ).2) 5 39 := by
  have hI := h.1.2.2.2.1
  have c := hI.ha ha
  have M := h.mr
  obtain ⟨w1, η1, e1, h1, d0, d1, d2⟩ := c_act h hC hS
  obtain ⟨w2, s1, h2, k2, l1⟩ := h1.wtl ha hv
  have e2 := c_inR (w := w) (a := (v : Int)) (b := 0) (c := (aMx σ.1 a : Int)) ⟨by omega, by omega⟩ ⟨by omega, by omega⟩ ⟨by omega, by omega⟩
  rw [if_pos (by omega)] at e2
  refine ⟨w2, ?_, ⟨F, s, q, ν, η1, h2, d0⟩, by rw [show wC w2 = wC w1 from congrArg (fun z => z.2.1) (congrArg (fun z => z.2) k2)]; omega, by rw [show wS w2 = wS w1 from congrArg (fun z => z.2.2) (congrArg (fun z => z.2) k2)]; omega⟩
  have M1 := h1.mr
  have z0 : (0 : Int64) = zJ 0 := rfl
  have l1' : ldI w1 q 0 (zN a) = some (zN (aTl σ.1 a)) := l1
  simp (disch := omega) only [b2_some, bd_some, nm_eq, Option.map_some, zN_lit, zN_add, zN_mul, zN_neg1, if_true, if_false, reduceIte, eq_self, Nat.reduceEqDiff, Nat.reduceAdd, Nat.reduceMul, Nat.reduceSub, Nat.reduceLeDiff, Nat.one_ne_zero, not_false_eq_true, Bool.false_eq_true, zN_eq, zN_lt, zN_le,  fX1_setToll, M.xI, c_arcAt1 M ha, ex_, c_aI M.1.2.2.1 ha, c_most M.1.2.2.1 ha, zN_J, z0, e2, c_ra1, e1, M1.g0, c_gtl M1, l1', s1, fX1_setToll_b42]
theorem c_ties' (h : RcP w x σ F s q ν η) : fX1_tiesForLeader x w = some (zN (σ.1 3), w) := by
  have h3 := h.1.2.2.2.1.h3
  have v1 : gI w s 21 4 = some (zN (σ.1 3)) := c_I h.1.2.1.1 4
  have v2 : fz_ .boolean (zN (σ.1 3)) = some () := by
    have : σ.1 3 = 0 ∨ σ.1 3 = 1 := by omega
    rcases this with e | e <;> rw [e] <;> decide
  simp (disch := omega) only [b2_some, bd_some, nm_eq, Option.map_some, zN_lit, zN_add, zN_mul, zN_neg1, if_true, if_false, reduceIte, eq_self, Nat.reduceEqDiff, Nat.reduceAdd, Nat.reduceMul, Nat.reduceSub, Nat.reduceLeDiff, Nat.one_ne_zero, not_false_eq_true, Bool.false_eq_true, zN_eq, zN_lt, zN_le,  fX1_tiesForLeader, h.mr.g0, v1, v2]
theorem c_undoCount (h : RcP w x σ F s q ν η) : fX1_undoCount x w = some (zN σ.2.1.length, w) := by
  have e1 := c_dqSize h.2.2.2.1
  rw [List.length_map, h.lss] at e1
  simp (disch := omega) only [b2_some, bd_some, nm_eq, Option.map_some, zN_lit, zN_add, zN_mul, zN_neg1, if_true, if_false, reduceIte, eq_self, Nat.reduceEqDiff, Nat.reduceAdd, Nat.reduceMul, Nat.reduceSub, Nat.reduceLeDiff, Nat.one_ne_zero, not_false_eq_true, Bool.false_eq_true, zN_eq, zN_lt, zN_le,  fX1_undoCount, h.gP, h.Pi, e1]
end
