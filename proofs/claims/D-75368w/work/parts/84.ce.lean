/-! Plain law: the component walks; what it reads off the path -/
section
variable {w : WH} {s q F : Nat} {ρ : Nat → Nat} {ν : NH} {t : Nat}
theorem c_len0 (h : FiC w F) (x : Int32) : hPut w F 23 5 (.int x) = some (hUp w F (finC F x)) := by
  obtain ⟨l, e⟩ := h.1
  exact c_P e (k := 5) (show 5 < 6 by decide) _
theorem FiC.len {w : WH} {F : Nat} (h : FiC w F) (x : Int32) : FiC (hUp w F (finC F x)) F := by
  obtain ⟨⟨l, h3⟩, ⟨f1, h4⟩, ⟨f2, h5⟩, ⟨f3, h6⟩, ⟨f4, h7⟩, ⟨f5, h8⟩⟩ := h
  exact ⟨⟨x, hUp_eq _ _ _⟩, ⟨f1, by rw [hUp_ne w _ (by omega)]; exact h4⟩, ⟨f2, by rw [hUp_ne w _ (by omega)]; exact h5⟩, ⟨f3, by rw [hUp_ne w _ (by omega)]; exact h6⟩, ⟨f4, by rw [hUp_ne w _ (by omega)]; exact h7⟩, ⟨f5, by rw [hUp_ne w _ (by omega)]; exact h8⟩⟩
theorem Kf.len {w : WH} {F : Nat} (h : FiC w F) (x : Int32) : Kf w (hUp w F (finC F x)) F := ⟨fun a ha => hUp_ne w _ (by omega), rfl, h.len x⟩
theorem FiC.pth {w : WH} {F : Nat} (h : FiC w F) (g : Nat → Int32) : FiC (hUp w (F + 3) (intC g)) F := by
  obtain ⟨⟨l, h3⟩, ⟨f1, h4⟩, ⟨f2, h5⟩, ⟨f3, h6⟩, ⟨f4, h7⟩, ⟨f5, h8⟩⟩ := h
  exact ⟨⟨l, by rw [hUp_ne w _ (by omega)]; exact h3⟩, ⟨f1, by rw [hUp_ne w _ (by omega)]; exact h4⟩, ⟨f2, by rw [hUp_ne w _ (by omega)]; exact h5⟩, ⟨g, hUp_eq _ _ _⟩, ⟨f4, by rw [hUp_ne w _ (by omega)]; exact h7⟩, ⟨f5, by rw [hUp_ne w _ (by omega)]; exact h8⟩⟩
theorem Kf.pth {w : WH} {F : Nat} (h : FiC w F) (g : Nat → Int32) : Kf w (hUp w (F + 3) (intC g)) F := ⟨fun a ha => hUp_ne w _ (by omega), rfl, h.pth g⟩
theorem c_gP {w : WH} {F : Nat} (h : FiC w F) : gR w F 23 2 = some (some (F + 3)) := by
  obtain ⟨l, e⟩ := h.1
  exact c_R e 2
/-- the path lies in the finder -/
def PaC (w : WH) (F : Nat) (p : List Nat) : Prop := w.1 F = some (finC F (zN p.length)) ∧ ∃ f, w.1 (F + 3) = some (intC f) ∧ Arr f p
theorem c_walk (h : MS w F s q ν ρ) (ht : t < ρ 2) : ∃ w', fX4_walk F s (nTr ν t) w = some (zN (if (PT ρ 0 (-1) 0 t).isSome then 1 else 0), w') ∧ Kf w w' F ∧ ∀ p, PT ρ 0 (-1) 0 t = some p → PaC w' F p := by
  have hI := h.2.2.2.1
  have hc := hI.ht ht
  have h0 := hI.h0
  have k1 := Kf.len h.1 (zN 0)
  have m1 := h.kf k1
  obtain ⟨f, e2, hf⟩ := c_meas m1 (k := 5) (by omega) ht
  rw [show wK (hUp w F (finC F (zN 0))) 5 = wK w 5 from rfl] at e2
  have k2 := k1.trans (Kf.far m1.1 f)
  have m2 := h.kf k2
  have c1 := encF_eq (dW_in (k := 5) hI ht (pFr ρ t))
  have hput := c_len0 h.1 (zN 0)
  have m1F := m1.FI
  have eF : (2305843009213693951 : Int64) = zJ FAR := rfl
  cases hz : dT ρ 0 (-1) 0 t (pFr ρ t) with
  | none =>
    have hn : PT ρ 0 (-1) 0 t = none := by unfold PT; rw [hz]; rfl
    rw [dW5 hI ht, hz] at e2 c1
    refine ⟨_, ?_, k2, fun p hp => by rw [hn] at hp; cases hp⟩
    rw [hn]
    simp only [Option.map_none] at e2 c1
    generalize encF none = v at c1 e2
    simp (disch := omega) only [b2_some, bd_some, nm_eq, Option.map_some, zN_lit, zN_add, zN_mul, zN_neg1, if_true, if_false, reduceIte, eq_self, Nat.reduceEqDiff, Nat.reduceAdd, Nat.reduceMul, Nat.reduceSub, Nat.reduceLeDiff, Nat.one_ne_zero, not_false_eq_true, Bool.false_eq_true, zN_eq, zN_lt, zN_le,  fX4_walk, hput, m1F, hUp_K, e2, eF, c1, Option.isSome_none]
  | some z =>
    have hn : PT ρ 0 (-1) 0 t = some (pT ρ 0 (-1) 0 t (pFr ρ t)) := by unfold PT; rw [hz]; rfl
    have H : ∃ r, fX4_walk_l28 F s (nTr ν t) (zN (pFr ρ t)) (wF (hUp w F (finC F (zN 0))) F f) = some r ∧ ∃ w', r = (zN 1, w') ∧ Kf w w' F ∧ PaC w' F (pT ρ 0 (-1) 0 t (pFr ρ t)) := by
      refine wh_dn (P := fun j x => ∃ n w' pre z g, x = (zN n, w') ∧ n < 10 ∧ dT ρ 0 (-1) 0 t n = some z ∧ j = (pT ρ 0 (-1) 0 t n).length ∧ pT ρ 0 (-1) 0 t (pFr ρ t) = pre ++ pT ρ 0 (-1) 0 t n ∧ Kf w w' F ∧ w'.1 (F + 1) = some (farC f) ∧ w'.1 F = some (finC F (zN pre.length)) ∧ w'.1 (F + 3) = some (intC g) ∧ Arr g pre) ?_ (pT ρ 0 (-1) 0 t (pFr ρ t)).length _ ?_
      · rintro j x ⟨n, w', pre, zn, g, rfl, hn10, hzn, rfl, hp, hK, hg1, hg2, hg3, hA⟩
        have m' := h.kf hK
        have hN' := m'.2.2.1
        have hlen := (pT_all hI ht hz).2.1
        rw [hp, List.length_append] at hlen
        by_cases ent : n = pTo ρ t
        · right
          have e0 : pT ρ 0 (-1) 0 t n = [] := by
            rw [ent]
            show pth (pTo ρ t) (aTo ρ) _ 10 (pTo ρ t) = []
            unfold pth
            rw [if_pos rfl]
          rw [e0, List.append_nil] at hp
          refine ⟨_, ?_, w', rfl, hK, ?_⟩
          · simp (disch := omega) only [b2_some, bd_some, nm_eq, Option.map_some, zN_lit, zN_add, zN_mul, zN_neg1, if_true, if_false, reduceIte, eq_self, Nat.reduceEqDiff, Nat.reduceAdd, Nat.reduceMul, Nat.reduceSub, Nat.reduceLeDiff, Nat.one_ne_zero, not_false_eq_true, Bool.false_eq_true, zN_eq, zN_lt, zN_le,  fX4_walk_b28, c_tI hN' ht, c_tto hN' ht, ent]
          · rw [hp]
            exact ⟨hg2, g, hg3, hA⟩
        · left
          have hcn : pT ρ 0 (-1) 0 t n = nT ρ 0 (-1) 0 t n :: pT ρ 0 (-1) 0 t (aTo ρ (nT ρ 0 (-1) 0 t n)) := ptA_cons (tw_GN hI ht) (sgn_wB ρ) hzn ent
          obtain ⟨g1, g2, g3, g4, ⟨y, hy⟩, g5⟩ := nA_ok (tw_GN (m := 0) (aw := -1) (fz := 0) hI ht) (sgn_wB ρ) hzn ent
          have g1' : nT ρ 0 (-1) 0 t n < ρ 1 := g1
          have b' := hI.ha g1'
          have hx := c_next m' ht hg1 hf hzn ent
          have i5 : gI w' F 23 5 = some (zN pre.length) := c_I hg2 5
          have s1 := c_stI hg3 (k := pre.length) (by omega) (by omega) (zN (nT ρ 0 (-1) 0 t n))
          have k3 := Kf.pth m'.1 (upd g pre.length (zN (nT ρ 0 (-1) 0 t n)))
          have k4 := Kf.len k3.2.2 (zN (pre.length + 1))
          have hF3 : (hUp w' (F + 3) (intC (upd g pre.length (zN (nT ρ 0 (-1) 0 t n))))).1 F = some (finC F (zN pre.length)) := by rw [hUp_ne w' _ (by omega)]; exact hg2
          have i6 : gI (hUp w' (F + 3) (intC (upd g pre.length (zN (nT ρ 0 (-1) 0 t n))))) F 23 5 = some (zN pre.length) := c_I hF3 5
          have p6 := c_len0 k3.2.2 (zN (pre.length + 1))
          have s1' : stI w' (F + 3) 0 (zN pre.length) (zN (nT ρ 0 (-1) 0 t n)) = some (hUp w' (F + 3) (intC (upd g pre.length (zN (nT ρ 0 (-1) 0 t n))))) := s1
          have m4 := m'.kf (k3.trans k4)
          refine ⟨(zN (aTo ρ (nT ρ 0 (-1) 0 t n)), hUp (hUp w' (F + 3) (intC (upd g pre.length (zN (nT ρ 0 (-1) 0 t n))))) F (finC F (zN (pre.length + 1)))), (pT ρ 0 (-1) 0 t (aTo ρ (nT ρ 0 (-1) 0 t n))).length, by rw [hcn, List.length_cons]; omega, ?_, aTo ρ (nT ρ 0 (-1) 0 t n), _, pre ++ [nT ρ 0 (-1) 0 t n], y, upd g pre.length (zN (nT ρ 0 (-1) 0 t n)), rfl, by omega, hy, rfl, ?_, (hK.trans k3).trans k4, ?_, ?_, ?_, hA.snoc _⟩
          · simp (disch := omega) only [b2_some, bd_some, nm_eq, Option.map_some, zN_lit, zN_add, zN_mul, zN_neg1, if_true, if_false, reduceIte, eq_self, Nat.reduceEqDiff, Nat.reduceAdd, Nat.reduceMul, Nat.reduceSub, Nat.reduceLeDiff, Nat.one_ne_zero, not_false_eq_true, Bool.false_eq_true, zN_eq, zN_lt, zN_le,  fX4_walk_b28, c_tI hN' ht, c_tto hN' ht, ent, m'.FI, hx, c_gP m'.1, i5, c_aI hN' g1', c_num hN' g1', s1', i6, p6, fX4_walk_b69, c_aI m4.2.2.1 g1', c_to m4.2.2.1 g1']
          · rw [hp, hcn, List.append_assoc]; rfl
          · rw [hUp_ne _ _ (by omega), hUp_ne _ _ (by omega)]; exact hg1
          · rw [hUp_eq, List.length_append]; rfl
          · rw [hUp_ne _ _ (by omega), hUp_eq]
      · obtain ⟨g, hg⟩ := k2.2.2.2.2.2.1
        exact ⟨pFr ρ t, _, [], z, g, rfl, by omega, hz, rfl, rfl, k2, wF_F _ _ _, by
          show (hUp _ (F + 1) _).1 F = _
          rw [hUp_ne _ _ (by omega), hUp_eq]
          rfl, hg, fun k hk => by cases hk⟩
    obtain ⟨r, e3, w', rfl, hK, hP⟩ := H
    refine ⟨w', ?_, hK, fun p hp => by rw [hn] at hp; cases hp; exact hP⟩
    rw [dW5 hI ht, hz] at e2 c1
    simp only [Option.map_some] at e2 c1
    have c2 : ∀ v : Int, (some v = (none : Option Int)) = False := fun v => eq_false (by simp)
    rw [c2] at c1
    rw [hn]
    generalize encF _ = v at c1 e2
    simp (disch := omega) only [b2_some, bd_some, nm_eq, Option.map_some, zN_lit, zN_add, zN_mul, zN_neg1, if_true, if_false, reduceIte, eq_self, Nat.reduceEqDiff, Nat.reduceAdd, Nat.reduceMul, Nat.reduceSub, Nat.reduceLeDiff, Nat.one_ne_zero, not_false_eq_true, Bool.false_eq_true, zN_eq, zN_lt, zN_le,  fX4_walk, hput, m1F, hUp_K, e2, eF, c1, c_tI m2.2.2.1 ht, c_tfrom m2.2.2.1 ht, e3, Option.isSome_some]
theorem c_has {p : List Nat} (h : MS w F s q ν ρ) (hp : ∀ a ∈ p, a < 24) (hl : p.length < 10) (hP : PaC w F p) {a : Nat} (ha : a < 24) : fX4_has F (zN a) w = some (zN (if a ∈ p then 1 else 0), w) := by
  obtain ⟨h1, f, h2, h3⟩ := hP
  have i5 : gI w F 23 5 = some (zN p.length) := c_I h1 5
  have H : ∃ r, fX4_has_l2 F (zN a) 0 w = some r ∧ r = (zN (if a ∈ p then 1 else 0), w) := by
    refine wh_up (P := fun i x => i ≤ p.length ∧ x = (zN i, w) ∧ ∀ k, k < i → p.getD k 0 ≠ a) p.length ?_ ?_ p.length 0 _ (by omega) ⟨by omega, rfl, fun k hk => by omega⟩
    · rintro i x hi ⟨-, rfl, hn⟩
      have n1 : ¬ (p.length ≤ i) := by omega
      have g := hp _ (getD_mem hi)
      have l1 : ldI w (F + 3) 0 (zN i) = some (zN (p.getD i 0)) := by
        rw [← h3.get hi]
        exact c_ldI h2 (by omega) (by omega)
      by_cases e : p.getD i 0 = a
      · right
        have hm : a ∈ p := by rw [← e]; exact getD_mem hi
        refine ⟨_, ?_, rfl⟩
        simp (disch := omega) only [b2_some, bd_some, nm_eq, Option.map_some, zN_lit, zN_add, zN_mul, zN_neg1, if_true, if_false, reduceIte, eq_self, Nat.reduceEqDiff, Nat.reduceAdd, Nat.reduceMul, Nat.reduceSub, Nat.reduceLeDiff, Nat.one_ne_zero, not_false_eq_true, Bool.false_eq_true, zN_eq, zN_lt, zN_le,  fX4_has_b2, i5, n1, c_gP h.1, l1, e, hm]
      · left
        refine ⟨_, ?_, by omega, rfl, fun k hk => ?_⟩
        · simp (disch := omega) only [b2_some, bd_some, nm_eq, Option.map_some, zN_lit, zN_add, zN_mul, zN_neg1, if_true, if_false, reduceIte, eq_self, Nat.reduceEqDiff, Nat.reduceAdd, Nat.reduceMul, Nat.reduceSub, Nat.reduceLeDiff, Nat.one_ne_zero, not_false_eq_true, Bool.false_eq_true, zN_eq, zN_lt, zN_le,  fX4_has_b2, i5, n1, c_gP h.1, l1, e]
        · by_cases e' : k = i
          · subst e'; exact e
          · exact hn k (by omega)
    · rintro x ⟨-, rfl, hn⟩
      have hm : ¬ a ∈ p := fun hm => by
        obtain ⟨k, hk, e⟩ := List.getElem_of_mem hm
        exact hn k hk (by rw [List.getD_eq_getElem?_getD, List.getElem?_eq_getElem hk]; exact e)
      refine ⟨_, ?_, rfl⟩
      simp (disch := omega) only [b2_some, bd_some, nm_eq, Option.map_some, zN_lit, zN_add, zN_mul, zN_neg1, if_true, if_false, reduceIte, eq_self, Nat.reduceEqDiff, Nat.reduceAdd, Nat.reduceMul, Nat.reduceSub, Nat.reduceLeDiff, Nat.one_ne_zero, not_false_eq_true, Bool.false_eq_true, zN_eq, zN_lt, zN_le,  fX4_has_b2, i5, Nat.le_refl, hm]
  obtain ⟨r, e, rfl⟩ := H
  exact e
end
