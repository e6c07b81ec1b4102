/-! Plain law: the component counts ties of a trip; their span -/
noncomputable def tiI (ρ : Nat → Nat) (t : Nat) : Int := match lT ρ 0 (-1) 0 t (pFr ρ t) with
  | none => 0
  | some _ => (vT ρ 0 (-1) 0 t (pFr ρ t)).1
noncomputable def tspI (ρ : Nat → Nat) (t : Nat) : Int := match lT ρ 0 (-1) 0 t (pFr ρ t) with
  | none => -1
  | some _ => (vT ρ 0 (-1) 0 t (pFr ρ t)).2.1 - (vT ρ 0 (-1) 0 t (pFr ρ t)).2.2
section
variable {w w1 : WH} {x s q F : Nat} {ρ : Nat → Nat} {ν : NH} {t : Nat} {V : VV} {f : Nat → Int64}
theorem c_count (h : MS w F s q ν ρ) (ht : t < ρ 2) : ∃ w', fX4_count F s (nTr ν t) w = some (zJ (tiI ρ t), w') ∧ Kf w w' F ∧ (lT ρ 0 (-1) 0 t (pFr ρ t) ≠ none → ∃ V, WyC w' F V ∧ NdV ρ t (pFr ρ t) V) := by
  have hI := h.2.2.2.1
  have hc := hI.ht ht
  have h0 := hI.h0
  obtain ⟨f, e, hf⟩ := c_meas h (k := 6) (by omega) ht
  have eF : (2305843009213693951 : Int64) = zJ FAR := rfl
  have c1 := encF_eq (dW_in (k := 6) hI ht (pFr ρ t))
  rw [dW6] at e c1
  have FI := h.FI
  cases hz : lT ρ 0 (-1) 0 t (pFr ρ t) with
  | none =>
    rw [hz] at e c1
    have hti : tiI ρ t = 0 := by unfold tiI; rw [hz]
    refine ⟨wF w F f, ?_, Kf.far h.1 f, fun h => absurd rfl h⟩
    rw [hti]
    generalize encF none = v at e c1
    simp (disch := omega) only [b2_some, bd_some, nm_eq, Option.map_some, zN_lit, zN_add, zN_mul, zN_neg1, if_true, if_false, reduceIte, eq_self, Nat.reduceEqDiff, Nat.reduceAdd, Nat.reduceMul, Nat.reduceSub, Nat.reduceLeDiff, Nat.one_ne_zero, not_false_eq_true, Bool.false_eq_true, zN_eq, zN_lt, zN_le,  fX4_count, FI, e, eF, c1]
    rfl
  | some z =>
    rw [hz] at e c1
    have hti : tiI ρ t = (vT ρ 0 (-1) 0 t (pFr ρ t)).1 := by unfold tiI; rw [hz]
    rw [eq_false (show ¬ (some z = none) by simp)] at c1
    generalize encF (some z) = v at e c1
    have h1 := h.far f
    have fF := wF_F w F f
    have K1 := Kf.far h.1 f
    generalize wF w F f = w1 at e h1 fF K1
    obtain ⟨g0, eg0⟩ := h1.1.2.2.1
    obtain ⟨m0, em0⟩ := h1.1.2.2.2.2.1
    obtain ⟨l0, el0⟩ := h1.1.2.2.2.2.2
    have H : ∃ r, fX4_count_l20 F s (nTr ν t) 0 w1 = some r ∧ ∃ w', r = (zJ (tiI ρ t), w') ∧ Kf w w' F ∧ ∃ V, WyC w' F V ∧ NdV ρ t (pFr ρ t) V := by
      refine wh_up (P := fun i y => i ≤ ρ 0 ∧ ∃ g, y = (zN i, hUp w1 (F + 2) (farC g)) ∧ ∀ m, m < i → g m = zJ (-1)) (ρ 0) ?_ ?_ (ρ 0) 0 _ (by omega) ⟨by omega, g0, by rw [hUp_self eg0]; rfl, fun m hm => by omega⟩
      · rintro i y hi ⟨-, g, rfl, hg⟩
        have h2 := h1.kf (Kf.c2 h1.1 g)
        have n1 : ¬ (ρ 0 ≤ i) := by omega
        have s1 : stJ (hUp w1 (F + 2) (farC g)) (F + 2) (zN i) (zJ (-1)) = some (hUp w1 (F + 2) (farC (vp_updL g i (zJ (-1))))) := by
          have s0 := c_stJ (w := hUp w1 (F + 2) (farC g)) (a := F + 2) (n := 10) (f := g) (hUp_eq _ _ _) (k := i) (by omega) (by omega) (zJ (-1))
          rw [hUp_hUp] at s0
          exact s0
        refine .inl ⟨(zN (i + 1), hUp w1 (F + 2) (farC (vp_updL g i (zJ (-1))))), ?_, by omega, _, rfl, fun m hm => ?_⟩
        · simp (disch := omega) only [b2_some, bd_some, nm_eq, Option.map_some, zN_lit, zN_add, zN_mul, zN_neg1, if_true, if_false, reduceIte, eq_self, Nat.reduceEqDiff, Nat.reduceAdd, Nat.reduceMul, Nat.reduceSub, Nat.reduceLeDiff, Nat.one_ne_zero, not_false_eq_true, Bool.false_eq_true, zN_eq, zN_lt, zN_le,  fX4_count_b20, c_snet h2.2.1, c_nn h2.2.2.1, n1, h2.g23.1, show (-1 : Int64) = zJ (-1) from rfl, s1]
        · unfold vp_updL
          by_cases e : m = i
          · rw [if_pos e]
          · rw [if_neg e]; exact hg m (by omega)
      · rintro y ⟨-, g, rfl, hg⟩
        have h2 := h1.kf (Kf.c2 h1.1 g)
        have c2 : (hUp w1 (F + 2) (farC g)).1 (F + 2) = some (farC g) := hUp_eq _ _ _
        have c4 : (hUp w1 (F + 2) (farC g)).1 (F + 4) = some (intC m0) := by rw [hUp_ne _ _ (by omega)]; exact em0
        have c5 : (hUp w1 (F + 2) (farC g)).1 (F + 5) = some (intC l0) := by rw [hUp_ne _ _ (by omega)]; exact el0
        have c6 : (hUp w1 (F + 2) (farC g)).1 (F + 1) = some (farC f) := by rw [hUp_ne _ _ (by omega)]; exact fF
        have K2 := K1.trans (Kf.c2 h1.1 g)
        have s1 := c_stJ (a := F + 2) c2 (k := pTo ρ t) (by omega) (by omega) (zJ 1)
        have CI1 : CfI ρ t F f w (hUp w1 (F + 2) (farC g)) (g, m0, l0) → True := fun _ => trivial
        generalize hw2 : hUp w1 (F + 2) (farC g) = w2 at h2 c2 c4 c5 c6 K2 s1
        have h3 := h2.kf (Kf.c2 h2.1 (vp_updL g (pTo ρ t) (zJ 1)))
        have K3 := K2.trans (Kf.c2 h2.1 (vp_updL g (pTo ρ t) (zJ 1)))
        have d2 : (hUp w2 (F + 2) (farC (vp_updL g (pTo ρ t) (zJ 1)))).1 (F + 2) = some (farC (vp_updL g (pTo ρ t) (zJ 1))) := hUp_eq _ _ _
        have d4 : (hUp w2 (F + 2) (farC (vp_updL g (pTo ρ t) (zJ 1)))).1 (F + 4) = some (intC m0) := by rw [hUp_ne _ _ (by omega)]; exact c4
        have d5 : (hUp w2 (F + 2) (farC (vp_updL g (pTo ρ t) (zJ 1)))).1 (F + 5) = some (intC l0) := by rw [hUp_ne _ _ (by omega)]; exact c5
        have d6 : (hUp w2 (F + 2) (farC (vp_updL g (pTo ρ t) (zJ 1)))).1 (F + 1) = some (farC f) := by rw [hUp_ne _ _ (by omega)]; exact c6
        have s1' : stJ w2 (F + 2) (zN (pTo ρ t)) (zJ 1) = some (hUp w2 (F + 2) (farC (vp_updL g (pTo ρ t) (zJ 1)))) := s1
        generalize hUp w2 (F + 2) (farC (vp_updL g (pTo ρ t) (zJ 1))) = w3 at h3 K3 d2 d4 d5 d6 s1'
        have s2 := c_stI (a := F + 4) d4 (k := pTo ρ t) (by omega) (by omega) (zI 0)
        have h4 := h3.kf (Kf.c4 h3.1 (upd m0 (pTo ρ t) (zI 0)))
        have K4 := K3.trans (Kf.c4 h3.1 (upd m0 (pTo ρ t) (zI 0)))
        have b2 : (hUp w3 (F + 4) (intC (upd m0 (pTo ρ t) (zI 0)))).1 (F + 2) = some (farC (vp_updL g (pTo ρ t) (zJ 1))) := by rw [hUp_ne _ _ (by omega)]; exact d2
        have b4 : (hUp w3 (F + 4) (intC (upd m0 (pTo ρ t) (zI 0)))).1 (F + 4) = some (intC (upd m0 (pTo ρ t) (zI 0))) := hUp_eq _ _ _
        have b5 : (hUp w3 (F + 4) (intC (upd m0 (pTo ρ t) (zI 0)))).1 (F + 5) = some (intC l0) := by rw [hUp_ne _ _ (by omega)]; exact d5
        have b6 : (hUp w3 (F + 4) (intC (upd m0 (pTo ρ t) (zI 0)))).1 (F + 1) = some (farC f) := by rw [hUp_ne _ _ (by omega)]; exact d6
        have s2' : stI w3 (F + 4) 0 (zN (pTo ρ t)) (zI 0) = some (hUp w3 (F + 4) (intC (upd m0 (pTo ρ t) (zI 0)))) := s2
        generalize hUp w3 (F + 4) (intC (upd m0 (pTo ρ t) (zI 0))) = w4 at h4 K4 b2 b4 b5 b6 s2'
        have s3 := c_stI (a := F + 5) b5 (k := pTo ρ t) (by omega) (by omega) (zI 0)
        have h5 := h4.kf (Kf.c5 h4.1 (upd l0 (pTo ρ t) (zI 0)))
        have K5 := K4.trans (Kf.c5 h4.1 (upd l0 (pTo ρ t) (zI 0)))
        have a2 : (hUp w4 (F + 5) (intC (upd l0 (pTo ρ t) (zI 0)))).1 (F + 2) = some (farC (vp_updL g (pTo ρ t) (zJ 1))) := by rw [hUp_ne _ _ (by omega)]; exact b2
        have a4 : (hUp w4 (F + 5) (intC (upd l0 (pTo ρ t) (zI 0)))).1 (F + 4) = some (intC (upd m0 (pTo ρ t) (zI 0))) := by rw [hUp_ne _ _ (by omega)]; exact b4
        have a5 : (hUp w4 (F + 5) (intC (upd l0 (pTo ρ t) (zI 0)))).1 (F + 5) = some (intC (upd l0 (pTo ρ t) (zI 0))) := hUp_eq _ _ _
        have a6 : (hUp w4 (F + 5) (intC (upd l0 (pTo ρ t) (zI 0)))).1 (F + 1) = some (farC f) := by rw [hUp_ne _ _ (by omega)]; exact b6
        have s3' : stI w4 (F + 5) 0 (zN (pTo ρ t)) (zI 0) = some (hUp w4 (F + 5) (intC (upd l0 (pTo ρ t) (zI 0)))) := s3
        generalize hUp w4 (F + 5) (intC (upd l0 (pTo ρ t) (zI 0))) = w5 at h5 K5 a2 a4 a5 a6 s3'
        have vl := vT_last (ρ := ρ) (t := t) hI ht
        have nd : NdV ρ t (pTo ρ t) (vp_updL g (pTo ρ t) (zJ 1), upd m0 (pTo ρ t) (zI 0), upd l0 (pTo ρ t) (zI 0)) := by
          unfold NdV
          rw [vl]
          exact ⟨if_pos rfl, if_pos rfl, if_pos rfl⟩
        have hC : CfI ρ t F f w w5 (vp_updL g (pTo ρ t) (zJ 1), upd m0 (pTo ρ t) (zI 0), upd l0 (pTo ρ t) (zI 0)) := by
          refine ⟨K5, a6, ⟨a2, a4, a5⟩, fun n hn => ?_, nd⟩
          by_cases e : n = pTo ρ t
          · rw [e]
            exact .inr ⟨⟨0, lT_last hI ht⟩, nd⟩
          · exact .inl ((if_neg e).trans (hg n hn))
        obtain ⟨w6, V6, r6, hC6, hn6, -, -⟩ := c_cf h ht hf 14 (pFr ρ t) z w5 _ hz (by
          have := (cntB_9 (tw_GN (m := 0) (aw := -1) (fz := 0) hI ht) hz).1
          have h' : cntB (ρ 0) (lT ρ 0 (-1) 0 t) z < 10 := this
          omega) hC
        refine ⟨_, ?_, w6, rfl, hC6.1, V6, hC6.2.2.1, hn6⟩
        rw [hti]
        have z1 : (1 : Int64) = zJ 1 := rfl
        have z0 : zN 0 = zI 0 := rfl
        have x1 := c_tto h2.2.2.1 ht
        have x2 := c_tto h3.2.2.1 ht
        have x3 := c_tto h4.2.2.1 ht
        have x5 := c_tfrom h5.2.2.1 ht
        have s2z : stI w3 (F + 4) 0 (zN (pTo ρ t)) (zN 0) = some w4 := s2'
        have s3z : stI w4 (F + 5) 0 (zN (pTo ρ t)) (zN 0) = some w5 := s3'
        simp (disch := omega) only [b2_some, bd_some, nm_eq, Option.map_some, zN_lit, zN_add, zN_mul, zN_neg1, if_true, if_false, reduceIte, eq_self, Nat.reduceEqDiff, Nat.reduceAdd, Nat.reduceMul, Nat.reduceSub, Nat.reduceLeDiff, Nat.one_ne_zero, not_false_eq_true, Bool.false_eq_true, zN_eq, zN_lt, zN_le,  fX4_count_b20, c_snet h2.2.1, c_nn h2.2.2.1, Nat.le_refl, fX4_count_b46, h2.g23.1, c_tI h2.2.2.1 ht, x1, z1, s1', h3.g23.2.1, c_tI h3.2.2.1 ht, x2, s2z, h4.g23.2.2, c_tI h4.2.2.1 ht, x3, s3z, c_tI h5.2.2.1 ht, x5, h5.FI, r6]
    obtain ⟨r, e2, w', rfl, hK, hV⟩ := H
    refine ⟨w', ?_, hK, fun _ => hV⟩
    simp (disch := omega) only [b2_some, bd_some, nm_eq, Option.map_some, zN_lit, zN_add, zN_mul, zN_neg1, if_true, if_false, reduceIte, eq_self, Nat.reduceEqDiff, Nat.reduceAdd, Nat.reduceMul, Nat.reduceSub, Nat.reduceLeDiff, Nat.one_ne_zero, not_false_eq_true, Bool.false_eq_true, zN_eq, zN_lt, zN_le,  fX4_count, FI, e, eF, c1]
    exact e2
theorem c_ties (h : MR w x F s q ν ρ) (ht : t < ρ 2) : ∃ w', fX1_ties x (zN t) w = some (.inl (zJ (tiI ρ t)), w') ∧ Kf w w' F := by
  obtain ⟨w', e, hK, -⟩ := c_count h.1 ht
  refine ⟨w', ?_, hK⟩
  simp (disch := omega) only [b2_some, bd_some, nm_eq, Option.map_some, zN_lit, zN_add, zN_mul, zN_neg1, if_true, if_false, reduceIte, eq_self, Nat.reduceEqDiff, Nat.reduceAdd, Nat.reduceMul, Nat.reduceSub, Nat.reduceLeDiff, Nat.one_ne_zero, not_false_eq_true, Bool.false_eq_true, zN_eq, zN_lt, zN_le,  fX1_ties, h.g0, h.g1, h.xI, h.1.FI, c_snet h.1.2.1, c_sI h.1.2.1, c_nal h.1.2.2.1, c_ntl h.1.2.2.1, c_nn h.1.2.2.1, c_alI h.1.2.2.1, c_tlI h.1.2.2.1, c_size h.1.2.2.1, c_size2 h.1.2.2.1, c_tripAt1 h ht, ex_, e]
theorem c_tieSpan (h : MR w x F s q ν ρ) (ht : t < ρ 2) : ∃ w', fX1_tieSpan x (zN t) w = some (.inl (zI (tspI ρ t)), w') ∧ Kf w w' F := by
  have hI := h.inv
  have hc := hI.ht ht
  have h0 := hI.h0
  obtain ⟨w', e, hK, hV⟩ := c_count h.1 ht
  refine ⟨w', ?_, hK⟩
  have e0 : ∀ x : Int64, lg_cmp x 0 = lg_cmp x (zJ 0) := fun _ => rfl
  have h' := h.kf hK
  cases hz : lT ρ 0 (-1) 0 t (pFr ρ t) with
  | none =>
    have hti : tiI ρ t = 0 := by unfold tiI; rw [hz]
    have hts : tspI ρ t = -1 := by unfold tspI; rw [hz]
    rw [hti] at e
    rw [hts]
    have c0 : (lg_cmp (zJ 0) (zJ 0) = zN 0) = True := by decide
    simp (disch := omega) only [b2_some, bd_some, nm_eq, Option.map_some, zN_lit, zN_add, zN_mul, zN_neg1, if_true, if_false, reduceIte, eq_self, Nat.reduceEqDiff, Nat.reduceAdd, Nat.reduceMul, Nat.reduceSub, Nat.reduceLeDiff, Nat.one_ne_zero, not_false_eq_true, Bool.false_eq_true, zN_eq, zN_lt, zN_le,  fX1_tieSpan, h.g0, h.g1, h.xI, h.1.FI, c_snet h.1.2.1, c_sI h.1.2.1, c_nal h.1.2.2.1, c_ntl h.1.2.2.1, c_nn h.1.2.2.1, c_alI h.1.2.2.1, c_tlI h.1.2.2.1, c_size h.1.2.2.1, c_size2 h.1.2.2.1, c_tripAt1 h ht, ex_, e, e0, c0]
  | some z =>
    have hti : tiI ρ t = (vT ρ 0 (-1) 0 t (pFr ρ t)).1 := by unfold tiI; rw [hz]
    have hts : tspI ρ t = (vT ρ 0 (-1) 0 t (pFr ρ t)).2.1 - (vT ρ 0 (-1) 0 t (pFr ρ t)).2.2 := by unfold tspI; rw [hz]
    obtain ⟨V, ⟨a2, a4, a5⟩, n1, n2, n3⟩ := hV (by rw [hz]; simp)
    have vr := vT_rng1 hI ht hz
    rw [hti] at e
    rw [hts]
    have c0 : (lg_cmp (zJ (vT ρ 0 (-1) 0 t (pFr ρ t)).1) (zJ 0) = zN 0) = False := by rw [lgc_eq (by unfold bJ; omega) (by unfold bJ; omega)]; exact eq_false (by omega)
    have l4 : ldI w' (F + 4) 0 (zN (pFr ρ t)) = some (V.2.1 (pFr ρ t)) := c_ldI a4 (by omega) (by omega)
    have l5 : ldI w' (F + 5) 0 (zN (pFr ρ t)) = some (V.2.2 (pFr ρ t)) := c_ldI a5 (by omega) (by omega)
    rw [n2] at l4
    rw [n3] at l5
    have x5 := c_tfrom h'.1.2.2.1 ht
    simp (disch := omega) only [b2_some, bd_some, nm_eq, Option.map_some, zN_lit, zN_add, zN_mul, zN_neg1, if_true, if_false, reduceIte, eq_self, Nat.reduceEqDiff, Nat.reduceAdd, Nat.reduceMul, Nat.reduceSub, Nat.reduceLeDiff, Nat.one_ne_zero, not_false_eq_true, Bool.false_eq_true, zN_eq, zN_lt, zN_le,  fX1_tieSpan, h.g0, h.g1, h.xI, h.1.FI, c_snet h.1.2.1, c_sI h.1.2.1, c_nal h.1.2.2.1, c_ntl h.1.2.2.1, c_nn h.1.2.2.1, c_alI h.1.2.2.1, c_tlI h.1.2.2.1, c_size h.1.2.2.1, c_size2 h.1.2.2.1, c_tripAt1 h ht, ex_, e, e0, c0, h'.g1, c_tI h'.1.2.2.1 ht, x5, h'.1.FI, fX4_span, h'.1.g23.2.1, h'.1.g23.2.2, l4, l5, zI_sub]
end
