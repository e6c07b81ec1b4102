/-! Plain law: the component's gates; captives, worth, detour, margin -/
def wTh (w : WH) : WH := (w.1, wK w, wN w + 1, wC w - 1, wS w - 6)
theorem c_thr {w : WH} (h1 : 1 ≤ wC w) (h2 : 6 ≤ wS w) : hThr w = some (wN w, wTh w) := if_pos ⟨h1, h2⟩
theorem wTh_Kg {w : WH} {F : Nat} {Q : Nat → Prop} (hF : FiC w F) (hW : WF w) : Kg F Q w (wTh w) 1 6 := by
  refine ⟨fun _ _ _ _ => rfl, hF, fun a (ha : wN w + 1 ≤ a) => hW a (by omega), Nat.le_succ _, rfl, ?_, ?_⟩
  · show wC w ≤ wC w - 1 + 1; omega
  · show wS w ≤ wS w - 6 + 6; omega
theorem c_inR {w : WH} {a b c : Int} (ha : bJ a) (hb : bJ b) (hc : bJ c) : fX1_inRange (zJ a) (zJ b) (zJ c) w = some (zN (if b ≤ a ∧ a ≤ c then 1 else 0), w) := by
  unfold fX1_inRange
  rw [show (0 : Int32) = zN 0 from rfl]
  simp only [lgc_gt hb ha, lgc_gt ha hc]
  by_cases h1 : a < b
  · rw [if_pos h1, if_neg (by omega)]
  · rw [if_neg h1]
    by_cases h2 : c < a
    · rw [if_pos h2, if_neg (by omega)]
    · rw [if_neg h2, if_pos (by omega)]; rfl
theorem fz_b (b : Prop) [Decidable b] : fz_ .boolean (zN (if b then 1 else 0)) = some () := by
  by_cases h : b
  · rw [if_pos h]; decide
  · rw [if_neg h]; decide
theorem c_rq1 (w : WH) : fX1_requireIndex (zN 1) w = some (.inl (), w) := if_neg (by decide)
theorem c_rq0 {w : WH} (h1 : 1 ≤ wC w) (h2 : 6 ≤ wS w) : fX1_requireIndex (zN 0) w = some (.inr (0, wN w), wTh w) := by
  unfold fX1_requireIndex
  rw [if_pos (by decide), c_thr h1 h2]
  rfl
theorem c_ra1 (w : WH) : fX1_requireArgument (zN 1) w = some (.inl (), w) := if_neg (by decide)
theorem c_ra0 {w : WH} (h1 : 1 ≤ wC w) (h2 : 6 ≤ wS w) : fX1_requireArgument (zN 0) w = some (.inr (1, wN w), wTh w) := by
  unfold fX1_requireArgument
  rw [if_pos (by decide), c_thr h1 h2]
  rfl
section
variable {w : WH} {x s q F : Nat} {ρ : Nat → Nat} {ν : NH} {t a : Nat} {v : Int}
theorem c_isA (h : MR w x F s q ν ρ) (hv : bI v) : fX1_isArc x (zI v) w = some (zN (if 0 ≤ v ∧ v < ρ 1 then 1 else 0), w) := by
  have h1 := h.inv.h1
  have e1 : (zN (ρ 1) - zN 1).toInt64 = zJ ((ρ 1 : Int) - 1) := by
    rw [show zN (ρ 1) - zN 1 = zI ((ρ 1 : Int) - 1) from zI_sub _ _, zI_J (by omega)]
  have e2 := c_inR (w := w) (a := v) (b := 0) (c := (ρ 1 : Int) - 1) ⟨by unfold bI at hv; omega, by unfold bI at hv; omega⟩ ⟨by omega, by omega⟩ ⟨by omega, by omega⟩
  have e3 : (if 0 ≤ v ∧ v ≤ (ρ 1 : Int) - 1 then 1 else 0) = (if 0 ≤ v ∧ v < ρ 1 then 1 else 0) := by
    by_cases g : 0 ≤ v ∧ v < ρ 1
    · rw [if_pos g, if_pos (by omega)]
    · rw [if_neg g, if_neg (by omega)]
  rw [e3] at e2
  have e4 := fz_b (0 ≤ v ∧ v < ρ 1)
  have e5 : (0 : Int64) = zJ 0 := rfl
  simp (disch := omega) only [b2_some, bd_some, nm_eq, Option.map_some, zN_lit, zN_add, zN_mul, zN_neg1, if_true, if_false, reduceIte, eq_self, Nat.reduceEqDiff, Nat.reduceAdd, Nat.reduceMul, Nat.reduceSub, Nat.reduceLeDiff, Nat.one_ne_zero, not_false_eq_true, Bool.false_eq_true, zN_eq, zN_lt, zN_le,  fX1_isArc, h.g0, h.g1, h.xI, h.1.FI, c_snet h.1.2.1, c_sI h.1.2.1, c_nal h.1.2.2.1, c_ntl h.1.2.2.1, c_nn h.1.2.2.1, c_alI h.1.2.2.1, c_tlI h.1.2.2.1, c_size h.1.2.2.1, c_size2 h.1.2.2.1, zI_J hv, e1, e5, e2, e4]
theorem c_isP (h : MR w x F s q ν ρ) (hv : bI v) : fX1_isTrip x (zI v) w = some (zN (if 0 ≤ v ∧ v < ρ 2 then 1 else 0), w) := by
  have h1 := h.inv.h2
  have e1 : (zN (ρ 2) - zN 1).toInt64 = zJ ((ρ 2 : Int) - 1) := by
    rw [show zN (ρ 2) - zN 1 = zI ((ρ 2 : Int) - 1) from zI_sub _ _, zI_J (by omega)]
  have e2 := c_inR (w := w) (a := v) (b := 0) (c := (ρ 2 : Int) - 1) ⟨by unfold bI at hv; omega, by unfold bI at hv; omega⟩ ⟨by omega, by omega⟩ ⟨by omega, by omega⟩
  have e3 : (if 0 ≤ v ∧ v ≤ (ρ 2 : Int) - 1 then 1 else 0) = (if 0 ≤ v ∧ v < ρ 2 then 1 else 0) := by
    by_cases g : 0 ≤ v ∧ v < ρ 2
    · rw [if_pos g, if_pos (by omega)]
    · rw [if_neg g, if_neg (by omega)]
  rw [e3] at e2
  have e4 := fz_b (0 ≤ v ∧ v < ρ 2)
  have e5 : (0 : Int64) = zJ 0 := rfl
  simp (disch := omega) only [b2_some, bd_some, nm_eq, Option.map_some, zN_lit, zN_add, zN_mul, zN_neg1, if_true, if_false, reduceIte, eq_self, Nat.reduceEqDiff, Nat.reduceAdd, Nat.reduceMul, Nat.reduceSub, Nat.reduceLeDiff, Nat.one_ne_zero, not_false_eq_true, Bool.false_eq_true, zN_eq, zN_lt, zN_le,  fX1_isTrip, h.g0, h.g1, h.xI, h.1.FI, c_snet h.1.2.1, c_sI h.1.2.1, c_nal h.1.2.2.1, c_ntl h.1.2.2.1, c_nn h.1.2.2.1, c_alI h.1.2.2.1, c_tlI h.1.2.2.1, c_size h.1.2.2.1, c_size2 h.1.2.2.1, zI_J hv, e1, e5, e2, e4]
theorem c_isA1 (h : MR w x F s q ν ρ) (ha : a < ρ 1) : fX1_isArc x (zN a) w = some (zN 1, w) := by
  have h1 := h.inv.h1
  have := c_isA h (v := (a : Int)) ⟨by omega, by omega⟩
  rw [if_pos (by omega)] at this
  exact this
theorem c_isA0 (h : MR w x F s q ν ρ) (hv : bI v) (hn : ¬ (0 ≤ v ∧ v < ρ 1)) : fX1_isArc x (zI v) w = some (zN 0, w) := by
  have := c_isA h hv
  rw [if_neg hn] at this
  exact this
theorem c_isP1 (h : MR w x F s q ν ρ) (ht : t < ρ 2) : fX1_isTrip x (zN t) w = some (zN 1, w) := by
  have h1 := h.inv.h2
  have := c_isP h (v := (t : Int)) ⟨by omega, by omega⟩
  rw [if_pos (by omega)] at this
  exact this
theorem c_isP0 (h : MR w x F s q ν ρ) (hv : bI v) (hn : ¬ (0 ≤ v ∧ v < ρ 2)) : fX1_isTrip x (zI v) w = some (zN 0, w) := by
  have := c_isP h hv
  rw [if_neg hn] at this
  exact this
theorem c_arcAt1 (h : MR w x F s q ν ρ) (ha : a < ρ 1) : fX1_arcAt x (zN a) w = some (.inl (some (nAr ν a)), w) := by
  simp (disch := omega) only [b2_some, bd_some, nm_eq, Option.map_some, zN_lit, zN_add, zN_mul, zN_neg1, if_true, if_false, reduceIte, eq_self, Nat.reduceEqDiff, Nat.reduceAdd, Nat.reduceMul, Nat.reduceSub, Nat.reduceLeDiff, Nat.one_ne_zero, not_false_eq_true, Bool.false_eq_true, zN_eq, zN_lt, zN_le,  fX1_arcAt, h.g0, h.g1, h.xI, h.1.FI, c_snet h.1.2.1, c_sI h.1.2.1, c_nal h.1.2.2.1, c_ntl h.1.2.2.1, c_nn h.1.2.2.1, c_alI h.1.2.2.1, c_tlI h.1.2.2.1, c_size h.1.2.2.1, c_size2 h.1.2.2.1, c_isA1 h ha, c_rq1, ex_, c_geta h.1.2.2.1 h.inv ha, c_aI h.1.2.2.1 ha]
theorem c_arcAt0 (h : MR w x F s q ν ρ) (hv : bI v) (hn : ¬ (0 ≤ v ∧ v < ρ 1)) (h1 : 1 ≤ wC w) (h2 : 6 ≤ wS w) : fX1_arcAt x (zI v) w = some (.inr (0, wN w), wTh w) := by
  simp (disch := omega) only [b2_some, bd_some, nm_eq, Option.map_some, zN_lit, zN_add, zN_mul, zN_neg1, if_true, if_false, reduceIte, eq_self, Nat.reduceEqDiff, Nat.reduceAdd, Nat.reduceMul, Nat.reduceSub, Nat.reduceLeDiff, Nat.one_ne_zero, not_false_eq_true, Bool.false_eq_true, zN_eq, zN_lt, zN_le,  fX1_arcAt, h.g0, h.g1, h.xI, h.1.FI, c_snet h.1.2.1, c_sI h.1.2.1, c_nal h.1.2.2.1, c_ntl h.1.2.2.1, c_nn h.1.2.2.1, c_alI h.1.2.2.1, c_tlI h.1.2.2.1, c_size h.1.2.2.1, c_size2 h.1.2.2.1, c_isA0 h hv hn, c_rq0 h1 h2, ex_]
theorem c_tripAt1 (h : MR w x F s q ν ρ) (ht : t < ρ 2) : fX1_tripAt x (zN t) w = some (.inl (some (nTr ν t)), w) := by
  simp (disch := omega) only [b2_some, bd_some, nm_eq, Option.map_some, zN_lit, zN_add, zN_mul, zN_neg1, if_true, if_false, reduceIte, eq_self, Nat.reduceEqDiff, Nat.reduceAdd, Nat.reduceMul, Nat.reduceSub, Nat.reduceLeDiff, Nat.one_ne_zero, not_false_eq_true, Bool.false_eq_true, zN_eq, zN_lt, zN_le,  fX1_tripAt, h.g0, h.g1, h.xI, h.1.FI, c_snet h.1.2.1, c_sI h.1.2.1, c_nal h.1.2.2.1, c_ntl h.1.2.2.1, c_nn h.1.2.2.1, c_alI h.1.2.2.1, c_tlI h.1.2.2.1, c_size h.1.2.2.1, c_size2 h.1.2.2.1, c_isP1 h ht, c_rq1, ex_, c_gett h.1.2.2.1 h.inv ht, c_tI h.1.2.2.1 ht]
theorem c_tripAt0 (h : MR w x F s q ν ρ) (hv : bI v) (hn : ¬ (0 ≤ v ∧ v < ρ 2)) (h1 : 1 ≤ wC w) (h2 : 6 ≤ wS w) : fX1_tripAt x (zI v) w = some (.inr (0, wN w), wTh w) := by
  simp (disch := omega) only [b2_some, bd_some, nm_eq, Option.map_some, zN_lit, zN_add, zN_mul, zN_neg1, if_true, if_false, reduceIte, eq_self, Nat.reduceEqDiff, Nat.reduceAdd, Nat.reduceMul, Nat.reduceSub, Nat.reduceLeDiff, Nat.one_ne_zero, not_false_eq_true, Bool.false_eq_true, zN_eq, zN_lt, zN_le,  fX1_tripAt, h.g0, h.g1, h.xI, h.1.FI, c_snet h.1.2.1, c_sI h.1.2.1, c_nal h.1.2.2.1, c_ntl h.1.2.2.1, c_nn h.1.2.2.1, c_alI h.1.2.2.1, c_tlI h.1.2.2.1, c_size h.1.2.2.1, c_size2 h.1.2.2.1, c_isP0 h hv hn, c_rq0 h1 h2, ex_]
theorem c_cpt (h : MR w x F s q ν ρ) (ha : a < ρ 1) : ∃ w', fX1_captives_l12 x (zN a) 0 0 w = some (.inl (zN (cptN ρ 0 0 a)), w') ∧ Kf w w' F := by
  have hI := h.inv
  have h2 := hI.h2
  have b24 : a < 24 := by have := hI.h1; omega
  have eF : (2305843009213693951 : Int64) = zJ FAR := rfl
  have H : ∃ r, fX1_captives_l12 x (zN a) 0 0 w = some r ∧ ∃ w', r = (.inl (zN (cptN ρ 0 0 a)), w') ∧ Kf w w' F := by
    refine wh_up (P := fun i y => i ≤ ρ 2 ∧ ∃ w', y = (zN (msk (fun t => (PT ρ 0 (-1) 0 t).isSome && !(PT ρ 0 a 0 t).isSome) i), zN i, w') ∧ Kf w w' F) (ρ 2) ?_ ?_ (ρ 2) 0 _ (by omega) ⟨by omega, w, rfl, Kf.refl h.1.1⟩
    · rintro i y hi ⟨-, w', rfl, hK⟩
      have h' := h.kf hK
      obtain ⟨w2, e2, hK2⟩ := c_fltBy h' hi
      have hh := h'.kf hK2
      obtain ⟨w3, e3, hK3⟩ := c_fwo hh hi ha
      have n1 : ¬ (ρ 2 ≤ i) := by omega
      have c1 := encF_eq (o := lT ρ 0 (-1) 0 i (pFr ρ i)) (dW_in (k := 6) hI hi _)
      have hin : inF (lT ρ 0 a 0 i (pFr ρ i)) := by
        have := dW_in (ρ := scl ρ a 1) (k := 6) (t := i) (hI.scl ha (Nat.le_refl 1)) (by rw [scl_low ρ a 1 (by omega)]; exact hi) (pFr ρ i)
        rw [dW6, lT_scl ρ b24] at this
        exact this
      have c2 := encF_eq hin
      rw [lT_none hI hi] at e2 c1
      rw [lT_none hI hi] at e3 c2
      left
      rw [show msk (fun t => (PT ρ 0 (-1) 0 t).isSome && !(PT ρ 0 a 0 t).isSome) (i + 1) = _ from rfl] at *
      cases hp : PT ρ 0 (-1) 0 i with
      | none =>
        rw [hp] at e2 c1
        simp only [Option.map_none] at e2 c1
        generalize encF none = v at e2 c1
        refine ⟨(zN (msk (fun t => (PT ρ 0 (-1) 0 t).isSome && !(PT ρ 0 a 0 t).isSome) (i + 1)), zN (i + 1), w2), ?_, by omega, w2, rfl, hK.trans hK2⟩
        rw [msk, if_neg (by rw [hp]; simp)]
        simp (disch := omega) only [b2_some, bd_some, nm_eq, Option.map_some, zN_lit, zN_add, zN_mul, zN_neg1, if_true, if_false, reduceIte, eq_self, Nat.reduceEqDiff, Nat.reduceAdd, Nat.reduceMul, Nat.reduceSub, Nat.reduceLeDiff, Nat.one_ne_zero, not_false_eq_true, Bool.false_eq_true, zN_eq, zN_lt, zN_le,  fX1_captives_b12, h'.g0, h'.g1, h'.xI, h'.1.FI, c_snet h'.1.2.1, c_sI h'.1.2.1, c_nal h'.1.2.2.1, c_ntl h'.1.2.2.1, c_nn h'.1.2.2.1, c_alI h'.1.2.2.1, c_tlI h'.1.2.2.1, c_size h'.1.2.2.1, c_size2 h'.1.2.2.1, n1, c_gett h'.1.2.2.1 hI hi, c_tI h'.1.2.2.1 hi, e2, eF, c1, fX1_captives_b86, fX1_captives_b87, zN_or]
      | some p =>
        rw [hp] at e2 c1
        simp only [Option.map_some] at e2 c1
        have c4 : ∀ v : Int, (some v = (none : Option Int)) = False := fun v => eq_false (by simp)
        rw [c4] at c1
        generalize encF (some _) = v1 at e2 c1
        refine ⟨(zN (msk (fun t => (PT ρ 0 (-1) 0 t).isSome && !(PT ρ 0 a 0 t).isSome) (i + 1)), zN (i + 1), w3), ?_, by omega, w3, rfl, (hK.trans hK2).trans hK3⟩
        cases hq : PT ρ 0 a 0 i with
        | none =>
          rw [hq] at e3 c2
          simp only [Option.map_none] at e3 c2
          generalize encF none = v2 at e3 c2
          rw [msk, if_pos (by rw [hp, hq]; simp)]
          simp (disch := omega) only [b2_some, bd_some, nm_eq, Option.map_some, zN_lit, zN_add, zN_mul, zN_neg1, if_true, if_false, reduceIte, eq_self, Nat.reduceEqDiff, Nat.reduceAdd, Nat.reduceMul, Nat.reduceSub, Nat.reduceLeDiff, Nat.one_ne_zero, not_false_eq_true, Bool.false_eq_true, zN_eq, zN_lt, zN_le,  fX1_captives_b12, h'.g0, h'.g1, h'.xI, h'.1.FI, c_snet h'.1.2.1, c_sI h'.1.2.1, c_nal h'.1.2.2.1, c_ntl h'.1.2.2.1, c_nn h'.1.2.2.1, c_alI h'.1.2.2.1, c_tlI h'.1.2.2.1, c_size h'.1.2.2.1, c_size2 h'.1.2.2.1, n1, c_gett h'.1.2.2.1 hI hi, c_tI h'.1.2.2.1 hi, e2, eF, c1, hh.xI, e3, c2, fX1_captives_b87, zN_shlz, zN_or]
        | some p2 =>
          rw [hq] at e3 c2
          simp only [Option.map_some] at e3 c2
          rw [c4] at c2
          generalize encF (some _) = v2 at e3 c2
          rw [msk, if_neg (by rw [hp, hq]; simp)]
          simp (disch := omega) only [b2_some, bd_some, nm_eq, Option.map_some, zN_lit, zN_add, zN_mul, zN_neg1, if_true, if_false, reduceIte, eq_self, Nat.reduceEqDiff, Nat.reduceAdd, Nat.reduceMul, Nat.reduceSub, Nat.reduceLeDiff, Nat.one_ne_zero, not_false_eq_true, Bool.false_eq_true, zN_eq, zN_lt, zN_le,  fX1_captives_b12, h'.g0, h'.g1, h'.xI, h'.1.FI, c_snet h'.1.2.1, c_sI h'.1.2.1, c_nal h'.1.2.2.1, c_ntl h'.1.2.2.1, c_nn h'.1.2.2.1, c_alI h'.1.2.2.1, c_tlI h'.1.2.2.1, c_size h'.1.2.2.1, c_size2 h'.1.2.2.1, n1, c_gett h'.1.2.2.1 hI hi, c_tI h'.1.2.2.1 hi, e2, eF, c1, hh.xI, e3, c2, fX1_captives_b86, fX1_captives_b87, zN_or]
    · rintro y ⟨-, w', rfl, hK⟩
      have h' := h.kf hK
      refine ⟨_, ?_, w', rfl, hK⟩
      simp (disch := omega) only [b2_some, bd_some, nm_eq, Option.map_some, zN_lit, zN_add, zN_mul, zN_neg1, if_true, if_false, reduceIte, eq_self, Nat.reduceEqDiff, Nat.reduceAdd, Nat.reduceMul, Nat.reduceSub, Nat.reduceLeDiff, Nat.one_ne_zero, not_false_eq_true, Bool.false_eq_true, zN_eq, zN_lt, zN_le,  fX1_captives_b12, h'.g0, h'.g1, h'.xI, h'.1.FI, c_snet h'.1.2.1, c_sI h'.1.2.1, c_nal h'.1.2.2.1, c_ntl h'.1.2.2.1, c_nn h'.1.2.2.1, c_alI h'.1.2.2.1, c_tlI h'.1.2.2.1, c_size h'.1.2.2.1, c_size2 h'.1.2.2.1, Nat.le_refl]
      rfl
  obtain ⟨r, e, w', rfl, hK⟩ := H
  exact ⟨w', e, hK⟩
theorem c_worth (h : MR w x F s q ν ρ) (ha : a < ρ 1) : ∃ w', fX1_worth x (zN a) w = some (.inl (zJ (allI ρ 0 (-1) 0 - allI ρ 0 a 0)), w') ∧ Kf w w' F := by
  have hI := h.inv
  have b24 : a < 24 := by have := hI.h1; omega
  obtain ⟨w0, e0, k0⟩ := c_all h
  have M0 := h.kf k0
  obtain ⟨g, hB⟩ := M0.1.2.1.Bs
  have M1 := M0.scl hB ha (Nat.le_refl 1)
  have hB1 := hB.bU (m' := clm (scl ρ a 1)) (clm_lt _)
  obtain ⟨w2, e2, k2⟩ := c_all M1
  rw [allI_scl ρ b24] at e2
  have M2 := M1.kf k2
  have hB2 := hB1.kf M1.FC k2
  have kb := c_backB M0.FC hB k2
  have r0 : hIs w0 (q + 2) 0 = some () := c_C hB.1
  have r2 : hIs w2 (q + 2) 0 = some () := c_C hB2.1
  have g1 := c_get1 hB (k := a) (by omega)
  have s1 := c_set1 hB (k := a) (by omega)
  have ec := clm_scl ρ b24 (Nat.le_refl 1)
  rw [if_neg (show ¬ (1 = 0) by omega)] at ec
  rw [← ec] at s1
  have s2 := c_setb hB2 (k := a) (by omega) (if (clm ρ).testBit a then 1 else 0) (by split <;> omega)
  rw [clm_scl2 ρ b24] at s2
  refine ⟨_, ?_, k0.trans kb⟩
  simp (disch := omega) only [b2_some, bd_some, nm_eq, Option.map_some, zN_lit, zN_add, zN_mul, zN_neg1, if_true, if_false, reduceIte, eq_self, Nat.reduceEqDiff, Nat.reduceAdd, Nat.reduceMul, Nat.reduceSub, Nat.reduceLeDiff, Nat.one_ne_zero, not_false_eq_true, Bool.false_eq_true, zN_eq, zN_lt, zN_le,  fX1_worth, h.xI, c_isA1 h ha, c_rq1, ex_, e0, M0.g0, c_gcl M0, r0, g1, s1, M1.xI, e2, M2.g0, c_gcl M2, r2, s2, fX1_worth_b56, zJ_sub]
end
noncomputable def dtrI (ρ : Nat → Nat) (t a : Nat) : Int := match lT ρ 0 a 0 t (pFr ρ t) with
  | none => -1
  | some y => y - lI ρ 0 (-1) 0 t (pFr ρ t)
