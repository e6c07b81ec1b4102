/-! Plain law: the component's pledges, bound, burden, dearest -/
theorem uT_ztl {ρ : Nat → Nat} {m fz b : Nat} {aw : Int} : uT (ztl ρ) m aw fz b ↔ uT ρ m aw fz b := by
  unfold uT
  rw [ztl_low ρ (by omega), ztl_F, ztl_T, ztl_M, ztl_X]
theorem wcd_congr {u u' : Nat → Prop} {fe fe' tl tl' : Nat → Int} {K M c : Int} (hu : ∀ a, u a ↔ u' a) (h : ∀ a, u a → fe a = fe' a ∧ tl a = tl' a) : wcd u fe tl K M c = wcd u' fe' tl' K M c := by
  funext a
  by_cases e : u a
  · rw [wcd_pos e, wcd_pos ((hu a).mp e), (h a e).1, (h a e).2]
  · rw [wcd_neg e, wcd_neg (fun h' => e ((hu a).mpr h'))]
/-- with arcs left out that can have a toll, tolls do not matter -/
theorem lT_free {ρ : Nat → Nat} {t : Nat} (hI : Inv ρ) (m : Nat) (aw : Int) : lT (ztl ρ) m aw 1 t = lT ρ m aw 1 t := by
  have eF : aFr (ztl ρ) = aFr ρ := funext fun b => ztl_F ρ b
  have eT : aTo (ztl ρ) = aTo ρ := funext fun b => ztl_T ρ b
  have ew : wcd (uT (ztl ρ) m aw 1) (feI (ztl ρ) (pVa ρ t)) (tlI (ztl ρ)) 1 0 0 = wcd (uT ρ m aw 1) (feI ρ (pVa ρ t)) (tlI ρ) 1 0 0 := wcd_congr (fun a => uT_ztl) (fun a ha => by
    have hu := uT_ztl.mp ha
    have b := hI.ha hu.1
    have h0 : aMx ρ a = 0 := Nat.eq_zero_of_not_pos (fun h => hu.2.2.2.2.2 ⟨rfl, h⟩)
    unfold feI feN tlI
    rw [ztl_L ρ a (by omega), ztl_C, show aTl ρ a = 0 by omega]
    exact ⟨rfl, rfl⟩)
  funext n
  unfold lT dC
  rw [ztl_low ρ (by omega), eF, eT, ztl_pT, ztl_pV, ew]
theorem dW7 {ρ : Nat → Nat} {t : Nat} (hI : Inv ρ) : dW ρ t 7 = lT ρ 0 (-1) 1 t := by
  rw [← lT_free hI]
  have eF : aFr (ztl ρ) = aFr ρ := funext fun b => ztl_F ρ b
  have eT : aTo (ztl ρ) = aTo ρ := funext fun b => ztl_T ρ b
  have ew : wcd (uT (ztl ρ) 0 (-1) 1) (feI (ztl ρ) (pVa ρ t)) (tlI (ztl ρ)) 1 0 0 = wcd (uT ρ 0 (-1) 1) (feI (ztl ρ) (pVa ρ t)) (tlI (ztl ρ)) 1 0 0 := wcd_congr (fun a => uT_ztl) (fun _ _ => ⟨rfl, rfl⟩)
  funext n
  unfold lT dC
  rw [ztl_low ρ (by omega), eF, eT, ztl_pT, ztl_pV, ew]
  rfl
theorem dW8 {ρ : Nat → Nat} {t : Nat} : dW ρ t 8 = lT (ztl ρ) 0 (-1) 0 t := by
  have eF : aFr (ztl ρ) = aFr ρ := funext fun b => ztl_F ρ b
  have eT : aTo (ztl ρ) = aTo ρ := funext fun b => ztl_T ρ b
  have ew : wcd (uT (ztl ρ) 0 (-1) 0) (feI (ztl ρ) (pVa ρ t)) (tlI (ztl ρ)) 1 0 0 = wcd (uT ρ 0 (-1) 0) (feI (ztl ρ) (pVa ρ t)) (tlI (ztl ρ)) 1 0 0 := wcd_congr (fun a => uT_ztl) (fun _ _ => ⟨rfl, rfl⟩)
  funext n
  unfold lT dC
  rw [ztl_low ρ (by omega), eF, eT, ztl_pT, ztl_pV, ew]
  rfl
theorem lT_sup {ρ : Nat → Nat} {t : Nat} (hI : Inv ρ) (ht : t < ρ 2) {x : Int} (h : lT ρ 0 (-1) 1 t (pFr ρ t) = some x) : ∃ y, lT (ztl ρ) 0 (-1) 0 t (pFr ρ t) = some y := by
  have ht' : t < ztl ρ 2 := by rw [ztl_low ρ (by omega)]; exact ht
  cases hd : dT ρ 0 (-1) 1 t (pFr ρ t) with
  | none => rw [lT_eq hI ht, hd] at h; cases h
  | some z =>
    obtain ⟨h1, h2, h3, h4⟩ := dT_cod hI ht hd
    obtain ⟨y, hy, -⟩ := dT_le (m := 0) (aw := -1) (fz := 0) hI.ztl ht' (n := pFr ρ t) (l := pT ρ 0 (-1) 1 t (pFr ρ t)) (by
      rw [isP_congr (fun b => ztl_F ρ b) (fun b => ztl_T ρ b), ztl_pT]
      exact h2) (fun b hb => by
      have := h3 b hb
      exact uT_ztl.mpr ⟨this.1, this.2.1, this.2.2.1, this.2.2.2.1, this.2.2.2.2.1, by omega⟩)
    exact ⟨_, by rw [lT_eq hI.ztl ht', hy]; rfl⟩
section
variable {w : WH} {x s q F : Nat} {ρ : Nat → Nat} {ν : NH} {t : Nat}
theorem c_plg (h : MR w x F s q ν ρ) (ht : t < ρ 2) : ∃ w', fX1_pledged x (zN t) w = some (zJ (plgI ρ 0 (-1) t), w') ∧ Kf w w' F := by
  have hI := h.inv
  have ht' : t < ztl ρ 2 := by rw [ztl_low ρ (by omega)]; exact ht
  obtain ⟨f1, e1, -⟩ := c_meas h.1 (k := 7) (by omega) ht
  have k1 := Kf.far h.1.1 f1
  have h1 := h.kf k1
  obtain ⟨f2, e2, -⟩ := c_meas h1.1 (k := 8) (by omega) ht
  have k2 := k1.trans (Kf.far h1.1.1 f2)
  obtain ⟨d1, d2⟩ := c_dem h1 ht
  have c := hI.ht ht
  have p1 : fltI ρ 0 (-1) 1 t = lI ρ 0 (-1) 1 t (pFr ρ t) := fltI_lI hI ht
  have p2 : fltI (ztl ρ) 0 (-1) 0 t = lI (ztl ρ) 0 (-1) 0 t (pFr ρ t) := by
    have := fltI_lI (m := 0) (aw := -1) (fz := 0) hI.ztl ht'
    rw [ztl_pF] at this
    exact this
  rw [dW7 hI] at e1
  rw [dW8] at e2
  have eF : (2305843009213693951 : Int64) = zJ FAR := rfl
  have hin : inF (lT ρ 0 (-1) 1 t (pFr ρ t)) := by rw [← dW7 hI]; exact dW_in hI ht _
  have c1 := encF_eq hin
  unfold plgI
  rw [p1, p2]
  unfold lI
  cases h7 : lT ρ 0 (-1) 1 t (pFr ρ t) with
  | none =>
    rw [h7] at e1 c1
    rw [Option.getD_none, if_pos rfl]
    refine ⟨_, ?_, k1⟩
    generalize encF none = v at c1 e1
    simp (disch := omega) only [b2_some, bd_some, nm_eq, Option.map_some, zN_lit, zN_add, zN_mul, zN_neg1, if_true, if_false, reduceIte, eq_self, Nat.reduceEqDiff, Nat.reduceAdd, Nat.reduceMul, Nat.reduceSub, Nat.reduceLeDiff, Nat.one_ne_zero, not_false_eq_true, Bool.false_eq_true, zN_eq, zN_lt, zN_le,  fX1_pledged, h.g0, h.g1, h.xI, h.1.FI, c_snet h.1.2.1, c_sI h.1.2.1, c_nal h.1.2.2.1, c_ntl h.1.2.2.1, c_nn h.1.2.2.1, c_alI h.1.2.2.1, c_tlI h.1.2.2.1, c_size h.1.2.2.1, c_size2 h.1.2.2.1, c_gett h.1.2.2.1 hI ht, c_tI h.1.2.2.1 ht, e1, eF, c1]
    rfl
  | some y =>
    obtain ⟨z, hz⟩ := lT_sup hI ht h7
    have r1 := lT_rng hI ht h7
    rw [hz] at e2 ⊢
    rw [h7] at e1 c1
    rw [encF_some] at e1 e2 c1
    have c2 : ¬ (some y = none) := by simp
    simp only [Option.getD_some]
    rw [if_neg (by omega)]
    refine ⟨_, ?_, k2⟩
    rw [show wK (wF w F f1) 8 = wK w 8 from rfl] at e2
    simp (disch := omega) only [b2_some, bd_some, nm_eq, Option.map_some, zN_lit, zN_add, zN_mul, zN_neg1, if_true, if_false, reduceIte, eq_self, Nat.reduceEqDiff, Nat.reduceAdd, Nat.reduceMul, Nat.reduceSub, Nat.reduceLeDiff, Nat.one_ne_zero, not_false_eq_true, Bool.false_eq_true, zN_eq, zN_lt, zN_le,  fX1_pledged, h.g0, h.g1, h.xI, h.1.FI, c_snet h.1.2.1, c_sI h.1.2.1, c_nal h.1.2.2.1, c_ntl h.1.2.2.1, c_nn h.1.2.2.1, c_alI h.1.2.2.1, c_tlI h.1.2.2.1, c_size h.1.2.2.1, c_size2 h.1.2.2.1, c_gett h.1.2.2.1 hI ht, c_tI h.1.2.2.1 ht, e1, eF, c1, c2, h1.g0, d1, d2, h1.g1, h1.1.FI, show wK (wF w F f1) 8 = wK w 8 from rfl, e2, fX1_pledged_b75, zN_J, zJ_sub, zJ_mul]
theorem c_bnd (h : MR w x F s q ν ρ) : ∃ w', fX1_bound x w = some (zJ (bndI ρ 0 (-1)), w') ∧ Kf w w' F := by
  have hI := h.inv
  have h2 := hI.h2
  have eF : (2305843009213693951 : Int64) = zJ FAR := rfl
  have H : ∃ r, fX1_bound_l4 x 0 0 w = some r ∧ ∃ w', r = (zJ (bndI ρ 0 (-1)), w') ∧ Kf w w' F := by
    refine wh_up (P := fun i y => i ≤ ρ 2 ∧ ∃ w' z, bndO ρ 0 (-1) i = some z ∧ y = (zJ z, zN i, w') ∧ Kf w w' F) (ρ 2) ?_ ?_ (ρ 2) 0 _ (by omega) ⟨by omega, w, 0, rfl, rfl, Kf.refl h.1.1⟩
    · rintro i y hi ⟨-, w', z, hz, rfl, hK⟩
      have h' := h.kf hK
      obtain ⟨w2, e2, hK2⟩ := c_fltBy h' hi
      have n1 : ¬ (ρ 2 ≤ i) := by omega
      have hin : inF (lT ρ 0 (-1) 0 i (pFr ρ i)) := dW_in (k := 6) hI hi _
      have c1 := encF_eq hin
      have hh := h'.kf hK2
      rw [lT_none hI hi] at e2 c1
      cases hp : PT ρ 0 (-1) 0 i with
      | none =>
        rw [hp] at e2 c1
        simp only [Option.map_none] at e2 c1
        generalize encF none = v at e2 c1
        left
        refine ⟨(zJ z, zN (i + 1), w2), ?_, by omega, w2, z, ?_, rfl, hK.trans hK2⟩
        · simp (disch := omega) only [b2_some, bd_some, nm_eq, Option.map_some, zN_lit, zN_add, zN_mul, zN_neg1, if_true, if_false, reduceIte, eq_self, Nat.reduceEqDiff, Nat.reduceAdd, Nat.reduceMul, Nat.reduceSub, Nat.reduceLeDiff, Nat.one_ne_zero, not_false_eq_true, Bool.false_eq_true, zN_eq, zN_lt, zN_le,  fX1_bound_b4, h'.g0, h'.g1, h'.xI, h'.1.FI, c_snet h'.1.2.1, c_sI h'.1.2.1, c_nal h'.1.2.2.1, c_ntl h'.1.2.2.1, c_nn h'.1.2.2.1, c_alI h'.1.2.2.1, c_tlI h'.1.2.2.1, c_size h'.1.2.2.1, c_size2 h'.1.2.2.1, n1, c_gett h'.1.2.2.1 hI hi, c_tI h'.1.2.2.1 hi, e2, eF, c1, fX1_bound_b81]
        · rw [bndO, hz]
          dsimp only
          rw [hp]
          rfl
      | some p =>
        rw [hp] at e2 c1
        simp only [Option.map_some] at e2 c1
        have c2 : ∀ v : Int, (some v = (none : Option Int)) = False := fun v => eq_false (by simp)
        rw [c2] at c1
        generalize encF _ = v at e2 c1
        obtain ⟨w3, e3, hK3⟩ := c_plg hh hi
        have hr := plgI_rng (m := 0) (aw := -1) hI hi
        have hc := lgc_eq' (a := plgI ρ 0 (-1) i) (b := -1) ⟨by omega, by omega⟩ ⟨by omega, by omega⟩
        by_cases h1 : plgI ρ 0 (-1) i = -1
        · right
          rw [eq_true h1] at hc
          have hn : bndO ρ 0 (-1) (i + 1) = none := by
            rw [bndO, hz]
            dsimp only
            rw [hp, if_pos (show (some p).isSome = true from rfl), if_pos h1]
          refine ⟨_, ?_, w3, rfl, (hK.trans hK2).trans hK3⟩
          unfold bndI
          rw [bndO_none (show i + 1 ≤ ρ 2 by omega) hn, Option.getD_none]
          simp (disch := omega) only [b2_some, bd_some, nm_eq, Option.map_some, zN_lit, zN_add, zN_mul, zN_neg1, if_true, if_false, reduceIte, eq_self, Nat.reduceEqDiff, Nat.reduceAdd, Nat.reduceMul, Nat.reduceSub, Nat.reduceLeDiff, Nat.one_ne_zero, not_false_eq_true, Bool.false_eq_true, zN_eq, zN_lt, zN_le,  fX1_bound_b4, h'.g0, h'.g1, h'.xI, h'.1.FI, c_snet h'.1.2.1, c_sI h'.1.2.1, c_nal h'.1.2.2.1, c_ntl h'.1.2.2.1, c_nn h'.1.2.2.1, c_alI h'.1.2.2.1, c_tlI h'.1.2.2.1, c_size h'.1.2.2.1, c_size2 h'.1.2.2.1, n1, c_gett h'.1.2.2.1 hI hi, c_tI h'.1.2.2.1 hi, e2, eF, c1, hh.xI, e3, fX1_bound_b63, show (-1 : Int64) = zJ (-1) from rfl, hc, fX1_bound_b72]
        · left
          rw [eq_false h1] at hc
          refine ⟨(zJ (z + plgI ρ 0 (-1) i), zN (i + 1), w3), ?_, by omega, w3, z + plgI ρ 0 (-1) i, ?_, rfl, (hK.trans hK2).trans hK3⟩
          · simp (disch := omega) only [b2_some, bd_some, nm_eq, Option.map_some, zN_lit, zN_add, zN_mul, zN_neg1, if_true, if_false, reduceIte, eq_self, Nat.reduceEqDiff, Nat.reduceAdd, Nat.reduceMul, Nat.reduceSub, Nat.reduceLeDiff, Nat.one_ne_zero, not_false_eq_true, Bool.false_eq_true, zN_eq, zN_lt, zN_le,  fX1_bound_b4, h'.g0, h'.g1, h'.xI, h'.1.FI, c_snet h'.1.2.1, c_sI h'.1.2.1, c_nal h'.1.2.2.1, c_ntl h'.1.2.2.1, c_nn h'.1.2.2.1, c_alI h'.1.2.2.1, c_tlI h'.1.2.2.1, c_size h'.1.2.2.1, c_size2 h'.1.2.2.1, n1, c_gett h'.1.2.2.1 hI hi, c_tI h'.1.2.2.1 hi, e2, eF, c1, hh.xI, e3, fX1_bound_b63, show (-1 : Int64) = zJ (-1) from rfl, hc, fX1_bound_b81, zJ_add]
          · rw [bndO, hz]
            dsimp only
            rw [hp, if_pos (show (some p).isSome = true from rfl), if_neg h1]
    · rintro y ⟨-, w', z, hz, rfl, hK⟩
      have h' := h.kf hK
      refine ⟨_, ?_, w', rfl, hK⟩
      have e : bndI ρ 0 (-1) = z := by unfold bndI; rw [hz]; rfl
      rw [e]
      simp (disch := omega) only [b2_some, bd_some, nm_eq, Option.map_some, zN_lit, zN_add, zN_mul, zN_neg1, if_true, if_false, reduceIte, eq_self, Nat.reduceEqDiff, Nat.reduceAdd, Nat.reduceMul, Nat.reduceSub, Nat.reduceLeDiff, Nat.one_ne_zero, not_false_eq_true, Bool.false_eq_true, zN_eq, zN_lt, zN_le,  fX1_bound_b4, h'.g0, h'.g1, h'.xI, h'.1.FI, c_snet h'.1.2.1, c_sI h'.1.2.1, c_nal h'.1.2.2.1, c_ntl h'.1.2.2.1, c_nn h'.1.2.2.1, c_alI h'.1.2.2.1, c_tlI h'.1.2.2.1, c_size h'.1.2.2.1, c_size2 h'.1.2.2.1, Nat.le_refl]
  obtain ⟨r, e, w', rfl, hK⟩ := H
  exact ⟨w', e, hK⟩
theorem c_bur (h : MR w x F s q ν ρ) : ∃ w', fX1_burden x w = some (zJ (sgI (burI ρ 0 (-1) 0) (ρ 2)), w') ∧ Kf w w' F := by
  have hI := h.inv
  have h2 := hI.h2
  have eF : (2305843009213693951 : Int64) = zJ FAR := rfl
  have H : ∃ r, fX1_burden_l4 x 0 0 w = some r ∧ ∃ w', r = (zJ (sgI (burI ρ 0 (-1) 0) (ρ 2)), w') ∧ Kf w w' F := by
    refine wh_up (P := fun i y => i ≤ ρ 2 ∧ ∃ w', y = (zJ (sgI (burI ρ 0 (-1) 0) i), zN i, w') ∧ Kf w w' F) (ρ 2) ?_ ?_ (ρ 2) 0 _ (by omega) ⟨by omega, w, rfl, Kf.refl h.1.1⟩
    · rintro i y hi ⟨-, w', rfl, hK⟩
      have h' := h.kf hK
      have c := hI.ht hi
      obtain ⟨w2, e2, hK2⟩ := c_fltBy h' hi
      have n1 : ¬ (ρ 2 ≤ i) := by omega
      have hin : inF (lT ρ 0 (-1) 0 i (pFr ρ i)) := dW_in (k := 6) hI hi _
      have c1 := encF_eq hin
      have hh := h'.kf hK2
      obtain ⟨d1, d2⟩ := c_dem hh hi
      rw [lT_none hI hi] at e2 c1
      left
      refine ⟨_, ?_, by omega, w2, rfl, hK.trans hK2⟩
      rw [sgI, burI]
      cases hp : PT ρ 0 (-1) 0 i with
      | none =>
        rw [hp] at e2 c1
        simp only [Option.map_none] at e2 c1
        generalize encF none = v at e2 c1
        simp (disch := omega) only [b2_some, bd_some, nm_eq, Option.map_some, zN_lit, zN_add, zN_mul, zN_neg1, if_true, if_false, reduceIte, eq_self, Nat.reduceEqDiff, Nat.reduceAdd, Nat.reduceMul, Nat.reduceSub, Nat.reduceLeDiff, Nat.one_ne_zero, not_false_eq_true, Bool.false_eq_true, zN_eq, zN_lt, zN_le,  fX1_burden_b4, h'.g0, h'.g1, h'.xI, h'.1.FI, c_snet h'.1.2.1, c_sI h'.1.2.1, c_nal h'.1.2.2.1, c_ntl h'.1.2.2.1, c_nn h'.1.2.2.1, c_alI h'.1.2.2.1, c_tlI h'.1.2.2.1, c_size h'.1.2.2.1, c_size2 h'.1.2.2.1, n1, c_gett h'.1.2.2.1 hI hi, c_tI h'.1.2.2.1 hi, e2, eF, c1, fX1_burden_b75, show (0 : Int64) = zJ 0 from rfl, zJ_add]
      | some p =>
        rw [hp] at e2 c1
        simp only [Option.map_some] at e2 c1
        rw [encF_some] at e2 c1
        have c2 : ∀ v : Int, (some v = (none : Option Int)) = False := fun v => eq_false (by simp)
        rw [c2] at c1
        simp (disch := omega) only [b2_some, bd_some, nm_eq, Option.map_some, zN_lit, zN_add, zN_mul, zN_neg1, if_true, if_false, reduceIte, eq_self, Nat.reduceEqDiff, Nat.reduceAdd, Nat.reduceMul, Nat.reduceSub, Nat.reduceLeDiff, Nat.one_ne_zero, not_false_eq_true, Bool.false_eq_true, zN_eq, zN_lt, zN_le,  fX1_burden_b4, h'.g0, h'.g1, h'.xI, h'.1.FI, c_snet h'.1.2.1, c_sI h'.1.2.1, c_nal h'.1.2.2.1, c_ntl h'.1.2.2.1, c_nn h'.1.2.2.1, c_alI h'.1.2.2.1, c_tlI h'.1.2.2.1, c_size h'.1.2.2.1, c_size2 h'.1.2.2.1, n1, c_gett h'.1.2.2.1 hI hi, c_tI h'.1.2.2.1 hi, e2, eF, c1, hh.g0, d1, d2, fX1_burden_b75, zN_J, zJ_mul, zJ_add]
    · rintro y ⟨-, w', rfl, hK⟩
      have h' := h.kf hK
      refine ⟨_, ?_, w', rfl, hK⟩
      simp (disch := omega) only [b2_some, bd_some, nm_eq, Option.map_some, zN_lit, zN_add, zN_mul, zN_neg1, if_true, if_false, reduceIte, eq_self, Nat.reduceEqDiff, Nat.reduceAdd, Nat.reduceMul, Nat.reduceSub, Nat.reduceLeDiff, Nat.one_ne_zero, not_false_eq_true, Bool.false_eq_true, zN_eq, zN_lt, zN_le,  fX1_burden_b4, h'.g0, h'.g1, h'.xI, h'.1.FI, c_snet h'.1.2.1, c_sI h'.1.2.1, c_nal h'.1.2.2.1, c_ntl h'.1.2.2.1, c_nn h'.1.2.2.1, c_alI h'.1.2.2.1, c_tlI h'.1.2.2.1, c_size h'.1.2.2.1, c_size2 h'.1.2.2.1, Nat.le_refl]
  obtain ⟨r, e, w', rfl, hK⟩ := H
  exact ⟨w', e, hK⟩
theorem c_dea (h : MR w x F s q ν ρ) : ∃ w', fX1_dearest x w = some (zI (dea ρ 0 (-1) 0 (ρ 2)).1, w') ∧ Kf w w' F := by
  have hI := h.inv
  have h2 := hI.h2
  have H : ∃ r, fX1_dearest_l10 x (-1) 0 1 0 w = some r ∧ ∃ w', r = (zI (dea ρ 0 (-1) 0 (ρ 2)).1, w') ∧ Kf w w' F := by
    refine wh_up (P := fun i y => i ≤ ρ 2 ∧ ∃ w', y = (zI (dea ρ 0 (-1) 0 i).1, zJ (dea ρ 0 (-1) 0 i).2.1, zJ (dea ρ 0 (-1) 0 i).2.2, zN i, w') ∧ Kf w w' F) (ρ 2) ?_ ?_ (ρ 2) 0 _ (by omega) ⟨by omega, w, rfl, Kf.refl h.1.1⟩
    · rintro i y hi ⟨-, w', rfl, hK⟩
      have h' := h.kf hK
      obtain ⟨w2, e2, hK2, hP⟩ := c_walk h'.1 hi
      have hh := h'.kf hK2
      have hr := dea_rng (m := 0) (aw := -1) (fz := 0) hI i (by omega)
      have n1 : ¬ (ρ 2 ≤ i) := by omega
      left
      rw [dea]
      cases hp : PT ρ 0 (-1) 0 i with
      | none =>
        rw [hp] at e2
        refine ⟨_, ?_, by omega, w2, rfl, hK.trans hK2⟩
        simp (disch := omega) only [b2_some, bd_some, nm_eq, Option.map_some, zN_lit, zN_add, zN_mul, zN_neg1, if_true, if_false, reduceIte, eq_self, Nat.reduceEqDiff, Nat.reduceAdd, Nat.reduceMul, Nat.reduceSub, Nat.reduceLeDiff, Nat.one_ne_zero, not_false_eq_true, Bool.false_eq_true, zN_eq, zN_lt, zN_le,  fX1_dearest_b10, h'.g0, h'.g1, h'.xI, h'.1.FI, c_snet h'.1.2.1, c_sI h'.1.2.1, c_nal h'.1.2.2.1, c_ntl h'.1.2.2.1, c_nn h'.1.2.2.1, c_alI h'.1.2.2.1, c_tlI h'.1.2.2.1, c_size h'.1.2.2.1, c_size2 h'.1.2.2.1, n1, c_gett h'.1.2.2.1 hI hi, c_tI h'.1.2.2.1 hi, e2, Option.isSome_none, fX1_dearest_b138]
      | some p =>
        rw [hp] at e2
        obtain ⟨g1, g2, g3⟩ := PT_24 hI hi hp
        have e3 := c_tolls hh.1 g2 g1 (hP p hp)
        obtain ⟨w4, e4, hK4⟩ := c_fltBy hh hi
        rw [lT_none hI hi, hp, Option.map_some, encF_some] at e4
        have h7 := ptl_le hI hi hp
        have n2 : (zI (dea ρ 0 (-1) 0 i).1 = zI (-1)) = ((dea ρ 0 (-1) 0 i).1 = -1) := zI_eq (by omega) (by omega)
        refine ⟨_, ?_, by omega, w4, rfl, (hK.trans hK2).trans hK4⟩
        dsimp only
        by_cases hb : (dea ρ 0 (-1) 0 i).1 = -1
        · rw [eq_true hb] at n2
          rw [if_pos (.inl hb)]
          simp (disch := omega) only [b2_some, bd_some, nm_eq, Option.map_some, zN_lit, zN_add, zN_mul, zN_neg1, if_true, if_false, reduceIte, eq_self, Nat.reduceEqDiff, Nat.reduceAdd, Nat.reduceMul, Nat.reduceSub, Nat.reduceLeDiff, Nat.one_ne_zero, not_false_eq_true, Bool.false_eq_true, zN_eq, zN_lt, zN_le,  fX1_dearest_b10, h'.g0, h'.g1, h'.xI, h'.1.FI, c_snet h'.1.2.1, c_sI h'.1.2.1, c_nal h'.1.2.2.1, c_ntl h'.1.2.2.1, c_nn h'.1.2.2.1, c_alI h'.1.2.2.1, c_tlI h'.1.2.2.1, c_size h'.1.2.2.1, c_size2 h'.1.2.2.1, n1, c_gett h'.1.2.2.1 hI hi, c_tI h'.1.2.2.1 hi, e2, Option.isSome_some, fX1_dearest_b67, hh.g0, hh.g1, hh.xI, hh.1.FI, c_snet hh.1.2.1, c_sI hh.1.2.1, c_nal hh.1.2.2.1, c_ntl hh.1.2.2.1, c_nn hh.1.2.2.1, c_alI hh.1.2.2.1, c_tlI hh.1.2.2.1, c_size hh.1.2.2.1, c_size2 hh.1.2.2.1, c_gett hh.1.2.2.1 hI hi, c_tI hh.1.2.2.1 hi, e3, e4, zN_J, n2, fX1_dearest_b128, fX1_dearest_b138]
          rfl
        · rw [eq_false hb] at n2
          have m1 : 0 ≤ (ptl ρ p : Int) * (dea ρ 0 (-1) 0 i).2.2 := Int.mul_nonneg (by omega) (by omega)
          have m2 : (ptl ρ p : Int) * (dea ρ 0 (-1) 0 i).2.2 ≤ 89991 * 269811 := Int.mul_le_mul (by omega) (by omega) (by omega) (by omega)
          have m3 : 0 ≤ (dea ρ 0 (-1) 0 i).2.1 * ((pVa ρ i * pco ρ p + ptl ρ p : Nat) : Int) := Int.mul_nonneg (by omega) (by omega)
          have m4 : (dea ρ 0 (-1) 0 i).2.1 * ((pVa ρ i * pco ρ p + ptl ρ p : Nat) : Int) ≤ 89991 * 269811 := Int.mul_le_mul (by omega) (by omega) (by omega) (by omega)
          have n3 := lgc_gt (a := (ptl ρ p : Int) * (dea ρ 0 (-1) 0 i).2.2) (b := (dea ρ 0 (-1) 0 i).2.1 * ((pVa ρ i * pco ρ p + ptl ρ p : Nat) : Int)) ⟨by omega, by omega⟩ ⟨by omega, by omega⟩
          by_cases hc : (ptl ρ p : Int) * (dea ρ 0 (-1) 0 i).2.2 ≤ (dea ρ 0 (-1) 0 i).2.1 * ((pVa ρ i * pco ρ p + ptl ρ p : Nat) : Int)
          · rw [eq_false (show ¬ ((dea ρ 0 (-1) 0 i).2.1 * ((pVa ρ i * pco ρ p + ptl ρ p : Nat) : Int) < (ptl ρ p : Int) * (dea ρ 0 (-1) 0 i).2.2) by omega)] at n3
            rw [if_neg (by rintro (h | h); exact hb h; exact h hc)]
            simp (disch := omega) only [b2_some, bd_some, nm_eq, Option.map_some, zN_lit, zN_add, zN_mul, zN_neg1, if_true, if_false, reduceIte, eq_self, Nat.reduceEqDiff, Nat.reduceAdd, Nat.reduceMul, Nat.reduceSub, Nat.reduceLeDiff, Nat.one_ne_zero, not_false_eq_true, Bool.false_eq_true, zN_eq, zN_lt, zN_le,  fX1_dearest_b10, h'.g0, h'.g1, h'.xI, h'.1.FI, c_snet h'.1.2.1, c_sI h'.1.2.1, c_nal h'.1.2.2.1, c_ntl h'.1.2.2.1, c_nn h'.1.2.2.1, c_alI h'.1.2.2.1, c_tlI h'.1.2.2.1, c_size h'.1.2.2.1, c_size2 h'.1.2.2.1, n1, c_gett h'.1.2.2.1 hI hi, c_tI h'.1.2.2.1 hi, e2, Option.isSome_some, fX1_dearest_b67, hh.g0, hh.g1, hh.xI, hh.1.FI, c_snet hh.1.2.1, c_sI hh.1.2.1, c_nal hh.1.2.2.1, c_ntl hh.1.2.2.1, c_nn hh.1.2.2.1, c_alI hh.1.2.2.1, c_tlI hh.1.2.2.1, c_size hh.1.2.2.1, c_size2 hh.1.2.2.1, c_gett hh.1.2.2.1 hI hi, c_tI hh.1.2.2.1 hi, e3, e4, zN_J, n2, zJ_mul, n3, fX1_dearest_b125, fX1_dearest_b138]
          · rw [eq_true (show (dea ρ 0 (-1) 0 i).2.1 * ((pVa ρ i * pco ρ p + ptl ρ p : Nat) : Int) < (ptl ρ p : Int) * (dea ρ 0 (-1) 0 i).2.2 by omega)] at n3
            rw [if_pos (.inr hc)]
            simp (disch := omega) only [b2_some, bd_some, nm_eq, Option.map_some, zN_lit, zN_add, zN_mul, zN_neg1, if_true, if_false, reduceIte, eq_self, Nat.reduceEqDiff, Nat.reduceAdd, Nat.reduceMul, Nat.reduceSub, Nat.reduceLeDiff, Nat.one_ne_zero, not_false_eq_true, Bool.false_eq_true, zN_eq, zN_lt, zN_le,  fX1_dearest_b10, h'.g0, h'.g1, h'.xI, h'.1.FI, c_snet h'.1.2.1, c_sI h'.1.2.1, c_nal h'.1.2.2.1, c_ntl h'.1.2.2.1, c_nn h'.1.2.2.1, c_alI h'.1.2.2.1, c_tlI h'.1.2.2.1, c_size h'.1.2.2.1, c_size2 h'.1.2.2.1, n1, c_gett h'.1.2.2.1 hI hi, c_tI h'.1.2.2.1 hi, e2, Option.isSome_some, fX1_dearest_b67, hh.g0, hh.g1, hh.xI, hh.1.FI, c_snet hh.1.2.1, c_sI hh.1.2.1, c_nal hh.1.2.2.1, c_ntl hh.1.2.2.1, c_nn hh.1.2.2.1, c_alI hh.1.2.2.1, c_tlI hh.1.2.2.1, c_size hh.1.2.2.1, c_size2 hh.1.2.2.1, c_gett hh.1.2.2.1 hI hi, c_tI hh.1.2.2.1 hi, e3, e4, zN_J, n2, zJ_mul, n3, fX1_dearest_b128, fX1_dearest_b138]
            rfl
    · rintro y ⟨-, w', rfl, hK⟩
      have h' := h.kf hK
      refine ⟨_, ?_, w', rfl, hK⟩
      simp (disch := omega) only [b2_some, bd_some, nm_eq, Option.map_some, zN_lit, zN_add, zN_mul, zN_neg1, if_true, if_false, reduceIte, eq_self, Nat.reduceEqDiff, Nat.reduceAdd, Nat.reduceMul, Nat.reduceSub, Nat.reduceLeDiff, Nat.one_ne_zero, not_false_eq_true, Bool.false_eq_true, zN_eq, zN_lt, zN_le,  fX1_dearest_b10, h'.g0, h'.g1, h'.xI, h'.1.FI, c_snet h'.1.2.1, c_sI h'.1.2.1, c_nal h'.1.2.2.1, c_ntl h'.1.2.2.1, c_nn h'.1.2.2.1, c_alI h'.1.2.2.1, c_tlI h'.1.2.2.1, c_size h'.1.2.2.1, c_size2 h'.1.2.2.1, Nat.le_refl]
  obtain ⟨r, e, w', rfl, hK⟩ := H
  exact ⟨w', e, hK⟩
end
