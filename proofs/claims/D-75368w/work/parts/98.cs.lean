/-! Plain law: an arc closed for a while -/
theorem uT_scl (ρ : Nat → Nat) (a fz : Nat) (m : Nat) : uT (scl ρ a 1) m (-1) fz = uT ρ m a fz := by
  funext b
  apply propext
  unfold uT scl aFr aTo aCl aMx
  rw [upN_ne ρ 1 (show 1 ≠ 4 + 6 * a + 5 by omega), upN_ne ρ 1 (show 4 + 6 * b ≠ 4 + 6 * a + 5 by omega), upN_ne ρ 1 (show 4 + 6 * b + 1 ≠ 4 + 6 * a + 5 by omega), upN_ne ρ 1 (show 4 + 6 * b + 3 ≠ 4 + 6 * a + 5 by omega)]
  by_cases e : b = a
  · subst e
    rw [upN_eq]
    constructor
    · rintro ⟨-, -, -, -, h, -⟩; omega
    · rintro ⟨-, h, -⟩; omega
  · rw [upN_ne ρ 1 (show 4 + 6 * b + 5 ≠ 4 + 6 * a + 5 by omega)]
    constructor
    · rintro ⟨h1, -, h3⟩; exact ⟨h1, by omega, h3⟩
    · rintro ⟨h1, -, h3⟩; exact ⟨h1, by omega, h3⟩
section
variable (ρ : Nat → Nat) (a y : Nat)
theorem scl_low {k : Nat} (h : k < 4) : scl ρ a y k = ρ k := upN_ne ρ y (by omega)
theorem scl_F (b : Nat) : aFr (scl ρ a y) b = aFr ρ b := upN_ne ρ y (by omega)
theorem scl_T (b : Nat) : aTo (scl ρ a y) b = aTo ρ b := upN_ne ρ y (by omega)
theorem scl_C (b : Nat) : aCo (scl ρ a y) b = aCo ρ b := upN_ne ρ y (by omega)
theorem scl_M (b : Nat) : aMx (scl ρ a y) b = aMx ρ b := upN_ne ρ y (by omega)
theorem scl_L (b : Nat) : aTl (scl ρ a y) b = aTl ρ b := upN_ne ρ y (by omega)
theorem scl_X (b : Nat) : aCl (scl ρ a y) b = if b = a then y else aCl ρ b := by
  by_cases e : b = a
  · subst e; rw [if_pos rfl]; exact upN_eq _ _ _
  · rw [if_neg e]; exact upN_ne ρ y (by omega)
variable {a}
theorem scl_pF (ha : a < 24) (b : Nat) : pFr (scl ρ a y) b = pFr ρ b := upN_ne ρ y (by omega)
theorem scl_pT (ha : a < 24) (b : Nat) : pTo (scl ρ a y) b = pTo ρ b := upN_ne ρ y (by omega)
theorem scl_pD (ha : a < 24) (b : Nat) : pDe (scl ρ a y) b = pDe ρ b := upN_ne ρ y (by omega)
theorem scl_pV (ha : a < 24) (b : Nat) : pVa (scl ρ a y) b = pVa ρ b := upN_ne ρ y (by omega)
theorem arcC_scl (a k : Nat) : arcC (scl ρ a y) k = arcC ρ k := by unfold arcC; rw [scl_F, scl_T, scl_C, scl_M]
theorem trpC_scl (ha : a < 24) (k : Nat) : trpC (scl ρ a y) k = trpC ρ k := by unfold trpC; rw [scl_pF ρ y ha, scl_pT ρ y ha, scl_pV ρ y ha]
theorem fe_scl (a v : Nat) : feI (scl ρ a y) v = feI ρ v := funext fun b => by unfold feI feN; rw [scl_C, scl_L]
theorem tl_scl (a : Nat) : tlI (scl ρ a y) = tlI ρ := funext fun b => by unfold tlI; rw [scl_L]
theorem sgn_scl (a : Nat) : sgn (scl ρ a y) = sgn ρ := by unfold sgn; rw [scl_low ρ a y (by omega)]
theorem lT_scl (ha : a < 24) (m fz t : Nat) : lT (scl ρ a 1) m (-1) fz t = lT ρ m a fz t := by
  funext n
  unfold lT
  rw [scl_low ρ a 1 (by omega), show aFr (scl ρ a 1) = aFr ρ from funext (scl_F ρ a 1), show aTo (scl ρ a 1) = aTo ρ from funext (scl_T ρ a 1), uT_scl, fe_scl, tl_scl, scl_pT ρ 1 ha, scl_pV ρ 1 ha]
theorem PT_scl (ha : a < 24) (m fz t : Nat) : PT (scl ρ a 1) m (-1) fz t = PT ρ m a fz t := by
  unfold PT dT pT
  rw [scl_low ρ a 1 (by omega), show aFr (scl ρ a 1) = aFr ρ from funext (scl_F ρ a 1), show aTo (scl ρ a 1) = aTo ρ from funext (scl_T ρ a 1), uT_scl, fe_scl, tl_scl, sgn_scl, scl_pT ρ 1 ha, scl_pV ρ 1 ha, scl_pF ρ 1 ha]
theorem allI_scl (ha : a < 24) (m fz : Nat) : allI (scl ρ a 1) m (-1) fz = allI ρ m a fz := by
  unfold allI
  rw [scl_low ρ a 1 (by omega)]
  congr 1
  funext t
  unfold brI
  rw [PT_scl ρ ha, scl_pD ρ 1 ha]
  cases PT ρ m a fz t with
  | none => rfl
  | some p =>
    dsimp only
    congr 2
    unfold ptl
    congr 1
    funext k
    rw [scl_L]
theorem clm_tb (k : Nat) : (clm ρ).testBit k = (decide (k < 24) && (aCl ρ k == 1)) := msk_bit _ _ _
theorem clm_scl (ha : a < 24) {y : Nat} (hy : y ≤ 1) : clm (scl ρ a y) = if y = 0 then clr (clm ρ) a else clm ρ ||| 2 ^ a := by
  apply Nat.eq_of_testBit_eq
  intro i
  rw [clm_tb, scl_X]
  have hyy : y = 0 ∨ y = 1 := by omega
  rcases hyy with rfl | rfl
  · rw [if_pos rfl, clr_bit, clm_tb]
    by_cases e : i = a
    · subst e; simp
    · rw [if_neg e, beq_false_of_ne e]; simp
  · rw [if_neg (show ¬ (1 = 0) by omega), Nat.testBit_or, clm_tb, Nat.testBit_two_pow]
    by_cases e : i = a
    · subst e; simp [ha]
    · rw [if_neg e, decide_eq_false (show ¬ a = i from fun h => e h.symm)]; simp
theorem clm_scl2 (ha : a < 24) : (if (if (clm ρ).testBit a then 1 else 0) = 0 then clr (clm (scl ρ a 1)) a else clm (scl ρ a 1) ||| 2 ^ a) = clm ρ := by
  rw [clm_scl ρ ha (Nat.le_refl _), if_neg (show ¬ (1 = 0) by omega)]
  apply Nat.eq_of_testBit_eq
  intro i
  cases h : (clm ρ).testBit a with
  | true =>
    rw [if_neg (by simp), Nat.testBit_or, Nat.testBit_or, Nat.testBit_two_pow]
    by_cases e : a = i
    · subst e; simp [h]
    · rw [decide_eq_false e]; simp
  | false =>
    rw [if_pos (by simp), clr_bit, Nat.testBit_or, Nat.testBit_two_pow]
    by_cases e : a = i
    · subst e; simp [h]
    · rw [decide_eq_false e, beq_false_of_ne (fun h => e h.symm)]; simp
end
section
variable {w : WH} {x s q F : Nat} {ρ : Nat → Nat} {ν : NH} {t a : Nat}
theorem StC.Bs {n : Nat} (h : StC w s q n ρ) : ∃ g, Bs w (q + 2) (q + 3) g (clm ρ) (zN 1) := by
  obtain ⟨-, -, -, h1, g, h2, h3⟩ := h
  exact ⟨g, h1, h2, h3, clm_lt ρ⟩
theorem FiC.qF {b : Nat} {c : hE} (hF : FiC w F) (hc : w.1 b = some c) (ht : finT c = false) : ¬ (F ≤ b ∧ b < F + 6) := hF.out hc ht
theorem bU_ne {b ws c m : Nat} {g : Nat → Int64} {st : Int32} (h1 : c ≠ b) (h2 : c ≠ ws) : (bU w b ws g m st).1 c = w.1 c := by
  unfold bU
  rw [hUp_ne _ _ h2, hUp_ne _ _ h1]
theorem bs_keep {b ws m m' : Nat} {g : Nat → Int64} {st : Int32} (hB : Bs w b ws g m st) {c : Nat} {y : hE} (hc : w.1 c = some y) (h1 : (kd y).1 ≠ 100) (h2 : (kd y).1 ≠ 1 ∨ (kd y).2 ≠ 1) : (bU w b ws g m' st).1 c = some y := by
  rw [bU_ne (fun e => ?_) (fun e => ?_)]
  · exact hc
  · subst e
    rw [hB.1] at hc
    cases hc
    exact h1 rfl
  · subst e
    rw [hB.2.1] at hc
    cases hc
    rcases h2 with h2 | h2
    · exact h2 rfl
    · exact h2 rfl
theorem mr_scl (h : MR w x F s q ν ρ) {g : Nat → Int64} (hB : Bs w (q + 2) (q + 3) g (clm ρ) (zN 1)) {y : Nat} (ha : a < ρ 1) (hy : y ≤ 1) : MR (bU w (q + 2) (q + 3) g (clm (scl ρ a y)) (zN 1)) x F s q ν (scl ρ a y) := by
  obtain ⟨⟨h1, h2, ⟨n1, n2, ⟨g0, n3, n4⟩, n5, n6, ⟨g', n7, n8⟩, n9⟩, h4, h5⟩, P, Sn, Tx, Ou, len, err, es, h6⟩ := h
  have b24 : a < 24 := by have := h4.h1; omega
  obtain ⟨s1, ⟨f, s2, s3⟩, ⟨f', s4, s5⟩, s6, -⟩ := h2
  have hB2 := hB.bU (m' := clm (scl ρ a y)) (clm_lt _)
  have k : ∀ {c : Nat} {y' : hE}, w.1 c = some y' → (kd y').1 ≠ 100 → ((kd y').1 ≠ 1 ∨ (kd y').2 ≠ 1) → (bU w (q + 2) (q + 3) g (clm (scl ρ a y)) (zN 1)).1 c = some y' := fun hc e1 e2 => bs_keep hB hc e1 e2
  refine ⟨⟨?_, ⟨?_, ⟨f, k s2 (show (0 : Nat) ≠ 100 by omega) (.inl (show (0 : Nat) ≠ 1 by omega)), fun j hj => ?_⟩, ⟨f', k s4 (show (0 : Nat) ≠ 100 by omega) (.inl (show (0 : Nat) ≠ 1 by omega)), fun j hj => ?_⟩, hB2.1, ⟨_, hB2.2.1, hB2.2.2.1⟩⟩, ?_, h4.scl ha hy, h5⟩, P, Sn, Tx, Ou, len, err, es, k h6 (show 117 ≠ 100 by omega) (.inl (show 117 ≠ 1 by omega))⟩
  · have o2 := h1.out hB.1 rfl
    have o3 := h1.out hB.2.1 rfl
    exact (h1.upo o2 _).upo o3 _
  · rw [scl_low ρ a y (by omega)]
    exact k s1 (show 121 ≠ 100 by omega) (.inl (show 121 ≠ 1 by omega))
  · rw [scl_L]; exact s3 j hj
  · rw [scl_low ρ a y (by omega)] at hj
    rw [scl_pD ρ y b24]; exact s5 j hj
  · unfold NtC
    simp only [arcC_scl, trpC_scl ρ y b24]
    rw [scl_low ρ a y (by omega), scl_low ρ a y (by omega), scl_low ρ a y (by omega)]
    exact ⟨k n1 (show 122 ≠ 100 by omega) (.inl (show 122 ≠ 1 by omega)), k n2 (show 102 ≠ 100 by omega) (.inl (show 102 ≠ 1 by omega)), ⟨g0, k n3 (show 4 ≠ 100 by omega) (.inl (show 4 ≠ 1 by omega)), n4⟩, fun j hj => k (n5 j hj) (show 127 ≠ 100 by omega) (.inl (show 127 ≠ 1 by omega)), k n6 (show 102 ≠ 100 by omega) (.inl (show 102 ≠ 1 by omega)), ⟨g', k n7 (show 4 ≠ 100 by omega) (.inl (show 4 ≠ 1 by omega)), n8⟩, fun j hj => k (n9 j hj) (show 128 ≠ 100 by omega) (.inl (show 128 ≠ 1 by omega))⟩
theorem MR.scl (h : MR w x F s q ν ρ) {g : Nat → Int64} (hB : Bs w (q + 2) (q + 3) g (clm ρ) (zN 1)) {y : Nat} (ha : a < ρ 1) (hy : y ≤ 1) : MR (bU w (q + 2) (q + 3) g (clm (scl ρ a y)) (zN 1)) x F s q ν (scl ρ a y) := mr_scl h hB ha hy
/-- set for a while, put back -/
theorem c_backB {b ws m m1 : Nat} {g : Nat → Int64} {st : Int32} (hF : FiC w F) (hB : Bs w b ws g m st) {w2 : WH} (hK : Kf (bU w b ws g m1 st) w2 F) : Kf w (bU w2 b ws (vp_updL g 0 (zJ m1)) m st) F := by
  have o2 := hF.out hB.1 rfl
  have o3 := hF.out hB.2.1 rfl
  refine ⟨fun c hc => ?_, hK.2.1, (hK.2.2.upo o2 _).upo o3 _⟩
  by_cases e3 : c = ws
  · subst e3
    unfold bU
    rw [hUp_eq, vpL_vpL, vpL_self hB.2.2.1, hB.2.1]
  · by_cases e2 : c = b
    · subst e2
      unfold bU
      rw [hUp_ne _ _ e3, hUp_eq, hB.1]
    · rw [bU_ne e2 e3, hK.1 c hc, bU_ne e2 e3]
theorem Bs.kf {b ws m : Nat} {g : Nat → Int64} {st : Int32} (hB : Bs w b ws g m st) (hF : FiC w F) {w2 : WH} (hK : Kf w w2 F) : Bs w2 b ws g m st := ⟨hK.keep hF hB.1 rfl, hK.keep hF hB.2.1 rfl, hB.2.2⟩
theorem c_gcl (h : MR w x F s q ν ρ) : gR w s 21 3 = some (some (q + 2)) := c_R h.1.2.1.1 3
/-- the state with an arc closed: what is done in it, the state put back -/
theorem c_fwo (h : MR w x F s q ν ρ) (ht : t < ρ 2) (ha : a < ρ 1) : ∃ w', fX1_feltWithout x (nTr ν t) (zN a) w = some (encF (lT ρ 0 a 0 t (pFr ρ t)), w') ∧ Kf w w' F := by
  have hI := h.inv
  have b24 : a < 24 := by have := hI.h1; omega
  obtain ⟨g, hB⟩ := h.1.2.1.Bs
  have M1 := h.scl hB ha (Nat.le_refl 1)
  have hB1 := hB.bU (m' := clm (scl ρ a 1)) (clm_lt _)
  obtain ⟨w2, e2, k2⟩ := c_fltBy M1 (t := t) (by rw [scl_low ρ a 1 (by omega)]; exact ht)
  rw [lT_scl ρ b24, scl_pF ρ 1 b24] at e2
  have M2 := M1.kf k2
  have hB2 := hB1.kf M1.FC k2
  have kb := c_backB h.FC hB k2
  have r0 : hIs w (q + 2) 0 = some () := c_C hB.1
  have r2 : hIs w2 (q + 2) 0 = some () := c_C hB2.1
  have g1 := c_get1 hB (k := a) (by omega)
  have s1 := c_set1 hB (k := a) (by omega)
  have ec := clm_scl ρ b24 (Nat.le_refl 1)
  rw [if_neg (show ¬ (1 = 0) by omega)] at ec
  rw [← ec] at s1
  have s2 := c_setb hB2 (k := a) (by omega) (if (clm ρ).testBit a then 1 else 0) (by split <;> omega)
  rw [clm_scl2 ρ b24] at s2
  refine ⟨_, ?_, kb⟩
  generalize encF _ = v at e2 ⊢
  simp (disch := omega) only [b2_some, bd_some, nm_eq, Option.map_some, zN_lit, zN_add, zN_mul, zN_neg1, if_true, if_false, reduceIte, eq_self, Nat.reduceEqDiff, Nat.reduceAdd, Nat.reduceMul, Nat.reduceSub, Nat.reduceLeDiff, Nat.one_ne_zero, not_false_eq_true, Bool.false_eq_true, zN_eq, zN_lt, zN_le,  fX1_feltWithout, h.g0, h.g1, h.xI, h.1.FI, c_snet h.1.2.1, c_sI h.1.2.1, c_nal h.1.2.2.1, c_ntl h.1.2.2.1, c_nn h.1.2.2.1, c_alI h.1.2.2.1, c_tlI h.1.2.2.1, c_size h.1.2.2.1, c_size2 h.1.2.2.1, c_gcl h, r0, g1, s1, M1.xI, e2, M2.g0, c_gcl M2, r2, s2]
end
