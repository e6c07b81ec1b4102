/-! Plain law: steps on the component's side -/
theorem cnB_srt {P : Nat → Bool} {g : Nat → Nat} {n : Nat} (hg : ∀ i j, i < j → j < n → g i < g j) (hP : ∀ x, (∃ j, j < n ∧ g j = x) ↔ P x = true) : ∀ N, cnB P N ≤ n ∧ ∀ j, j < n → (g j < N ↔ j < cnB P N)
  | 0 => ⟨Nat.zero_le _, fun j hj => by constructor <;> intro h <;> exact absurd h (Nat.not_lt_zero _)⟩
  | N + 1 => by
    obtain ⟨h1, h2⟩ := cnB_srt hg hP N
    have inj : ∀ i j, i < n → j < n → g i = g j → i = j := fun i j hi hj e => by
      rcases Nat.lt_trichotomy i j with h | h | h
      · have := hg i j h hj; omega
      · exact h
      · have := hg j i h hi; omega
    unfold cnB
    cases hN : P N with
    | true =>
      rw [if_pos rfl]
      obtain ⟨j, hj, ej⟩ := (hP N).mpr hN
      have e1 : ¬ j < cnB P N := fun h => by have := (h2 j hj).mpr h; omega
      have e2 : ¬ cnB P N < j := fun h => by
        have a1 := hg _ _ h hj
        have a2 := (h2 (cnB P N) (by omega)).mp (by omega)
        omega
      refine ⟨by omega, fun i hi => ?_⟩
      constructor
      · intro h
        by_cases e : g i = N
        · have := inj i j hi hj (by omega)
          omega
        · have := (h2 i hi).mp (by omega)
          omega
      · intro h
        by_cases e : i = j
        · subst e; omega
        · have := (h2 i hi).mpr (by omega)
          omega
    | false =>
      rw [if_neg (by decide), Nat.add_zero]
      refine ⟨h1, fun i hi => ?_⟩
      rw [← h2 i hi]
      have : g i ≠ N := fun e => by
        have := (hP N).mp ⟨i, hi, e⟩
        rw [hN] at this
        cases this
      omega
theorem cnB_all {P : Nat → Bool} {g : Nat → Nat} {n N : Nat} (hg : ∀ i j, i < j → j < n → g i < g j) (hP : ∀ x, (∃ j, j < n ∧ g j = x) ↔ P x = true) (hN : ∀ j, j < n → g j < N) : cnB P N = n := by
  obtain ⟨h1, h2⟩ := cnB_srt hg hP N
  by_cases e : cnB P N < n
  · have := (h2 (cnB P N) e).mp (hN _ e)
    omega
  · omega
theorem nxb_srt {P : Nat → Bool} {g : Nat → Nat} {n : Nat} (hg : ∀ i j, i < j → j < n → g i < g j) (hP : ∀ x, (∃ j, j < n ∧ g j = x) ↔ P x = true) {f i : Nat} {r : Int} (hr : NxB P f r) (h1 : ∀ j, j < i → g j < f) (h2 : i < n → f ≤ g i) (hi : i ≤ n) : r = if i < n then (g i : Int) else -1 := by
  by_cases e : i < n
  · rw [if_pos e]
    refine hr.uniq (.inr ⟨g i, rfl, h2 e, (hP _).mp ⟨i, e, rfl⟩, fun j a1 a2 => ?_⟩)
    cases hj : P j with
    | false => rfl
    | true =>
      obtain ⟨k, hk, ek⟩ := (hP j).mpr hj
      have : ¬ k < i := fun h => by have := h1 k h; omega
      by_cases e2 : i = k
      · subst e2; omega
      · have := hg i k (by omega) hk; omega
  · rw [if_neg e]
    refine hr.uniq (.inl ⟨rfl, fun j a1 => ?_⟩)
    cases hj : P j with
    | false => rfl
    | true =>
      obtain ⟨k, hk, ek⟩ := (hP j).mpr hj
      have := h1 k (by omega)
      omega
theorem stp_succ {ρ : Nat → Nat} {a R x : Nat} : stp ρ a (R + 1) x ↔ stp ρ a R x ∨ (kpI ρ 0 0 R a = x ∧ x < aMx ρ a) := by
  unfold stp
  constructor
  · rintro ⟨t, ht, h⟩
    by_cases e : t = R
    · subst e; exact .inr h
    · exact .inl ⟨t, by omega, h⟩
  · rintro (⟨t, ht, h⟩ | h)
    · exact ⟨t, by omega, h⟩
    · exact ⟨R, by omega, h⟩
theorem BSn.at {w w' : WH} {b ws nw u : Nat} {W : Nat → Nat} {st : Int32} (h : BSn w b ws nw u W st) (h1 : w'.1 b = w.1 b) (h2 : w'.1 ws = w.1 ws) : BSn w' b ws nw u W st := by
  unfold BSn
  rw [h1, h2]
  exact h
section
variable {w : WH} {x s q F : Nat} {ρ : Nat → Nat} {ν : NH} {t a : Nat}
theorem c_steps (h : MR w x F s q ν ρ) (hW : WF w) (ha : a < ρ 1) (hC : 8 ≤ wC w) (hS : 2000 ≤ wS w) : ∃ w' ws nw u W st, fX1_steps x (nAr ν a) w = some (some (wN w), w') ∧ BSn w' (wN w) ws nw u W st ∧ (∀ i, bit W i = true ↔ stp ρ a (ρ 2) i) ∧ Kg F nQ w w' 8 2000 := by
  have hI := h.inv
  have c := hI.ha ha
  have h2 := hI.h2
  have hFl := h.FC.lt hW
  have K0 : Kg F nQ w (bsN w 0) 2 4 := bsN_Kg h.FC hW 0
  have B0 := (bsN_Bs w 0).n
  have H : ∃ r, fX1_steps_l10 x (nAr ν a) (wN w) 0 (bsN w 0) = some r ∧ ∃ w' ws nw u W st, r = (some (wN w), w') ∧ BSn w' (wN w) ws nw u W st ∧ (∀ i, bit W i = true ↔ stp ρ a (ρ 2) i) ∧ Kg F nQ w w' 8 2000 := by
    refine wh_up (P := fun i y => i ≤ ρ 2 ∧ ∃ w' ws nw u W st, y = (zN i, w') ∧ BSn w' (wN w) ws nw u W st ∧ (∀ z, bit W z = true ↔ stp ρ a i z) ∧ Kg F nQ w w' (2 + i) (4 + 314 * i) ∧ wN w ≤ ws ∧ 1 ≤ nw ∧ nw ≤ 314) (ρ 2) ?_ ?_ (ρ 2) 0 _ (by omega) ⟨by omega, _, _, _, _, _, _, rfl, B0, fun z => ?_, K0, by omega, by omega, by omega⟩
    · rintro i y hi ⟨-, w', ws, nw, u, W, st, rfl, hB, hb, hK, hws, hn1, hn2⟩
      have h' := h.kg hW hK
      obtain ⟨w1, e1, k1⟩ := c_kept h' hi ha
      have K1 : Kg F nQ w w1 (2 + i) (4 + 314 * i) := hK.tr0 (k1.kg h'.FC hK.2.2.1)
      have h1 := h'.kf k1
      have B1 := hB.at (w' := w1) (k1.1 _ (by omega)) (k1.1 _ (by omega))
      have hkr := kpI_rng (ρ := ρ) (m := 0) (fz := 0) (t := i) (a := a)
      have n1 : ¬ (ρ 2 ≤ i) := by omega
      have n2 : (zI (kpI ρ 0 0 i a) = zI (-1)) = (kpI ρ 0 0 i a = -1) := zI_eq ⟨by omega, by omega⟩ ⟨by omega, by omega⟩
      left
      by_cases hk : kpI ρ 0 0 i a = -1
      · rw [eq_true hk] at n2
        refine ⟨(zN (i + 1), w1), ?_, by omega, w1, ws, nw, u, W, st, rfl, B1, fun z => ?_, K1.mono (by omega) (by omega), hws, hn1, hn2⟩
        · simp (disch := omega) only [b2_some, bd_some, nm_eq, Option.map_some, zN_lit, zN_add, zN_mul, zN_neg1, if_true, if_false, reduceIte, eq_self, Nat.reduceEqDiff, Nat.reduceAdd, Nat.reduceMul, Nat.reduceSub, Nat.reduceLeDiff, Nat.one_ne_zero, not_false_eq_true, Bool.false_eq_true, zN_eq, zN_lt, zN_le,  fX1_steps_b10, h'.g0, h'.g1, h'.xI, h'.1.FI, c_snet h'.1.2.1, c_sI h'.1.2.1, c_nal h'.1.2.2.1, c_ntl h'.1.2.2.1, c_nn h'.1.2.2.1, c_alI h'.1.2.2.1, c_tlI h'.1.2.2.1, c_size h'.1.2.2.1, c_size2 h'.1.2.2.1, n1, e1, n2, fX1_steps_b58]
        · rw [stp_succ, hb z]
          exact ⟨.inl, fun g => g.elim id (fun ⟨e, _⟩ => by omega)⟩
      · obtain ⟨k, hk'⟩ := Int.eq_ofNat_of_zero_le (show 0 ≤ kpI ρ 0 0 i a by omega)
        rw [eq_false hk] at n2
        rw [hk'] at e1 n2 hkr
        rw [zI_cast] at e1 n2
        have hKb := K1.2.2.2.2.2
        by_cases hm : k < aMx ρ a
        · have n3 : ¬ (aMx ρ a ≤ k) := by omega
          obtain ⟨w2, ws2, nw2, u2, W2, st2, e2, B2, hb2, K2, hn, hw2⟩ := c_setn (F := F) B1 h1.FC K1.2.2.1 (k := k) (by omega) (by omega) (by omega) hn1 hn2 (by omega) (by omega)
          have K12 : Kg F nQ w w2 (2 + (i + 1)) (4 + 314 * (i + 1)) := (K1.trans K2 (fun z hz => .inl (by rcases hz with hz | hz <;> omega))).mono (by omega) (by omega)
          have r0 : hIs w1 (wN w) 0 = some () := c_C B1.1
          have hN1 := K1.2.2.2.1
          refine ⟨(zN (i + 1), w2), ?_, by omega, w2, ws2, nw2, u2, W2, st2, rfl, B2, fun z => ?_, K12, by rcases hw2 with e | e <;> omega, hn.1, hn.2⟩
          · simp (disch := omega) only [b2_some, bd_some, nm_eq, Option.map_some, zN_lit, zN_add, zN_mul, zN_neg1, if_true, if_false, reduceIte, eq_self, Nat.reduceEqDiff, Nat.reduceAdd, Nat.reduceMul, Nat.reduceSub, Nat.reduceLeDiff, Nat.one_ne_zero, not_false_eq_true, Bool.false_eq_true, zN_eq, zN_lt, zN_le,  fX1_steps_b10, h'.g0, h'.g1, h'.xI, h'.1.FI, c_snet h'.1.2.1, c_sI h'.1.2.1, c_nal h'.1.2.2.1, c_ntl h'.1.2.2.1, c_nn h'.1.2.2.1, c_alI h'.1.2.2.1, c_tlI h'.1.2.2.1, c_size h'.1.2.2.1, c_size2 h'.1.2.2.1, n1, e1, n2, c_aI h1.1.2.2.1 ha, c_most h1.1.2.2.1 ha, n3, r0, e2, fX1_steps_b58]
          · rw [stp_succ, hb2 z, Bool.or_eq_true, hb z, hk', beq_iff_eq]
            constructor
            · rintro (g | g)
              · exact .inl g
              · subst g; exact .inr ⟨rfl, hm⟩
            · rintro (g | ⟨g, _⟩)
              · exact .inl g
              · exact .inr (by omega)
        · have n3 : aMx ρ a ≤ k := by omega
          refine ⟨(zN (i + 1), w1), ?_, by omega, w1, ws, nw, u, W, st, rfl, B1, fun z => ?_, K1.mono (by omega) (by omega), hws, hn1, hn2⟩
          · simp (disch := omega) only [b2_some, bd_some, nm_eq, Option.map_some, zN_lit, zN_add, zN_mul, zN_neg1, if_true, if_false, reduceIte, eq_self, Nat.reduceEqDiff, Nat.reduceAdd, Nat.reduceMul, Nat.reduceSub, Nat.reduceLeDiff, Nat.one_ne_zero, not_false_eq_true, Bool.false_eq_true, zN_eq, zN_lt, zN_le,  fX1_steps_b10, h'.g0, h'.g1, h'.xI, h'.1.FI, c_snet h'.1.2.1, c_sI h'.1.2.1, c_nal h'.1.2.2.1, c_ntl h'.1.2.2.1, c_nn h'.1.2.2.1, c_alI h'.1.2.2.1, c_tlI h'.1.2.2.1, c_size h'.1.2.2.1, c_size2 h'.1.2.2.1, n1, e1, n2, c_aI h1.1.2.2.1 ha, c_most h1.1.2.2.1 ha, n3, fX1_steps_b58]
          · rw [stp_succ, hb z, hk']
            exact ⟨.inl, fun g => g.elim id (fun ⟨e, e'⟩ => by omega)⟩
    · rintro y ⟨-, w', ws, nw, u, W, st, rfl, hB, hb, hK, -⟩
      have h' := h.kg hW hK
      refine ⟨_, ?_, w', ws, nw, u, W, st, rfl, hB, hb, hK.mono (by omega) (by omega)⟩
      simp (disch := omega) only [b2_some, bd_some, nm_eq, Option.map_some, zN_lit, zN_add, zN_mul, zN_neg1, if_true, if_false, reduceIte, eq_self, Nat.reduceEqDiff, Nat.reduceAdd, Nat.reduceMul, Nat.reduceSub, Nat.reduceLeDiff, Nat.one_ne_zero, not_false_eq_true, Bool.false_eq_true, zN_eq, zN_lt, zN_le,  fX1_steps_b10, h'.g0, h'.g1, h'.xI, h'.1.FI, c_snet h'.1.2.1, c_sI h'.1.2.1, c_nal h'.1.2.2.1, c_ntl h'.1.2.2.1, c_nn h'.1.2.2.1, c_alI h'.1.2.2.1, c_tlI h'.1.2.2.1, c_size h'.1.2.2.1, c_size2 h'.1.2.2.1, Nat.le_refl]
    · rw [bit_1 (by decide), Nat.zero_testBit]
      exact ⟨(fun h => by cases h), fun ⟨t, ht, _⟩ => by omega⟩
  obtain ⟨r, e, w', ws, nw, u, W, st, rfl, H⟩ := H
  refine ⟨w', ws, nw, u, W, st, ?_, H⟩
  unfold fX1_steps
  rw [c_new (by omega) (by omega), b2_some, c_bsnew2 (by omega) (by omega), bd_some]
  exact e
end
