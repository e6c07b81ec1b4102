/-! Plain law: the component's unused arcs -/
theorem msk_step {m fq : Nat} {r : Int} (h : NxB m.testBit fq r) : (r = -1 ∧ m % 2 ^ fq = m) ∨ ∃ i : Nat, r = i ∧ fq ≤ i ∧ m.testBit i = true ∧ m % 2 ^ fq ||| 2 ^ i = m % 2 ^ (i + 1) := by
  rcases h with ⟨h1, h2⟩ | ⟨i, h1, h2, h3, h4⟩
  · exact .inl ⟨h1, Nat.mod_eq_of_lt (lt_bits h2)⟩
  · refine .inr ⟨i, h1, h2, h3, ?_⟩
    apply Nat.eq_of_testBit_eq
    intro j
    rw [Nat.testBit_or, Nat.testBit_mod_two_pow, Nat.testBit_mod_two_pow, Nat.testBit_two_pow]
    by_cases e : i = j
    · subst e
      rw [h3, decide_eq_true (show i < i + 1 by omega)]
      simp
    · rw [decide_eq_false e, Bool.or_false]
      by_cases c : j < fq
      · rw [decide_eq_true c, decide_eq_true (show j < i + 1 by omega)]
      · rw [decide_eq_false c, Bool.false_and]
        by_cases c2 : j < i
        · rw [h4 j (by omega) c2, Bool.and_false]
        · rw [decide_eq_false (show ¬ j < i + 1 by omega), Bool.false_and]
theorem take_mem {p : List Nat} {i z : Nat} (hi : i < p.length) : z ∈ p.take (i + 1) ↔ z ∈ p.take i ∨ z = p.getD i 0 := by
  have : p[i]? = some (p.getD i 0) := by rw [List.getD_eq_getElem?_getD, List.getElem?_eq_getElem hi]; rfl
  rw [List.take_succ, List.mem_append, this]
  simp only [Option.toList, List.mem_singleton]
section
variable {w : WH} {x s q F : Nat} {ρ : Nat → Nat} {ν : NH} {t a b ws m : Nat} {g : Nat → Int64} {st : Int32}
theorem c_mku (hB : Bs w b ws g m st) (hm : m < 2 ^ 31) : fX1_unused_b121 b w = some (zN m, w) := by
  have r1 : hIs w b 0 = some () := c_C hB.1
  obtain ⟨r0, e0, hx0, -⟩ := c_nsb1 hB (f := 0) (by omega)
  have H : ∃ y, fX1_unused_l129 b 0 (zI r0) w = some y ∧ y = (zN m, w) := by
    refine wh_dn (P := fun d y => ∃ fq r, d = 100 - fq ∧ fq ≤ 64 ∧ y = (zN (m % 2 ^ fq), zI r, w) ∧ NxB m.testBit fq r) ?_ 100 _ ⟨0, r0, rfl, by omega, by rw [Nat.pow_zero, Nat.mod_one]; rfl, hx0⟩
    rintro d y ⟨fq, r, rfl, hfq, rfl, hx⟩
    rcases msk_step hx with ⟨rfl, e⟩ | ⟨i, rfl, h1, h2, h3⟩
    · right
      refine ⟨_, ?_, rfl⟩
      rw [e]
      have n1 : (zI (-1) < zN 0) = True := eq_true (by decide)
      simp (disch := omega) only [b2_some, bd_some, nm_eq, Option.map_some, zN_lit, zN_add, zN_mul, zN_neg1, if_true, if_false, reduceIte, eq_self, Nat.reduceEqDiff, Nat.reduceAdd, Nat.reduceMul, Nat.reduceSub, Nat.reduceLeDiff, Nat.one_ne_zero, not_false_eq_true, Bool.false_eq_true, zN_eq, zN_lt, zN_le,  fX1_unused_b129, n1]
    · left
      have hi : i < 31 := by
        by_cases c : i < 31
        · exact c
        · rw [Nat.testBit_lt_two_pow (Nat.lt_of_lt_of_le hm (Nat.pow_le_pow_right (by omega) (by omega)))] at h2
          cases h2
      obtain ⟨r', e4, hx4, -⟩ := c_nsb1 hB (f := i + 1) (by omega)
      have n1 : (zN i < zN 0) = False := by rw [zN_lt (by omega) (by omega)]; exact eq_false (by omega)
      refine ⟨(zN (m % 2 ^ (i + 1)), zI r', w), 100 - (i + 1), by omega, ?_, i + 1, r', rfl, by omega, rfl, hx4⟩
      rw [zI_cast, ← h3]
      simp (disch := omega) only [b2_some, bd_some, nm_eq, Option.map_some, zN_lit, zN_add, zN_mul, zN_neg1, if_true, if_false, reduceIte, eq_self, Nat.reduceEqDiff, Nat.reduceAdd, Nat.reduceMul, Nat.reduceSub, Nat.reduceLeDiff, Nat.one_ne_zero, not_false_eq_true, Bool.false_eq_true, zN_eq, zN_lt, zN_le,  fX1_unused_b129, n1, zN_shlz, zN_or, r1, e4]
  obtain ⟨y, e, rfl⟩ := H
  simp (disch := omega) only [b2_some, bd_some, nm_eq, Option.map_some, zN_lit, zN_add, zN_mul, zN_neg1, if_true, if_false, reduceIte, eq_self, Nat.reduceEqDiff, Nat.reduceAdd, Nat.reduceMul, Nat.reduceSub, Nat.reduceLeDiff, Nat.one_ne_zero, not_false_eq_true, Bool.false_eq_true, zN_eq, zN_lt, zN_le,  fX1_unused_b121, r1, e0]
  exact e
theorem c_unu (h : MR w x F s q ν ρ) (hW : WF w) (hC : 3 ≤ wC w) (hS : 8 ≤ wS w) : ∃ w', fX1_unused x w = some (zN (unuN ρ 0 (-1) 0), w') ∧ Kg F nQ w w' 3 8 := by
  have hI := h.inv
  have h1 := hI.h1
  have h2 := hI.h2
  have K2 : Kg F nQ w (bsN w 1) 2 4 := bsN_Kg h.FC hW 1
  have B2 := bsN_Bs w 1
  have s2 := c_setr B2 (n := ρ 1) (by omega)
  have hp62 : (2 : Nat) ^ ρ 1 ≤ 2 ^ 24 := Nat.pow_le_pow_right (by omega) (by omega)
  have B3 := B2.bU (m' := 2 ^ ρ 1 - 1) (by omega)
  have K3 : Kg F nQ w (bU (bsN w 1) (wN w) (wN w + 1) (fun _ => 0) (2 ^ ρ 1 - 1) 1) 2 4 := K2.bU B2 (Nat.le_refl _) (Nat.le_succ _)
  obtain ⟨w3, hw3⟩ : ∃ w3, w3 = bU (bsN w 1) (wN w) (wN w + 1) (fun _ => 0) (2 ^ ρ 1 - 1) 1 := ⟨_, rfl⟩
  rw [← hw3] at s2 B3 K3
  have M2 := h.kg hW K2
  have M3 := h.kg hW K3
  have hCS : 1 ≤ wC w3 ∧ 4 ≤ wS w3 := by have := K3.2.2.2.2.2; omega
  have it := (c_itN M3 K3.2.2.1 hCS.1 hCS.2).2
  have K4 : Kg F nQ w (hMk w3 4 (itC 0 (-1) ν.2.2.2.2 (nTl ν))) 3 8 := K3.tr0 (Kg.mk M3.FC K3.2.2.1 _ _)
  have hN3 : wN w ≤ wN w3 := K3.2.2.2.1
  have hl3 := K3.2.2.1.lt B3.1
  have hl4 := K3.2.2.1.lt B3.2.1
  have B4 : Bs (hMk w3 4 (itC 0 (-1) ν.2.2.2.2 (nTl ν))) (wN w) (wN w + 1) (vp_updL (fun _ => 0) 0 (zJ ((2 ^ ρ 1 - 1 : Nat) : Int))) (2 ^ ρ 1 - 1) 1 := ⟨by rw [hMk_ne _ _ _ (by omega)]; exact B3.1, by rw [hMk_ne _ _ _ (by omega)]; exact B3.2.1, B3.2.2⟩
  have H : ∃ r, fX1_unused_l46 x (wN w) (some (wN w3)) (hMk w3 4 (itC 0 (-1) ν.2.2.2.2 (nTl ν))) = some r ∧ ∃ w', r = (zN (unuN ρ 0 (-1) 0), w') ∧ Kg F nQ w w' 3 8 := by
    refine wh_up (P := fun i y => i ≤ ρ 2 ∧ ∃ g m lr, Kg F nQ w y 3 8 ∧ Bs y (wN w) (wN w + 1) g m 1 ∧ y.1 (wN w3) = some (itC i lr ν.2.2.2.2 (nTl ν)) ∧ ∀ z, m.testBit z = true ↔ z < ρ 1 ∧ ∀ t, t < i → useB ρ 0 (-1) 0 t z = false) (ρ 2) ?_ ?_ (ρ 2) 0 _ (by omega) ⟨by omega, _, _, _, K4, B4, hMk_eq _ _ _, fun z => ?_⟩
    · rintro i w' hi ⟨-, g, m, lr, hK, hB, hIt, hm⟩
      have hM := h.kg hW hK
      obtain ⟨i1, i2, w1, i3, M1, W1, K1, T1, hw1⟩ := c_itT hM hK.2.2.1 hK hi hIt (by omega)
      have hI1 : (wN w) ≠ wN w3 := by omega
      have hI2 : (wN w + 1) ≠ wN w3 := by omega
      have B1 : Bs w1 (wN w) (wN w + 1) g m 1 := by
        rw [hw1]
        exact ⟨by rw [hUp_ne _ _ hI1]; exact hB.1, by rw [hUp_ne _ _ hI2]; exact hB.2.1, hB.2.2⟩
      obtain ⟨w2, e2, k2, hP⟩ := c_walk M1.1 hi
      have M2 := M1.kf k2
      have K2' : Kg F nQ w w2 3 8 := K1.tr0 (k2.kg M1.FC W1)
      have T2 := k2.keep M1.FC T1 rfl
      have B2' := B1.kf M1.FC k2
      have trI := c_tI M1.1.2.2.1 hi
      left
      cases hp : PT ρ 0 (-1) 0 i with
      | none =>
        rw [hp] at e2
        refine ⟨w2, ?_, by omega, g, m, _, K2', B2', T2, fun z => ?_⟩
        · simp (disch := omega) only [b2_some, bd_some, nm_eq, Option.map_some, zN_lit, zN_add, zN_mul, zN_neg1, if_true, if_false, reduceIte, eq_self, Nat.reduceEqDiff, Nat.reduceAdd, Nat.reduceMul, Nat.reduceSub, Nat.reduceLeDiff, Nat.one_ne_zero, not_false_eq_true, Bool.false_eq_true, zN_eq, zN_lt, zN_le,  fX1_unused_b46, i1, i2, i3, trI, M1.g0, M1.g1, M1.1.FI, e2, Option.isSome_none]
        · rw [hm z]
          refine and_congr Iff.rfl ⟨fun h t ht => ?_, fun h t ht => h t (by omega)⟩
          by_cases c : t = i
          · subst c
            unfold useB
            rw [hp]
          · exact h t (by omega)
      | some p =>
        rw [hp] at e2
        obtain ⟨g1, g2, g3⟩ := PT_24 hI hi hp
        obtain ⟨p1, f, p2, p3⟩ := hP p hp
        have HA : ∃ r, fX1_unused_l86 x (wN w) (wN w3) 0 w2 = some r ∧ ∃ w' g m', r = .inl w' ∧ Kg F nQ w w' 3 8 ∧ Bs w' (wN w) (wN w + 1) g m' 1 ∧ w'.1 (wN w3) = some (itC (i + 1) (zN i) ν.2.2.2.2 (nTl ν)) ∧ ∀ z, m'.testBit z = true ↔ m.testBit z = true ∧ z ∉ p := by
          refine wh_up (P := fun k y => k ≤ p.length ∧ ∃ w' g m', y = (zN k, w') ∧ Kg F nQ w w' 3 8 ∧ Bs w' (wN w) (wN w + 1) g m' 1 ∧ w'.1 (wN w3) = some (itC (i + 1) (zN i) ν.2.2.2.2 (nTl ν)) ∧ (∀ z, m'.testBit z = true ↔ m.testBit z = true ∧ z ∉ p.take k) ∧ w'.1 F = some (finC F (zN p.length)) ∧ w'.1 (F + 3) = some (intC f)) p.length ?_ ?_ p.length 0 _ (by omega) ⟨by omega, w2, g, m, rfl, K2', B2', T2, fun z => ?_, p1, p2⟩
          · rintro k y hk ⟨-, w', g', m', rfl, hK', hB', hT', hm', d1, d2⟩
            have h' := h.kg hW hK'
            have hk24 : p.getD k 0 < 24 := g3 _ (getD_mem hk)
            have sc := c_clr1 hB' (k := p.getD k 0) (by omega)
            have r1 : gI w' F 23 5 = some (zN p.length) := c_I d1 5
            have r2 : gR w' F 23 2 = some (some (F + 3)) := c_R d1 2
            have r3 : ldI w' (F + 3) 0 (zN k) = some (zN (p.getD k 0)) := by rw [c_ldI d2 (by omega) (by omega), p3 k hk]
            have r4 : hIs w' (wN w) 0 = some () := c_C hB'.1
            have n1 : ¬ (p.length ≤ k) := by omega
            have d1' := bs_keep hB' (m' := clr m' (p.getD k 0)) d1 (show 123 ≠ 100 by omega) (.inl (show 123 ≠ 1 by omega))
            have d2' := bs_keep hB' (m' := clr m' (p.getD k 0)) d2 (show (0 : Nat) ≠ 100 by omega) (.inl (show (0 : Nat) ≠ 1 by omega))
            have d3' := bs_keep hB' (m' := clr m' (p.getD k 0)) hT' (show 104 ≠ 100 by omega) (.inl (show 104 ≠ 1 by omega))
            left
            refine ⟨(zN (k + 1), bU w' (wN w) (wN w + 1) g' (clr m' (p.getD k 0)) 1), ?_, by omega, _, _, _, rfl, hK'.bU hB' (Nat.le_refl _) (Nat.le_succ _), hB'.bU (clr_lt hB'.2.2.2 _), d3', fun z => ?_, d1', d2'⟩
            · rw [show (1 : Int32) = zN 1 from rfl] at sc ⊢
              simp (disch := omega) only [b2_some, bd_some, nm_eq, Option.map_some, zN_lit, zN_add, zN_mul, zN_neg1, if_true, if_false, reduceIte, eq_self, Nat.reduceEqDiff, Nat.reduceAdd, Nat.reduceMul, Nat.reduceSub, Nat.reduceLeDiff, Nat.one_ne_zero, not_false_eq_true, Bool.false_eq_true, zN_eq, zN_lt, zN_le,  fX1_unused_b86, h'.g1, r1, r2, n1, r3, r4, sc]
            · rw [clr_bit, Bool.and_eq_true, hm' z, take_mem hk]
              by_cases c : z = p.getD k 0
              · rw [c]; simp
              · rw [beq_false_of_ne c]
                constructor
                · rintro ⟨⟨a1, a2⟩, -⟩
                  exact ⟨a1, fun e => e.elim a2 c⟩
                · rintro ⟨a1, a2⟩
                  exact ⟨⟨a1, fun e => a2 (.inl e)⟩, rfl⟩
          · rintro y ⟨-, w', g', m', rfl, hK', hB', hT', hm', d1, d2⟩
            have h' := h.kg hW hK'
            have r1 : gI w' F 23 5 = some (zN p.length) := c_I d1 5
            rw [List.take_length] at hm'
            refine ⟨_, ?_, w', g', m', rfl, hK', hB', hT', hm'⟩
            simp (disch := omega) only [b2_some, bd_some, nm_eq, Option.map_some, zN_lit, zN_add, zN_mul, zN_neg1, if_true, if_false, reduceIte, eq_self, Nat.reduceEqDiff, Nat.reduceAdd, Nat.reduceMul, Nat.reduceSub, Nat.reduceLeDiff, Nat.one_ne_zero, not_false_eq_true, Bool.false_eq_true, zN_eq, zN_lt, zN_le,  fX1_unused_b86, h'.g1, r1, Nat.le_refl, fX1_unused_b118, Option.map]
          · simp
        obtain ⟨r, er, w4, g4, m4, rfl, K4', B4', T4, hm4⟩ := HA
        refine ⟨w4, ?_, by omega, g4, m4, _, K4', B4', T4, fun z => ?_⟩
        · have er' : fX1_unused_l86 x (wN w) (wN w3) (zN 0) w2 = _ := er
          simp (disch := omega) only [b2_some, bd_some, nm_eq, Option.map_some, zN_lit, zN_add, zN_mul, zN_neg1, if_true, if_false, reduceIte, eq_self, Nat.reduceEqDiff, Nat.reduceAdd, Nat.reduceMul, Nat.reduceSub, Nat.reduceLeDiff, Nat.one_ne_zero, not_false_eq_true, Bool.false_eq_true, zN_eq, zN_lt, zN_le,  fX1_unused_b46, i1, i2, i3, trI, M1.g0, M1.g1, M1.1.FI, e2, Option.isSome_some, er']
        · rw [hm4 z, hm z]
          constructor
          · rintro ⟨⟨a1, a2⟩, a3⟩
            refine ⟨a1, fun t ht => ?_⟩
            by_cases c : t = i
            · subst c
              unfold useB
              rw [hp]
              exact decide_eq_false a3
            · exact a2 t (by omega)
          · rintro ⟨a1, a2⟩
            refine ⟨⟨a1, fun t ht => a2 t (by omega)⟩, fun e => ?_⟩
            have := a2 i (by omega)
            unfold useB at this
            rw [hp] at this
            exact of_decide_eq_false this e
    · rintro w' ⟨-, g, m, lr, hK, hB, hIt, hm⟩
      have hM := h.kg hW hK
      obtain ⟨i1, i2⟩ := c_itTe hM hIt
      have em : m = unuN ρ 0 (-1) 0 := by
        apply Nat.eq_of_testBit_eq
        intro z
        unfold unuN
        rw [msk_bit]
        have hz := hm z
        cases e : m.testBit z with
        | true =>
          rw [e] at hz
          obtain ⟨a1, a2⟩ := hz.mp rfl
          rw [decide_eq_true a1, Bool.true_and]
          exact (beq_iff_eq.mpr ((msk_0 _ _).mpr a2)).symm
        | false =>
          rw [e] at hz
          by_cases c : z < ρ 1
          · rw [decide_eq_true c, Bool.true_and]
            refine (beq_false_of_ne fun g => ?_).symm
            have := hz.mpr ⟨c, (msk_0 _ _).mp g⟩
            cases this
          · rw [decide_eq_false c]; rfl
      have hlt : m < 2 ^ 31 := by
        rw [em]
        exact Nat.lt_of_lt_of_le (msk_lt _ _) (Nat.pow_le_pow_right (by omega) (by omega))
      have e5 := c_mku hB hlt
      refine ⟨_, ?_, w', rfl, hK⟩
      rw [← em]
      simp (disch := omega) only [b2_some, bd_some, nm_eq, Option.map_some, zN_lit, zN_add, zN_mul, zN_neg1, if_true, if_false, reduceIte, eq_self, Nat.reduceEqDiff, Nat.reduceAdd, Nat.reduceMul, Nat.reduceSub, Nat.reduceLeDiff, Nat.one_ne_zero, not_false_eq_true, Bool.false_eq_true, zN_eq, zN_lt, zN_le,  fX1_unused_b46, i1, i2, e5, Option.map]
    · have : (2 ^ ρ 1 - 1).testBit z = decide (z < ρ 1) := Nat.testBit_two_pow_sub_one _ _
      rw [this, decide_eq_true_eq]
      exact ⟨fun h => ⟨h, fun t ht => by omega⟩, fun h => h.1⟩
  obtain ⟨r, e, w', rfl, hK⟩ := H
  refine ⟨w', ?_, hK⟩
  have e5 := c_bsnew (w := w) (n := 24) (by omega) (by omega) (by omega) (by omega)
  have e5' : fJ17_init (wN w) (zN 24) (hMk w 3 (.inr (0, [.null, .int (zN 0), .int (zN 0)]))) = some (bsN w 1) := e5
  have r7 : hIs (bsN w 1) (wN w) 0 = some () := c_C B2.1
  generalize bsN w 1 = wb at M2 s2 r7 e5'
  simp (disch := omega) only [b2_some, bd_some, nm_eq, Option.map_some, zN_lit, zN_add, zN_mul, zN_neg1, if_true, if_false, reduceIte, eq_self, Nat.reduceEqDiff, Nat.reduceAdd, Nat.reduceMul, Nat.reduceSub, Nat.reduceLeDiff, Nat.one_ne_zero, not_false_eq_true, Bool.false_eq_true, zN_eq, zN_lt, zN_le,  fX1_unused, c_new (show 1 ≤ wC w by omega) (show 3 ≤ wS w by omega), e5', M2.g0, M2.g1, M2.xI, M2.1.FI, c_snet M2.1.2.1, c_sI M2.1.2.1, c_nal M2.1.2.2.1, c_ntl M2.1.2.2.1, c_nn M2.1.2.2.1, c_alI M2.1.2.2.1, c_tlI M2.1.2.2.1, c_size M2.1.2.2.1, c_size2 M2.1.2.2.1, r7, s2, M3.g0, M3.g1, M3.xI, M3.1.FI, c_snet M3.1.2.1, c_sI M3.1.2.1, c_nal M3.1.2.2.1, c_ntl M3.1.2.2.1, c_nn M3.1.2.2.1, c_alI M3.1.2.2.1, c_tlI M3.1.2.2.1, c_size M3.1.2.2.1, c_size2 M3.1.2.2.1, it]
  exact e
end
