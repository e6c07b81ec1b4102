/-! Plain law: the component's nodes in reach: the passes -/
def MiR (ρ : Nat → Nat) (u : Nat → Prop) (n m : Nat) : Prop := ∀ M' : Nat, M'.testBit n = true → (∀ a, u a → M'.testBit (aFr ρ a) = true → M'.testBit (aTo ρ a) = true) → ∀ k, m.testBit k = true → M'.testBit k = true
section
variable {w w1 : WH} {x s q F : Nat} {ρ : Nat → Nat} {ν : NH} {t a b ws m n I c nn : Nat} {g : Nat → Int64} {st : Int32}
theorem c_psR (h : MR w x F s q ν ρ) (hW : WF w) (hK : Kg F nQ w w1 c nn) (hB : Bs w1 b ws g m st) (hb : wN w ≤ b) (hws : wN w ≤ ws) {k0 : Nat} (hI : w1.1 I = some (leC k0 b (nN ν))) (hIf : wN w ≤ I) (hk0 : k0 ≤ ρ 1) (hm : m < 1024) (hMi : MiR ρ (uT ρ 0 (-1) 0) n m) (hz : ∀ a, a < k0 → m.testBit (aFr ρ a) = false) (hk1 : k0 < ρ 1 → m.testBit (aFr ρ k0) = true) (had : Int32) :
    ∃ w' g' m', fX1_reachable_l70 x b had (some I) w1 = some (.inl (had, w')) ∧ Kg F nQ w w' c nn ∧ Bs w' b ws g' m' st ∧ (∀ z, m.testBit z = true → m'.testBit z = true) ∧ m' < 1024 ∧ MiR ρ (uT ρ 0 (-1) 0) n m' ∧ ∀ a, uT ρ 0 (-1) 0 a → m.testBit (aFr ρ a) = true → m'.testBit (aTo ρ a) = true := by
  have hI' := h.inv
  have h1 := hI'.h1
  have H : ∃ r, fX1_reachable_l70 x b had (some I) w1 = some r ∧ ∃ w' g' m', r = .inl (had, w') ∧ Kg F nQ w w' c nn ∧ Bs w' b ws g' m' st ∧ (∀ z, m.testBit z = true → m'.testBit z = true) ∧ m' < 1024 ∧ MiR ρ (uT ρ 0 (-1) 0) n m' ∧ ∀ a, uT ρ 0 (-1) 0 a → m.testBit (aFr ρ a) = true → m'.testBit (aTo ρ a) = true := by
    refine wh_dn (P := fun d y => ∃ k m' g', d = ρ 1 - k ∧ k ≤ ρ 1 ∧ Kg F nQ w y c nn ∧ Bs y b ws g' m' st ∧ y.1 I = some (leC k b (nN ν)) ∧ (∀ z, m.testBit z = true → m'.testBit z = true) ∧ m' < 1024 ∧ MiR ρ (uT ρ 0 (-1) 0) n m' ∧ (∀ a, a < k → uT ρ 0 (-1) 0 a → m.testBit (aFr ρ a) = true → m'.testBit (aTo ρ a) = true) ∧ (k < ρ 1 → m'.testBit (aFr ρ k) = true)) ?_ (ρ 1 - k0) _ ⟨k0, m, g, rfl, hk0, hK, hB, hI, fun _ h => h, hm, hMi, (fun a ha _ hf => by rw [hz a ha] at hf; cases hf), hk1⟩
    rintro d y ⟨k, m', g', rfl, hk, hK', hB', hIt, hs, hm', hMi', hcl, hkf⟩
    have hM := h.kg hW hK'
    have r0 : hIs y I 20 = some () := c_C hIt
    have r1 : gI y I 20 0 = some (zN k) := c_I hIt 0
    have r2 : gR y I 20 2 = some (some (nN ν)) := c_R hIt 2
    by_cases he : ρ 1 ≤ k
    · right
      refine ⟨_, ?_, y, g', m', rfl, hK', hB', hs, hm', hMi', fun a ua hf => hcl a (by have := ua.1; omega) ua hf⟩
      simp (disch := omega) only [b2_some, bd_some, nm_eq, Option.map_some, zN_lit, zN_add, zN_mul, zN_neg1, if_true, if_false, reduceIte, eq_self, Nat.reduceEqDiff, Nat.reduceAdd, Nat.reduceMul, Nat.reduceSub, Nat.reduceLeDiff, Nat.one_ne_zero, not_false_eq_true, Bool.false_eq_true, zN_eq, zN_lt, zN_le,  fX1_reachable_b70, r0, fX13_hasNext, r1, r2, hM.g0, hM.g1, hM.xI, hM.1.FI, c_snet hM.1.2.1, c_sI hM.1.2.1, c_nal hM.1.2.2.1, c_ntl hM.1.2.2.1, c_nn hM.1.2.2.1, c_alI hM.1.2.2.1, c_tlI hM.1.2.2.1, c_size hM.1.2.2.1, c_size2 hM.1.2.2.1, he, fX1_reachable_b116, Option.map]
    · left
      have hkl : k < ρ 1 := by omega
      have ck := hI'.ha hkl
      obtain ⟨k', a1, a2, eb, a3, a4⟩ := c_beh hM hB' hIt (j := k + 1) (by omega)
      obtain ⟨y1, hy1⟩ : ∃ y1, y1 = hUp y I (leC k' b (nN ν)) := ⟨_, rfl⟩
      have p1 : hPut y I 20 0 (.int (zN k')) = some y1 := by rw [hy1]; exact c_P hIt (show 0 < 3 by decide) _
      have M1 : MR y1 x F s q ν ρ := by rw [hy1]; exact hM.upf hIt (show fk 20 by unfold fk; omega) _
      have hbI : b ≠ I := fun e => by have := hB'.1; rw [e, hIt] at this; cases this
      have hwI : ws ≠ I := fun e => by have := hB'.2.1; rw [e, hIt] at this; cases this
      have B1 : Bs y1 b ws g' m' st := by
        rw [hy1]
        exact ⟨by rw [hUp_ne _ _ hbI]; exact hB'.1, by rw [hUp_ne _ _ hwI]; exact hB'.2.1, hB'.2.2⟩
      have I1 : y1.1 I = some (leC k' b (nN ν)) := by rw [hy1]; exact hUp_eq _ _ _
      have K1 : Kg F nQ w y1 c nn := by rw [hy1]; exact hK'.up hIt rfl (.inl hIf) _
      have nx : fX13_next I y = some (some (nAr ν k), y1) := by
        have n2 : (zN k < zN (ρ 1)) = True := eq_true (by rw [zN_lt (by omega) (by omega)]; exact hkl)
        simp (disch := omega) only [b2_some, bd_some, nm_eq, Option.map_some, zN_lit, zN_add, zN_mul, zN_neg1, if_true, if_false, reduceIte, eq_self, Nat.reduceEqDiff, Nat.reduceAdd, Nat.reduceMul, Nat.reduceSub, Nat.reduceLeDiff, Nat.one_ne_zero, not_false_eq_true, Bool.false_eq_true, zN_eq, zN_lt, zN_le,  fX13_next, r0, fX13_next_2, r1, r2, hM.g0, hM.g1, hM.xI, hM.1.FI, c_snet hM.1.2.1, c_sI hM.1.2.1, c_nal hM.1.2.2.1, c_ntl hM.1.2.2.1, c_nn hM.1.2.2.1, c_alI hM.1.2.2.1, c_tlI hM.1.2.2.1, c_size hM.1.2.2.1, c_size2 hM.1.2.2.1, n2, c_geta hM.1.2.2.1 hI' hkl, c_aI hM.1.2.2.1 hkl, eb, p1, fX13_next_2_b61]
      have op := c_open M1.1.2.1 M1.1.2.2.1 hI' hkl
      have n3 : ¬ (ρ 1 ≤ k) := by omega
      by_cases hc : aCl ρ k = 0
      · rw [if_pos hc] at op
        have s1 := c_set1 B1 (k := aTo ρ k) (by omega)
        have r3 : hIs y1 b 0 = some () := c_C B1.1
        have I2 := bs_keep B1 (m' := m' ||| 2 ^ aTo ρ k) I1 (show 120 ≠ 100 by omega) (.inl (show 120 ≠ 1 by omega))
        refine ⟨bU y1 b ws g' (m' ||| 2 ^ aTo ρ k) st, ρ 1 - k', by omega, ?_, k', m' ||| 2 ^ aTo ρ k, _, rfl, a2, K1.bU B1 hb hws, B1.bU (Nat.lt_trans (or_lt hm' (Nat.pow_lt_pow_right (n := 10) (by omega) (by omega))) (by decide)), I2, fun z hz' => ?_, or_lt hm' (Nat.pow_lt_pow_right (n := 10) (by omega) (by omega)), fun M' g1 g2 z hz' => ?_, fun a ha ua hf => ?_, fun hl => ?_⟩
        · simp (disch := omega) only [b2_some, bd_some, nm_eq, Option.map_some, zN_lit, zN_add, zN_mul, zN_neg1, if_true, if_false, reduceIte, eq_self, Nat.reduceEqDiff, Nat.reduceAdd, Nat.reduceMul, Nat.reduceSub, Nat.reduceLeDiff, Nat.one_ne_zero, not_false_eq_true, Bool.false_eq_true, zN_eq, zN_lt, zN_le,  fX1_reachable_b70, r0, fX13_hasNext, r1, r2, hM.g0, hM.g1, hM.xI, hM.1.FI, c_snet hM.1.2.1, c_sI hM.1.2.1, c_nal hM.1.2.2.1, c_ntl hM.1.2.2.1, c_nn hM.1.2.2.1, c_alI hM.1.2.2.1, c_tlI hM.1.2.2.1, c_size hM.1.2.2.1, c_size2 hM.1.2.2.1, n3, nx, c_aI M1.1.2.2.1 hkl, M1.g0, c_sI M1.1.2.1, op, c_to M1.1.2.2.1 hkl, r3, s1, fX1_reachable_b113]
        · rw [Nat.testBit_or, hs z hz', Bool.true_or]
        · rw [Nat.testBit_or, Bool.or_eq_true] at hz'
          rcases hz' with hz' | hz'
          · exact hMi' M' g1 g2 z hz'
          · rw [Nat.testBit_two_pow, decide_eq_true_eq] at hz'
            subst hz'
            exact g2 k (uT_c.mpr ⟨hkl, hc⟩) (hMi' M' g1 g2 _ (hkf hkl))
        · rw [Nat.testBit_or, Bool.or_eq_true]
          rcases Nat.lt_trichotomy a k with e | e | e
          · exact .inl (hcl a e ua hf)
          · subst e
            right
            rw [Nat.testBit_two_pow, decide_eq_true_eq]
          · have := a3 a (by omega) ha
            rw [hs _ hf] at this
            cases this
        · rw [Nat.testBit_or, a4 hl, Bool.true_or]
      · rw [if_neg hc] at op
        refine ⟨y1, ρ 1 - k', by omega, ?_, k', m', g', rfl, a2, K1, B1, I1, hs, hm', hMi', fun a ha ua hf => ?_, a4⟩
        · simp (disch := omega) only [b2_some, bd_some, nm_eq, Option.map_some, zN_lit, zN_add, zN_mul, zN_neg1, if_true, if_false, reduceIte, eq_self, Nat.reduceEqDiff, Nat.reduceAdd, Nat.reduceMul, Nat.reduceSub, Nat.reduceLeDiff, Nat.one_ne_zero, not_false_eq_true, Bool.false_eq_true, zN_eq, zN_lt, zN_le,  fX1_reachable_b70, r0, fX13_hasNext, r1, r2, hM.g0, hM.g1, hM.xI, hM.1.FI, c_snet hM.1.2.1, c_sI hM.1.2.1, c_nal hM.1.2.2.1, c_ntl hM.1.2.2.1, c_nn hM.1.2.2.1, c_alI hM.1.2.2.1, c_tlI hM.1.2.2.1, c_size hM.1.2.2.1, c_size2 hM.1.2.2.1, n3, nx, c_aI M1.1.2.2.1 hkl, M1.g0, c_sI M1.1.2.1, op, fX1_reachable_b113]
        · rcases Nat.lt_trichotomy a k with e | e | e
          · exact hcl a e ua hf
          · subst e
            exact absurd (uT_c.mp ua).2 hc
          · have := a3 a (by omega) ha
            rw [hs _ hf] at this
            cases this
  obtain ⟨r, e, w', g', m', rfl, H⟩ := H
  exact ⟨w', g', m', e, H⟩
/-- the iterator of a pass -/
theorem c_itR (h : MR w1 x F s q ν ρ) (hW : WF w1) (hB : Bs w1 b ws g m st) (hC : 2 ≤ wC w1) (hS : 5 ≤ wS w1) : ∃ w2 k a1, fX3_from (nN ν) b w1 = some (some (wN w1), hMk w1 2 (.inr (19, [.ref b, .ref (nN ν)]))) ∧ hIs (hMk w1 2 (.inr (19, [.ref b, .ref (nN ν)]))) (wN w1) 19 = some () ∧ fX12_iterator (wN w1) (hMk w1 2 (.inr (19, [.ref b, .ref (nN ν)]))) = some (some a1, w2) ∧ wN w1 ≤ a1 ∧ Kg F nQ w1 w2 2 5 ∧ Bs w2 b ws g m st ∧ w2.1 a1 = some (leC k b (nN ν)) ∧ k ≤ ρ 1 ∧ (∀ a, a < k → m.testBit (aFr ρ a) = false) ∧ (k < ρ 1 → m.testBit (aFr ρ k) = true) := by
  have p1 := c_P (hMk_eq w1 2 (.inr (19, [.null, .null]))) (k := 1) (show 1 < 2 by decide) (.ref (nN ν))
  rw [hMk_up] at p1
  have p2 := c_P (hMk_eq w1 2 (.inr (19, [.null, .ref (nN ν)]))) (k := 0) (show 0 < 2 by decide) (.ref b)
  rw [hMk_up] at p2
  have K1 : Kg F nQ w1 (hMk w1 2 (.inr (19, [.ref b, .ref (nN ν)]))) 1 2 := Kg.mk h.FC hW _ _
  obtain ⟨v, hv⟩ : ∃ v, v = hMk w1 2 (.inr (19, [.ref b, .ref (nN ν)])) := ⟨_, rfl⟩
  rw [← hv] at K1
  have Mv := h.kg hW K1
  have hb := hW.lt hB.1
  have hws := hW.lt hB.2.1
  have Bv : Bs v b ws g m st := by
    rw [hv]
    exact ⟨by rw [hMk_ne _ _ _ (by omega)]; exact hB.1, by rw [hMk_ne _ _ _ (by omega)]; exact hB.2.1, hB.2.2⟩
  have cv : v.1 (wN w1) = some (.inr (19, [.ref b, .ref (nN ν)])) := by rw [hv]; exact hMk_eq _ _ _
  have nv : wN v = wN w1 + 1 := by rw [hv]; rfl
  have qC : wC v = wC w1 - 1 := by rw [hv]; rfl
  have qS : wS v = wS w1 - 2 := by rw [hv]; rfl
  have q1 : gR v (wN w1) 19 1 = some (some (nN ν)) := c_R cv 1
  have q2 : gR v (wN w1) 19 0 = some (some b) := c_R cv 0
  have q3 : hIs v (nN ν) 22 = some () := c_C Mv.1.2.2.1.1
  -- the iterator
  have p3 := c_P (hMk_eq v 3 (.inr (20, [.int 0, .null, .null]))) (k := 2) (show 2 < 3 by decide) (.ref (nN ν))
  rw [hMk_up] at p3
  have p4 := c_P (hMk_eq v 3 (.inr (20, [.int 0, .null, .ref (nN ν)]))) (k := 1) (show 1 < 3 by decide) (.ref b)
  rw [hMk_up] at p4
  have K2 : Kg F nQ v (hMk v 3 (.inr (20, [.int 0, .ref b, .ref (nN ν)]))) 1 3 := Kg.mk Mv.FC K1.2.2.1 _ _
  obtain ⟨u, hu⟩ : ∃ u, u = hMk v 3 (.inr (20, [.int 0, .ref b, .ref (nN ν)])) := ⟨_, rfl⟩
  have p4' : hPut (hMk v 3 (.inr (20, [.int 0, .null, .ref (nN ν)]))) (wN v) 20 1 (.ref b) = some u := by rw [hu]; exact p4
  rw [← hu] at K2
  have Mu := Mv.kg K1.2.2.1 K2
  have Bu : Bs u b ws g m st := by
    rw [hu]
    exact ⟨by rw [hMk_ne _ _ _ (by omega)]; exact Bv.1, by rw [hMk_ne _ _ _ (by omega)]; exact Bv.2.1, Bv.2.2⟩
  have cu : u.1 (wN v) = some (.inr (20, [.int 0, .ref b, .ref (nN ν)])) := by rw [hu]; exact hMk_eq _ _ _
  have q4 : hIs u (wN v) 20 = some () := c_C cu
  obtain ⟨k, -, a2, eb, a3, a4⟩ := c_beh Mu Bu cu (j := 0) (by omega)
  have p5 : hPut u (wN v) 20 0 (.int (zN k)) = some (hUp u (wN v) (leC k b (nN ν))) := c_P cu (show 0 < 3 by decide) _
  have hbI : b ≠ wN v := by omega
  have hwI : ws ≠ wN v := by omega
  have eb' : fX13_behind (wN v) 0 u = some (zN k, u) := eb
  have e1 : fX3_leading (nN ν) b v = some (some (wN v), hUp u (wN v) (leC k b (nN ν))) := by
    unfold fX3_leading
    rw [c_new (by omega) (by omega), b2_some]
    unfold fX13_init
    simp only [p3, bd_some, List.set, p4', q4, eb', b2_some, p5]
  have e0 : fX3_from (nN ν) b w1 = some (some (wN w1), v) := by
    unfold fX3_from
    rw [c_new (by omega) (by omega), b2_some]
    unfold fX12_init
    rw [hv]
    simp only [p1, bd_some, List.set, p2]
  refine ⟨hUp u (wN v) (leC k b (nN ν)), k, wN v, ?_, ?_, ?_, by omega, ?_, ?_, hUp_eq _ _ _, a2, fun a ha => a3 a (by omega) ha, a4⟩
  · rw [← hv]; exact e0
  · rw [← hv]; exact c_C cv
  · rw [← hv]
    unfold fX12_iterator
    simp only [q1, q2, bd_some, q3, e1, b2_some]
  · exact (K1.tr0 K2).up cu rfl (.inl (by omega)) _
  · exact ⟨by rw [hUp_ne _ _ hbI]; exact Bu.1, by rw [hUp_ne _ _ hwI]; exact Bu.2.1, Bu.2.2⟩
theorem c_rch (h : MR w x F s q ν ρ) (hW : WF w) (hn : n < ρ 0) (hC : 40 ≤ wC w) (hS : 100 ≤ wS w) : ∃ M w', fX1_reachable x (zN n) w = some (.inl (zN M), w') ∧ Rch ρ (uT ρ 0 (-1) 0) n M ∧ Kg F nQ w w' 40 100 := by
  have hI := h.inv
  have h0 := hI.h0
  have K2 : Kg F nQ w (bsN w 1) 2 4 := bsN_Kg h.FC hW 1
  have B2 := bsN_Bs w 1
  have s2 := c_set1 B2 (k := n) (by omega)
  rw [Nat.zero_or] at s2
  have hp : (2 : Nat) ^ n < 2 ^ 10 := Nat.pow_lt_pow_right (by omega) (by omega)
  have B3 := B2.bU (m' := 2 ^ n) (by omega)
  have K3 := K2.bU (m' := 2 ^ n) B2 (Nat.le_refl _) (Nat.le_succ _)
  have e5 := c_bsnew (w := w) (n := 10) (by omega) (by omega) (by omega) (by omega)
  have e5' : fJ17_init (wN w) (zN 10) (hMk w 3 (.inr (0, [.null, .int (zN 0), .int (zN 0)]))) = some (bsN w 1) := e5
  have r7 : hIs (bsN w 1) (wN w) 0 = some () := c_C B2.1
  generalize bsN w 1 = wb at K2 B2 s2 B3 K3 e5' r7
  obtain ⟨w3, hw3⟩ : ∃ w3, w3 = bU wb (wN w) (wN w + 1) (fun _ => 0) (2 ^ n) 1 := ⟨_, rfl⟩
  rw [← hw3] at s2 B3 K3
  have H : ∃ r, fX1_reachable_l39 x (wN w) 0 w3 = some r ∧ ∃ M w', r = (.inl (zN M), w') ∧ Rch ρ (uT ρ 0 (-1) 0) n M ∧ Kg F nQ w w' 40 100 := by
    refine wh_dn (P := fun d y => ∃ had w' g m, d = 20 - had ∧ had ≤ 10 ∧ y = (zN had, w') ∧ Kg F nQ w w' (2 + 2 * had) (4 + 5 * had) ∧ Bs w' (wN w) (wN w + 1) g m 1 ∧ m < 1024 ∧ m.testBit n = true ∧ MiR ρ (uT ρ 0 (-1) 0) n m ∧ (had = 0 ∨ ∃ m0 : Nat, had = cnB m0.testBit 64 ∧ (∀ z, m0.testBit z = true → m.testBit z = true) ∧ ∀ a, uT ρ 0 (-1) 0 a → m0.testBit (aFr ρ a) = true → m.testBit (aTo ρ a) = true)) ?_ 20 _ ⟨0, w3, _, 2 ^ n, rfl, by omega, rfl, K3, B3, hp, by rw [Nat.testBit_two_pow, decide_eq_true_eq], (fun M' g1 g2 k hk => by rw [Nat.testBit_two_pow, decide_eq_true_eq] at hk; subst hk; exact g1), .inl rfl⟩
    rintro d y ⟨had, w', g, m, rfl, hh, rfl, hK, hB, hm, hmn, hMi, hst⟩
    have hM := h.kg hW hK
    have hne : m ≠ 0 := fun e => by rw [e, Nat.zero_testBit] at hmn; cases hmn
    have r1 : hIs w' (wN w) 0 = some () := c_C hB.1
    have ca := c_card1 hB hne
    have c10 := cnB_le10 hm
    have c1 := cnB_pos hmn (by omega)
    have hCS := hK.2.2.2.2.2
    by_cases he : cnB m.testBit 64 ≤ had
    · right
      have e6 := c_mkr hB (Nat.lt_trans hm (by decide))
      refine ⟨_, ?_, m, w', rfl, ⟨hmn, ?_, hm, hMi⟩, hK.mono (by omega) (by omega)⟩
      · simp (disch := omega) only [b2_some, bd_some, nm_eq, Option.map_some, zN_lit, zN_add, zN_mul, zN_neg1, if_true, if_false, reduceIte, eq_self, Nat.reduceEqDiff, Nat.reduceAdd, Nat.reduceMul, Nat.reduceSub, Nat.reduceLeDiff, Nat.one_ne_zero, not_false_eq_true, Bool.false_eq_true, zN_eq, zN_lt, zN_le,  fX1_reachable_b39, r1, ca, he, e6, Option.map]
      · rcases hst with hst | ⟨m0, g1, g2, g3⟩
        · omega
        · have heq := (cnB_sub 64 (fun i _ hi => g2 i hi)).2 (by omega)
          intro a ua hf
          refine g3 a ua ?_
          have := hI.ha ua.1
          rw [heq _ (by omega)]
          exact hf
    · left
      obtain ⟨w2, k, a1, f1, f2, f3, f4, f5, f6, f7, f8, f9, f10⟩ := c_itR hM hK.2.2.1 hB (by omega) (by omega)
      have K2' : Kg F nQ w w2 (2 + 2 * had + 2) (4 + 5 * had + 5) := hK.tr0 f5
      have hN := hK.2.2.2.1
      obtain ⟨w4, g4, m4, z1, z2, z3, z4, z5, z6, z7⟩ := c_psR (n := n) h hW K2' f6 (Nat.le_refl _) (Nat.le_succ _) f7 (by omega) f8 hm hMi f9 f10 (zN (cnB m.testBit 64))
      refine ⟨(zN (cnB m.testBit 64), w4), 20 - cnB m.testBit 64, by omega, ?_, cnB m.testBit 64, w4, g4, m4, rfl, c10, rfl, z2.mono (by omega) (by omega), z3, z5, z4 _ hmn, z6, .inr ⟨m, rfl, z4, z7⟩⟩
      have nI : hIs w' (nN ν) 22 = some () := c_C hM.1.2.2.1.1
      simp (disch := omega) only [b2_some, bd_some, nm_eq, Option.map_some, zN_lit, zN_add, zN_mul, zN_neg1, if_true, if_false, reduceIte, eq_self, Nat.reduceEqDiff, Nat.reduceAdd, Nat.reduceMul, Nat.reduceSub, Nat.reduceLeDiff, Nat.one_ne_zero, not_false_eq_true, Bool.false_eq_true, zN_eq, zN_lt, zN_le,  fX1_reachable_b39, r1, ca, he, hM.g0, hM.g1, hM.xI, hM.1.FI, c_snet hM.1.2.1, c_sI hM.1.2.1, c_nal hM.1.2.2.1, c_ntl hM.1.2.2.1, c_nn hM.1.2.2.1, c_alI hM.1.2.2.1, c_tlI hM.1.2.2.1, c_size hM.1.2.2.1, c_size2 hM.1.2.2.1, nI, f1, f2, f3, z1]
  obtain ⟨r, e, M, w', rfl, H⟩ := H
  refine ⟨M, w', ?_, H⟩
  have e1 : (zN (ρ 0) - zN 1).toInt64 = zJ ((ρ 0 : Int) - 1) := by
    rw [show zN (ρ 0) - zN 1 = zI ((ρ 0 : Int) - 1) from zI_sub _ _, zI_J (by omega)]
  have e2 := c_inR (w := w) (a := (n : Int)) (b := 0) (c := (ρ 0 : Int) - 1) ⟨by omega, by omega⟩ ⟨by omega, by omega⟩ ⟨by omega, by omega⟩
  rw [if_pos (by omega)] at e2
  have e3 : (0 : Int64) = zJ 0 := rfl
  simp (disch := omega) only [b2_some, bd_some, nm_eq, Option.map_some, zN_lit, zN_add, zN_mul, zN_neg1, if_true, if_false, reduceIte, eq_self, Nat.reduceEqDiff, Nat.reduceAdd, Nat.reduceMul, Nat.reduceSub, Nat.reduceLeDiff, Nat.one_ne_zero, not_false_eq_true, Bool.false_eq_true, zN_eq, zN_lt, zN_le,  fX1_reachable, h.g0, h.g1, h.xI, h.1.FI, c_snet h.1.2.1, c_sI h.1.2.1, c_nal h.1.2.2.1, c_ntl h.1.2.2.1, c_nn h.1.2.2.1, c_alI h.1.2.2.1, c_tlI h.1.2.2.1, c_size h.1.2.2.1, c_size2 h.1.2.2.1, zN_J, e1, e3, e2, c_ra1, ex_, c_new (show 1 ≤ wC w by omega) (show 3 ≤ wS w by omega), e5', r7, s2]
  exact e
end
