/-! Plain law: the component's best toll, improve -/
section
variable {w : WH} {x s q F : Nat} {ρ : Nat → Nat} {ν : NH} {t a I : Nat}
theorem c_off2 (h : MR w x F s q ν ρ) (hW : WF w) (ha : a < ρ 1) {c n : Nat} {w' : WH} (hK : Kg F nQ w w' c n) {b : Nat} (hT : w'.1 (wN w) = some (trC (zN b) (zJ (alW ρ a b)) (nAr ν a) x)) {S : Nat → Prop} (hS : ∀ z, S z → z ≤ aMx ρ a) (hB : Best (alW ρ a) S b) {y : Nat} (hy : y ≤ aMx ρ a) :
    ∃ w2 b', fX11_offer (wN w) (zN y) w' = some w2 ∧ Kg F nQ w w2 c n ∧ w2.1 (wN w) = some (trC (zN b') (zJ (alW ρ a b')) (nAr ν a) x) ∧ Best (alW ρ a) (fun z => S z ∨ z = y) b' := by
  have hI := h.inv
  have c := hI.ha ha
  have hb := hS b hB.1
  have hal : 0 ≤ alW ρ a b ∧ alW ρ a b ≤ 539406054 := allI_rng (hI.stl ha hb)
  obtain ⟨w2, e2, k2, t2⟩ := c_offer (h.kg hW hK) hK.2.2.1 ha hy (b := (b : Int)) (m := alW ρ a b) ⟨by omega, by omega⟩ ⟨by omega, by omega⟩ (by rw [zI_cast]; exact hT)
  obtain ⟨b', e3, B3⟩ := hB.ofr y
  rw [e3] at t2
  dsimp only at t2
  rw [zI_cast] at t2
  exact ⟨w2, b', e2, hK.trans k2 (fun a e => .inl (Nat.le_of_eq e.symm)), t2, B3⟩
theorem c_trial (h : MR w x F s q ν ρ) (hW : WF w) (ha : a < ρ 1) : ∃ w', fX11_init (wN w) x (nAr ν a) (hMk w 4 (.inr (18, [.null, .int 0, .long 0, .null]))) = some w' ∧ Kg F nQ w w' 1 4 ∧ w'.1 (wN w) = some (trC (zN (bst ρ a)) (zJ (alW ρ a (bst ρ a))) (nAr ν a) x) ∧ Best (alW ρ a) (cnd ρ a (ρ 2)) (bst ρ a) := by
  have hI := h.inv
  have c := hI.ha ha
  have h2 := hI.h2
  have K7 : Kg F nQ w (hMk w 4 (trC (zI (-1)) (zJ (-1)) (nAr ν a) x)) 1 4 := Kg.mk h.FC hW _ _
  have M7 := h.kg hW K7
  obtain ⟨w9, e9, k9, t9⟩ := c_offer M7 K7.2.2.1 ha (y := 0) (by omega) (b := -1) (m := -1) ⟨by omega, by omega⟩ ⟨by omega, by omega⟩ (hMk_eq _ _ _)
  have K9 : Kg F nQ w w9 1 4 := K7.trans k9 (fun a e => .inl (Nat.le_of_eq e.symm))
  have hal : 0 ≤ alW ρ a 0 ∧ alW ρ a 0 ≤ 539406054 := allI_rng (hI.stl ha (by omega))
  have eO : ofr (-1) (-1) 0 (alW ρ a 0) = (0, alW ρ a 0) := by unfold ofr; rw [if_neg (by omega)]; rfl
  have B9 : Best (alW ρ a) (fun z => z = 0) 0 := ⟨rfl, fun z hz => by subst hz; exact ⟨Int.le_refl _, fun _ => Nat.le_refl _⟩⟩
  have t9' : w9.1 (wN w) = some (trC (zN 0) (zJ (alW ρ a 0)) (nAr ν a) x) := by
    rw [eO] at t9
    exact t9
  have M9 := h.kg hW K9
  obtain ⟨w16, b16, e16, K16, t16, B16⟩ := c_off2 h hW ha K9 t9' (fun z hz => by omega) B9 (Nat.le_refl (aMx ρ a))
  have H : ∃ r, fX11_init_l41 (wN w) x (nAr ν a) 0 w16 = some r ∧ Kg F nQ w r 1 4 ∧ r.1 (wN w) = some (trC (zN (bst ρ a)) (zJ (alW ρ a (bst ρ a))) (nAr ν a) x) ∧ Best (alW ρ a) (cnd ρ a (ρ 2)) (bst ρ a) := by
    refine wh_up (P := fun i y => i ≤ ρ 2 ∧ ∃ w' b, y = (zN i, w') ∧ Kg F nQ w w' 1 4 ∧ w'.1 (wN w) = some (trC (zN b) (zJ (alW ρ a b)) (nAr ν a) x) ∧ Best (alW ρ a) (cnd ρ a i) b) (ρ 2) ?_ ?_ (ρ 2) 0 _ (by omega) ⟨by omega, w16, b16, rfl, K16, t16, B16.congr fun z => ?_⟩
    · rintro i y hi ⟨-, w', b, rfl, hK, hT, hB⟩
      have h' := h.kg hW hK
      obtain ⟨w1, e1, k1⟩ := c_kept h' hi ha
      have K1 : Kg F nQ w w1 1 4 := hK.tr0 (k1.kg h'.FC hK.2.2.1)
      have T1 := k1.keep h'.FC hT rfl
      have h1 := h'.kf k1
      have hkr := kpI_rng (ρ := ρ) (m := 0) (fz := 0) (t := i) (a := a)
      have n1 : ¬ (ρ 2 ≤ i) := by omega
      have n2 : (zI (kpI ρ 0 0 i a) = zI (-1)) = (kpI ρ 0 0 i a = -1) := zI_eq ⟨by omega, by omega⟩ ⟨by omega, by omega⟩
      left
      by_cases hk : kpI ρ 0 0 i a = -1
      · rw [eq_true hk] at n2
        refine ⟨(zN (i + 1), w1), ?_, by omega, w1, b, rfl, K1, T1, hB.congr fun z => ?_⟩
        · simp (disch := omega) only [b2_some, bd_some, nm_eq, Option.map_some, zN_lit, zN_add, zN_mul, zN_neg1, if_true, if_false, reduceIte, eq_self, Nat.reduceEqDiff, Nat.reduceAdd, Nat.reduceMul, Nat.reduceSub, Nat.reduceLeDiff, Nat.one_ne_zero, not_false_eq_true, Bool.false_eq_true, zN_eq, zN_lt, zN_le,  fX11_init_b41, h'.g0, h'.g1, h'.xI, h'.1.FI, c_snet h'.1.2.1, c_sI h'.1.2.1, c_nal h'.1.2.2.1, c_ntl h'.1.2.2.1, c_nn h'.1.2.2.1, c_alI h'.1.2.2.1, c_tlI h'.1.2.2.1, c_size h'.1.2.2.1, c_size2 h'.1.2.2.1, n1, e1, n2, fX11_init_b100]
        · rw [cnd_succ]
          exact ⟨.inl, fun g => g.elim id (fun ⟨k, e, _⟩ => by omega)⟩
      · obtain ⟨k, hk'⟩ := Int.eq_ofNat_of_zero_le (show 0 ≤ kpI ρ 0 0 i a by omega)
        rw [eq_false hk] at n2
        rw [hk'] at e1 n2 hkr
        rw [zI_cast] at e1 n2
        have I1 : hIs w1 (wN w) 18 = some () := c_C T1
        obtain ⟨w2, b2, e2, K2, T2, B2⟩ := c_off2 h hW ha K1 T1 (fun z hz => cnd_le hz) hB (y := k) (by omega)
        have h2 := h.kg hW K2
        by_cases hm : k < aMx ρ a
        · have I2 : hIs w2 (wN w) 18 = some () := c_C T2
          obtain ⟨w3, b3, e3, K3, T3, B3⟩ := c_off2 h hW ha K2 T2 (fun z hz => hz.elim cnd_le (fun e => by omega)) B2 (y := k + 1) (by omega)
          refine ⟨(zN (i + 1), w3), ?_, by omega, w3, b3, rfl, K3, T3, B3.congr fun z => ?_⟩
          · have n3 : ¬ (aMx ρ a ≤ k) := by omega
            simp (disch := omega) only [b2_some, bd_some, nm_eq, Option.map_some, zN_lit, zN_add, zN_mul, zN_neg1, if_true, if_false, reduceIte, eq_self, Nat.reduceEqDiff, Nat.reduceAdd, Nat.reduceMul, Nat.reduceSub, Nat.reduceLeDiff, Nat.one_ne_zero, not_false_eq_true, Bool.false_eq_true, zN_eq, zN_lt, zN_le,  fX11_init_b41, h'.g0, h'.g1, h'.xI, h'.1.FI, c_snet h'.1.2.1, c_sI h'.1.2.1, c_nal h'.1.2.2.1, c_ntl h'.1.2.2.1, c_nn h'.1.2.2.1, c_alI h'.1.2.2.1, c_tlI h'.1.2.2.1, c_size h'.1.2.2.1, c_size2 h'.1.2.2.1, n1, e1, n2, I1, e2, c_aI h2.1.2.2.1 ha, c_most h2.1.2.2.1 ha, n3, fX11_init_b92, I2, e3, fX11_init_b100]
          · rw [cnd_succ]
            constructor
            · rintro ((g | g) | g)
              · exact .inl g
              · exact .inr ⟨k, hk', .inl g⟩
              · exact .inr ⟨k, hk', .inr ⟨hm, g⟩⟩
            · rintro (g | ⟨k', g1, g2⟩)
              · exact .inl (.inl g)
              · have : k' = k := by omega
                subst this
                rcases g2 with g2 | ⟨-, g2⟩
                · exact .inl (.inr g2)
                · exact .inr g2
        · refine ⟨(zN (i + 1), w2), ?_, by omega, w2, b2, rfl, K2, T2, B2.congr fun z => ?_⟩
          · have n3 : aMx ρ a ≤ k := by omega
            simp (disch := omega) only [b2_some, bd_some, nm_eq, Option.map_some, zN_lit, zN_add, zN_mul, zN_neg1, if_true, if_false, reduceIte, eq_self, Nat.reduceEqDiff, Nat.reduceAdd, Nat.reduceMul, Nat.reduceSub, Nat.reduceLeDiff, Nat.one_ne_zero, not_false_eq_true, Bool.false_eq_true, zN_eq, zN_lt, zN_le,  fX11_init_b41, h'.g0, h'.g1, h'.xI, h'.1.FI, c_snet h'.1.2.1, c_sI h'.1.2.1, c_nal h'.1.2.2.1, c_ntl h'.1.2.2.1, c_nn h'.1.2.2.1, c_alI h'.1.2.2.1, c_tlI h'.1.2.2.1, c_size h'.1.2.2.1, c_size2 h'.1.2.2.1, n1, e1, n2, I1, e2, c_aI h2.1.2.2.1 ha, c_most h2.1.2.2.1 ha, n3, fX11_init_b100]
          · rw [cnd_succ]
            constructor
            · rintro (g | g)
              · exact .inl g
              · exact .inr ⟨k, hk', .inl g⟩
            · rintro (g | ⟨k', g1, g2⟩)
              · exact .inl g
              · have : k' = k := by omega
                subst this
                rcases g2 with g2 | ⟨g2, -⟩
                · exact .inr g2
                · omega
    · rintro y ⟨-, w', b, rfl, hK, hT, hB⟩
      have h' := h.kg hW hK
      refine ⟨w', ?_, hK, ?_, ?_⟩
      · simp (disch := omega) only [b2_some, bd_some, nm_eq, Option.map_some, zN_lit, zN_add, zN_mul, zN_neg1, if_true, if_false, reduceIte, eq_self, Nat.reduceEqDiff, Nat.reduceAdd, Nat.reduceMul, Nat.reduceSub, Nat.reduceLeDiff, Nat.one_ne_zero, not_false_eq_true, Bool.false_eq_true, zN_eq, zN_lt, zN_le,  fX11_init_b41, h'.g0, h'.g1, h'.xI, h'.1.FI, c_snet h'.1.2.1, c_sI h'.1.2.1, c_nal h'.1.2.2.1, c_ntl h'.1.2.2.1, c_nn h'.1.2.2.1, c_alI h'.1.2.2.1, c_tlI h'.1.2.2.1, c_size h'.1.2.2.1, c_size2 h'.1.2.2.1, Nat.le_refl]
      · rw [bst_eq hB]; exact hT
      · rw [bst_eq hB]; exact hB
    · unfold cnd
      constructor
      · rintro (g | g)
        · exact .inl g
        · exact .inr (.inl g)
      · rintro (g | g | ⟨t, ht, -⟩)
        · exact .inl g
        · exact .inr g
        · omega
  obtain ⟨r, e, H⟩ := H
  refine ⟨r, ?_, H⟩
  have p1 := c_P (hMk_eq w 4 (.inr (18, [.null, .int 0, .long 0, .null]))) (k := 3) (show 3 < 4 by decide) (.ref x)
  rw [hMk_up] at p1
  have p2 := c_P (hMk_eq w 4 (.inr (18, [.null, .int 0, .long 0, .ref x]))) (k := 1) (show 1 < 4 by decide) (.int (-1))
  rw [hMk_up] at p2
  have p3 := c_P (hMk_eq w 4 (.inr (18, [.null, .int (-1), .long 0, .ref x]))) (k := 2) (show 2 < 4 by decide) (.long (-1))
  rw [hMk_up] at p3
  have p4 := c_P (hMk_eq w 4 (.inr (18, [.null, .int (-1), .long (-1), .ref x]))) (k := 0) (show 0 < 4 by decide) (.ref (nAr ν a))
  rw [hMk_up] at p4
  have I7 : hIs (hMk w 4 (.inr (18, [.ref (nAr ν a), .int (-1), .long (-1), .ref x]))) (wN w) 18 = some () := c_C (hMk_eq _ _ _)
  have I9 : hIs w9 (wN w) 18 = some () := c_C t9'
  have e9' : fX11_offer (wN w) 0 (hMk w 4 (.inr (18, [.ref (nAr ν a), .int (-1), .long (-1), .ref x]))) = some w9 := e9
  unfold fX11_init
  simp only [p1, bd_some, List.set, p2, p3, p4, I7, e9', c_aI M9.1.2.2.1 ha, c_most M9.1.2.2.1 ha, b2_some, I9, e16]
  exact e
end
