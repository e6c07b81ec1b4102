/-! Plain law: the component's margin -/
theorem PT_facts {ρ : Nat → Nat} {t : Nat} (hI : Inv ρ) (ht : t < ρ 2) {p : List Nat} (hp : PT ρ 0 (-1) 0 t = some p) : isP (aFr ρ) (aTo ρ) (pTo ρ t) (pFr ρ t) p ∧ (∀ b ∈ p, uT ρ 0 (-1) 0 b) ∧ p.Nodup ∧ ∀ b ∈ p, aFr ρ b ≠ pTo ρ t := by
  unfold PT at hp
  cases hd : dT ρ 0 (-1) 0 t (pFr ρ t) with
  | none => rw [hd] at hp; cases hp
  | some z =>
    rw [hd] at hp
    have := Option.some.inj hp
    subst this
    obtain ⟨-, h2, h3, h4⟩ := dT_cod hI ht hd
    exact ⟨h2, h3, h4, fun b hb => (pT_dec hI ht _ _ z (Nat.lt_succ_self _) (dT_nn hI ht hd) hd b hb).2.2⟩
theorem mnA_spec {ρ : Nat → Nat} {t : Nat} (hI : Inv ρ) (ht : t < ρ 2) {p : List Nat} (hp : ∀ a ∈ p, a < ρ 1) (hl : p.length < 10) : ∀ m, m ≤ p.length →
    (mnA ρ t p 0 m = 2147483647 ∧ ∀ j, j < m → lT ρ (pmk ρ t p j) (p.getD j 0) 0 t (nd ρ t p j) = none) ∨ ∃ j v, j < m ∧ lT ρ (pmk ρ t p j) (p.getD j 0) 0 t (nd ρ t p j) = some v ∧ mnA ρ t p 0 m = psm ρ t p j + v ∧ mnA ρ t p 0 m < 1000000 ∧ ∀ i, i < m → ∀ v', lT ρ (pmk ρ t p i) (p.getD i 0) 0 t (nd ρ t p i) = some v' → mnA ρ t p 0 m ≤ psm ρ t p i + v'
  | 0, _ => .inl ⟨rfl, fun j hj => by omega⟩
  | m + 1, h => by
    have ih := mnA_spec hI ht hp hl m (by omega)
    have hps := psm_le hI ht hp (show m ≤ p.length by omega)
    have hm9 : m * 29979 ≤ 10 * 29979 := Nat.mul_le_mul_right _ (by omega)
    unfold mnA
    cases e : lT ρ (pmk ρ t p m) (p.getD m 0) 0 t (nd ρ t p m) with
    | none =>
      have ea : asI ρ t p 0 m = 2147483647 := by unfold asI lI; rw [e]; rfl
      rcases ih with ⟨i1, i2⟩ | ⟨j, v, i1, i2, i3, i4, i5⟩
      · rw [ea, i1, if_neg (by omega)]
        refine .inl ⟨rfl, fun j hj => ?_⟩
        by_cases c : j = m
        · subst c; exact e
        · exact i2 j (by omega)
      · rw [ea, if_neg (by omega)]
        refine .inr ⟨j, v, by omega, i2, i3, i4, fun i hi v' hv' => ?_⟩
        by_cases c : i = m
        · subst c; rw [e] at hv'; cases hv'
        · exact i5 i (by omega) v' hv'
    | some u =>
      have hr := lT_rng hI ht e
      have ea : asI ρ t p 0 m = psm ρ t p m + u := by
        unfold asI lI
        rw [e, Option.getD_some, if_neg (by omega)]
      rcases ih with ⟨i1, i2⟩ | ⟨j, v, i1, i2, i3, i4, i5⟩
      · rw [ea, i1, if_pos (by omega)]
        refine .inr ⟨m, u, by omega, e, rfl, by omega, fun i hi v' hv' => ?_⟩
        by_cases c : i = m
        · subst c; rw [e] at hv'; cases hv'; omega
        · rw [i2 i (by omega)] at hv'; cases hv'
      · rw [ea]
        by_cases c0 : (psm ρ t p m : Int) + u < mnA ρ t p 0 m
        · rw [if_pos c0]
          refine .inr ⟨m, u, by omega, e, rfl, by omega, fun i hi v' hv' => ?_⟩
          by_cases c : i = m
          · subst c; rw [e] at hv'; cases hv'; omega
          · have := i5 i (by omega) v' hv'; omega
        · rw [if_neg c0]
          refine .inr ⟨j, v, by omega, i2, i3, i4, fun i hi v' hv' => ?_⟩
          by_cases c : i = m
          · subst c; rw [e] at hv'; cases hv'; omega
          · exact i5 i (by omega) v' hv'
def mgV (o : Option Int) (f : Int) : Int := match o with
  | none => -1
  | some y => y - f
theorem mrg_eq {ρ : Nat → Nat} {t : Nat} (hI : Inv ρ) (ht : t < ρ 2) {p : List Nat} (hp : PT ρ 0 (-1) 0 t = some p) {o : Option Int} (ho : MnC ρ t (fun k => k ∈ p) o) : mrgI ρ 0 t = mgV o ((pVa ρ t * pco ρ p + ptl ρ p : Nat) : Int) := by
  obtain ⟨f1, f2, f3, f4⟩ := PT_facts hI ht hp
  obtain ⟨g1, g2, -⟩ := PT_24 hI ht hp
  unfold mrgI
  rw [hp]
  dsimp only
  have hm := mnA_spec hI ht g2 g1 p.length (Nat.le_refl _)
  have idx : ∀ k, k ∈ p → ∃ i, i < p.length ∧ p.getD i 0 = k := fun k hk => by
    obtain ⟨i, hi, e⟩ := List.getElem_of_mem hk
    exact ⟨i, hi, by rw [List.getD_eq_getElem?_getD, List.getElem?_eq_getElem hi]; exact e⟩
  rcases ho with ⟨rfl, h2⟩ | ⟨k, y, h1, rfl, h3, h4⟩
  · rcases hm with ⟨i1, -⟩ | ⟨j, v, i1, i2, i3, i4, i5⟩
    · rw [i1, if_pos rfl]; rfl
    · obtain ⟨y, hy, -⟩ := mrg_own hI ht f1 f2 f3 i1 i2
      rw [h2 _ (getD_mem i1)] at hy
      cases hy
  · obtain ⟨i, hi, ei⟩ := idx k h1
    have hy := h3
    rw [← ei] at hy
    obtain ⟨j, v, a1, a2, a3⟩ := mrg_dev hI ht f1 f4 hi hy
    rcases hm with ⟨i1, i2⟩ | ⟨j2, v2, i1, i2, i3, i4, i5⟩
    · rw [i2 j (by omega)] at a2; cases a2
    · rw [if_neg (by omega)]
      obtain ⟨y2, hy2, hle⟩ := mrg_own hI ht f1 f2 f3 i1 i2
      have b1 := h4 _ (getD_mem i1) y2 hy2
      have b2 := i5 j (by omega) v a2
      unfold mgV
      dsimp only
      omega
section
variable {w : WH} {x s q F : Nat} {ρ : Nat → Nat} {ν : NH} {t a : Nat}
theorem Kg.bU {Q : Nat → Prop} {w w' : WH} {c n b ws m m' : Nat} {g : Nat → Int64} {st : Int32} (h : Kg F Q w w' c n) (hB : Bs w' b ws g m st) (h1 : wN w ≤ b) (h2 : wN w ≤ ws) : Kg F Q w (bU w' b ws g m' st) c n := by
  have k1 := h.up hB.1 rfl (.inl h1) (bsC ws (uM m') st)
  exact k1.up (show (hUp w' b (bsC ws (uM m') st)).1 ws = _ from by rw [hUp_ne _ _ hB.ne.symm]; exact hB.2.1) rfl (.inl h2) _
theorem c_mrg (h : MR w x F s q ν ρ) (hW : WF w) (ht : t < ρ 2) (hC : 2 ≤ wC w) (hS : 4 ≤ wS w) : ∃ w', fX1_margin x (zN t) w = some (.inl (zI (mrgI ρ 0 t)), w') ∧ Kg F nQ w w' 2 4 := by
  have hI := h.inv
  have eF : (2305843009213693951 : Int64) = zJ FAR := rfl
  obtain ⟨w1, e1, k1, hP⟩ := c_walk h.1 ht
  have M1 := h.kf k1
  have K1 := k1.kg (Q := nQ) h.FC hW
  have W1 := K1.2.2.1
  cases hp : PT ρ 0 (-1) 0 t with
  | none =>
    rw [hp] at e1
    refine ⟨w1, ?_, K1.mono (by omega) (by omega)⟩
    have em : mrgI ρ 0 t = -1 := by unfold mrgI; rw [hp]
    rw [em]
    simp (disch := omega) only [b2_some, bd_some, nm_eq, Option.map_some, zN_lit, zN_add, zN_mul, zN_neg1, if_true, if_false, reduceIte, eq_self, Nat.reduceEqDiff, Nat.reduceAdd, Nat.reduceMul, Nat.reduceSub, Nat.reduceLeDiff, Nat.one_ne_zero, not_false_eq_true, Bool.false_eq_true, zN_eq, zN_lt, zN_le,  fX1_margin, h.g0, h.g1, h.xI, h.1.FI, c_snet h.1.2.1, c_sI h.1.2.1, c_nal h.1.2.2.1, c_ntl h.1.2.2.1, c_nn h.1.2.2.1, c_alI h.1.2.2.1, c_tlI h.1.2.2.1, c_size h.1.2.2.1, c_size2 h.1.2.2.1, c_tripAt1 h ht, ex_, e1, Option.isSome_none]
  | some p =>
    rw [hp] at e1
    obtain ⟨g1, g2, g3⟩ := PT_24 hI ht hp
    obtain ⟨p1, f, p2, p3⟩ := hP p hp
    have hCS : 2 ≤ wC w1 ∧ 4 ≤ wS w1 := by have := K1.2.2.2.2.2; omega
    have K2 : Kg F nQ w (bsN w1 1) 2 4 := K1.tr0 (bsN_Kg M1.FC W1 1)
    have hN1 : wN w ≤ wN w1 := K1.2.2.2.1
    -- the arcs of the path are set
    have HA : ∃ r, fX1_margin_l36 x (nTr ν t) (wN w1) 0 (bsN w1 1) = some r ∧ ∃ w', r = (.inl (zI (mrgI ρ 0 t)), w') ∧ Kg F nQ w w' 2 4 := by
      refine wh_up (P := fun i y => i ≤ p.length ∧ ∃ w' g m, y = (zN i, w') ∧ Kg F nQ w w' 2 4 ∧ Bs w' (wN w1) (wN w1 + 1) g m 1 ∧ (∀ z, m.testBit z = true ↔ z ∈ p.take i) ∧ w'.1 F = some (finC F (zN p.length)) ∧ w'.1 (F + 3) = some (intC f)) p.length ?_ ?_ p.length 0 _ (by omega) ⟨by omega, _, _, _, rfl, K2, bsN_Bs w1 1, fun z => ?_, ?_, ?_⟩
      · rintro i y hi ⟨-, w', g, m, rfl, hK, hB, hm, d1, d2⟩
        have h' := h.kg hW hK
        have hk24 : p.getD i 0 < 24 := g3 _ (getD_mem hi)
        have s1 := c_set1 hB (k := p.getD i 0) (by omega)
        have r1 : gI w' F 23 5 = some (zN p.length) := c_I d1 5
        have r2 : gR w' F 23 2 = some (some (F + 3)) := c_R d1 2
        have r3 : ldI w' (F + 3) 0 (zN i) = some (zN (p.getD i 0)) := by rw [c_ldI d2 (by omega) (by omega), p3 i hi]
        have r4 : hIs w' (wN w1) 0 = some () := c_C hB.1
        have n1 : ¬ (p.length ≤ i) := by omega
        have d1' := bs_keep hB (m' := m ||| 2 ^ p.getD i 0) d1 (show 123 ≠ 100 by omega) (.inl (show 123 ≠ 1 by omega))
        have d2' := bs_keep hB (m' := m ||| 2 ^ p.getD i 0) d2 (show (0 : Nat) ≠ 100 by omega) (.inl (show (0 : Nat) ≠ 1 by omega))
        left
        refine ⟨(zN (i + 1), bU w' (wN w1) (wN w1 + 1) g (m ||| 2 ^ p.getD i 0) 1), ?_, by omega, _, _, _, rfl, hK.bU hB hN1 (by omega), hB.bU (orb_lt hB.2.2.2 (by omega)), fun z => ?_, d1', d2'⟩
        · rw [show (1 : Int32) = zN 1 from rfl] at s1 ⊢
          simp (disch := omega) only [b2_some, bd_some, nm_eq, Option.map_some, zN_lit, zN_add, zN_mul, zN_neg1, if_true, if_false, reduceIte, eq_self, Nat.reduceEqDiff, Nat.reduceAdd, Nat.reduceMul, Nat.reduceSub, Nat.reduceLeDiff, Nat.one_ne_zero, not_false_eq_true, Bool.false_eq_true, zN_eq, zN_lt, zN_le,  fX1_margin_b36, h'.g0, h'.g1, h'.xI, h'.1.FI, c_snet h'.1.2.1, c_sI h'.1.2.1, c_nal h'.1.2.2.1, c_ntl h'.1.2.2.1, c_nn h'.1.2.2.1, c_alI h'.1.2.2.1, c_tlI h'.1.2.2.1, c_size h'.1.2.2.1, c_size2 h'.1.2.2.1, r1, r2, n1, r3, r4, s1]
        · rw [Nat.testBit_or, Bool.or_eq_true, hm z, Nat.testBit_two_pow, decide_eq_true_eq, List.take_succ, List.mem_append]
          have : p[i]? = some (p.getD i 0) := by rw [List.getD_eq_getElem?_getD, List.getElem?_eq_getElem hi]; rfl
          rw [this]
          simp only [Option.toList, List.mem_singleton]
          exact or_congr Iff.rfl eq_comm
      · rintro y ⟨-, w', g, m, rfl, hK, hB, hm, d1, d2⟩
        have h' := h.kg hW hK
        rw [List.take_length] at hm
        have r1 : gI w' F 23 5 = some (zN p.length) := c_I d1 5
        have r4 : hIs w' (wN w1) 0 = some () := c_C hB.1
        obtain ⟨r0, e0, hx0, -⟩ := c_nsb1 hB (f := 0) (by omega)
        -- the smallest
        have HB : ∃ r, fX1_margin_l80 x (nTr ν t) (wN w1) (zJ FAR) (zI r0) w' = some r ∧ ∃ w', r = (.inl (zI (mrgI ρ 0 t)), w') ∧ Kg F nQ w w' 2 4 := by
          refine wh_dn (P := fun d y => ∃ fq o r w2, d = 100 - fq ∧ fq ≤ 64 ∧ y = (encF o, zI r, w2) ∧ Kg F nQ w w2 2 4 ∧ Bs w2 (wN w1) (wN w1 + 1) g m 1 ∧ NxB m.testBit fq r ∧ MnC ρ t (fun k => k ∈ p ∧ k < fq) o) ?_ 100 _ ⟨0, none, r0, w', rfl, by omega, rfl, hK, hB, hx0, .inl ⟨rfl, fun k hk => by omega⟩⟩
          rintro d y ⟨fq, o, r, w2, rfl, hfq, rfl, hK2, hB2, hx, hM⟩
          have h2 := h.kg hW hK2
          have ob : ∀ y, o = some y → 0 ≤ y ∧ y ≤ 300000 := fun y hy => by
            rcases hM with ⟨h, -⟩ | ⟨k, y', -, h, h', -⟩
            · rw [h] at hy; cases hy
            · rw [h] at hy; cases hy; exact lTa_rng hI ht h'
          rcases hx with ⟨rfl, hx⟩ | ⟨i, rfl, hx1, hx2, hx3⟩
          · right
            have hM' : MnC ρ t (fun k => k ∈ p) o := hM.congr fun k => ⟨fun h => h.1, fun h => ⟨h, by
              by_cases c : k < fq
              · exact c
              · have := (hm k).mpr h
                rw [hx k (by omega)] at this
                cases this⟩⟩
            have eM := mrg_eq hI ht hp hM'
            obtain ⟨w3, e3, k3⟩ := c_fltBy h2 ht
            rw [lT_none hI ht, hp, Option.map_some, encF_some] at e3
            have n1 : (zI (-1) < zN 0) = True := eq_true (by decide)
            cases ho : o with
            | none =>
              rw [ho] at eM
              have c0 : (lg_cmp (zJ FAR) (zJ FAR) = zN 0) = True := eq_true (by decide +kernel)
              refine ⟨_, ?_, w2, rfl, hK2⟩
              rw [eM, show mgV none ((pVa ρ t * pco ρ p + ptl ρ p : Nat) : Int) = -1 from rfl, show encF none = zJ FAR from rfl]
              simp (disch := omega) only [b2_some, bd_some, nm_eq, Option.map_some, zN_lit, zN_add, zN_mul, zN_neg1, if_true, if_false, reduceIte, eq_self, Nat.reduceEqDiff, Nat.reduceAdd, Nat.reduceMul, Nat.reduceSub, Nat.reduceLeDiff, Nat.one_ne_zero, not_false_eq_true, Bool.false_eq_true, zN_eq, zN_lt, zN_le,  fX1_margin_b80, n1, fX1_margin_b112, eF, c0, Option.map]
            | some y =>
              rw [ho] at eM
              have hy := ob y ho
              have f0 := FAR_v
              have c0 : (lg_cmp (zJ y) (zJ FAR) = zN 0) = False := by
                rw [lgc_eq' (a := y) (b := FAR) ⟨by omega, by omega⟩ ⟨by omega, by omega⟩]
                exact eq_false (by omega)
              refine ⟨_, ?_, w3, rfl, hK2.tr0 (k3.kg h2.FC hK2.2.2.1)⟩
              rw [eM, show mgV (some y) ((pVa ρ t * pco ρ p + ptl ρ p : Nat) : Int) = y - ((pVa ρ t * pco ρ p + ptl ρ p : Nat) : Int) from rfl, encF_some]
              simp (disch := omega) only [b2_some, bd_some, nm_eq, Option.map_some, zN_lit, zN_add, zN_mul, zN_neg1, if_true, if_false, reduceIte, eq_self, Nat.reduceEqDiff, Nat.reduceAdd, Nat.reduceMul, Nat.reduceSub, Nat.reduceLeDiff, Nat.one_ne_zero, not_false_eq_true, Bool.false_eq_true, zN_eq, zN_lt, zN_le,  fX1_margin_b80, n1, fX1_margin_b112, eF, c0, h2.xI, e3, Option.map, zJ_sub, zJ_I]
          · left
            have hip : i ∈ p := (hm i).mp hx2
            have hi1 := g2 i hip
            have hi24 := g3 i hip
            obtain ⟨w3, e3, k3⟩ := c_fwo h2 ht hi1
            have h3 := h2.kf k3
            have hB3 := hB2.kf h2.FC k3
            obtain ⟨r', e4, hx4, -⟩ := c_nsb1 hB3 (f := i + 1) (by omega)
            have r5 : hIs w3 (wN w1) 0 = some () := c_C hB3.1
            have n1 : (zN i < zN 0) = False := by rw [zN_lt (by omega) (by omega)]; exact eq_false (by omega)
            have em := mnL_enc (o' := lT ρ 0 i 0 t (pFr ρ t)) ob (fun y' hy' => lTa_rng hI ht hy')
            refine ⟨(encF (mnO o (lT ρ 0 i 0 t (pFr ρ t))), zI r', w3), 100 - (i + 1), by omega, ?_, i + 1, _, r', w3, rfl, by omega, rfl, hK2.tr0 (k3.kg h2.FC hK2.2.2.1), hB3, hx4, (hM.add i).congr fun k => ?_⟩
            · rw [zI_cast]
              generalize encF (lT ρ 0 i 0 t (pFr ρ t)) = u at e3 em
              simp (disch := omega) only [b2_some, bd_some, nm_eq, Option.map_some, zN_lit, zN_add, zN_mul, zN_neg1, if_true, if_false, reduceIte, eq_self, Nat.reduceEqDiff, Nat.reduceAdd, Nat.reduceMul, Nat.reduceSub, Nat.reduceLeDiff, Nat.one_ne_zero, not_false_eq_true, Bool.false_eq_true, zN_eq, zN_lt, zN_le,  fX1_margin_b80, n1, h2.xI, e3, em, r5, e4]
            · constructor
              · rintro (⟨a1, a2⟩ | rfl)
                · exact ⟨a1, by omega⟩
                · exact ⟨hip, by omega⟩
              · rintro ⟨a1, a2⟩
                by_cases c : k = i
                · exact .inr c
                · refine .inl ⟨a1, ?_⟩
                  by_cases c2 : k < fq
                  · exact c2
                  · have := hx3 k (by omega) (by omega)
                    rw [(hm k).mpr a1] at this
                    cases this
        obtain ⟨r, e, w3, rfl, hK3⟩ := HB
        refine ⟨_, ?_, w3, rfl, hK3⟩
        simp (disch := omega) only [b2_some, bd_some, nm_eq, Option.map_some, zN_lit, zN_add, zN_mul, zN_neg1, if_true, if_false, reduceIte, eq_self, Nat.reduceEqDiff, Nat.reduceAdd, Nat.reduceMul, Nat.reduceSub, Nat.reduceLeDiff, Nat.one_ne_zero, not_false_eq_true, Bool.false_eq_true, zN_eq, zN_lt, zN_le,  fX1_margin_b36, h'.g0, h'.g1, h'.xI, h'.1.FI, c_snet h'.1.2.1, c_sI h'.1.2.1, c_nal h'.1.2.2.1, c_ntl h'.1.2.2.1, c_nn h'.1.2.2.1, c_alI h'.1.2.2.1, c_tlI h'.1.2.2.1, c_size h'.1.2.2.1, c_size2 h'.1.2.2.1, r1, Nat.le_refl, fX1_margin_b68, r4, e0, eF, e, Option.map]
      · rw [Nat.zero_testBit]
        exact ⟨(fun h => by cases h), fun h => by cases h⟩
      · exact (bsN_Kg (Q := nQ) M1.FC W1 1).1 _ (W1.lt p1) |> fun _ => by
          unfold bsN
          have hl := M1.FC.lt W1
          rw [hMk_ne _ _ _ (show F ≠ wN w1 + 1 by omega), hMk_ne _ _ _ (show F ≠ wN w1 by omega)]
          exact p1
      · unfold bsN
        have hl := M1.FC.lt W1
        rw [hMk_ne _ _ _ (show F + 3 ≠ wN w1 + 1 by omega), hMk_ne _ _ _ (show F + 3 ≠ wN w1 by omega)]
        exact p2
    obtain ⟨r, e, w3, rfl, hK3⟩ := HA
    refine ⟨w3, ?_, hK3⟩
    have e5 := c_bsnew (w := w1) (n := 24) (by omega) (by omega) hCS.1 hCS.2
    have e5' : fJ17_init (wN w1) (zN 24) (hMk w1 3 (.inr (0, [.null, .int (zN 0), .int (zN 0)]))) = some (bsN w1 (zN 1)) := e5
    have e' : fX1_margin_l36 x (nTr ν t) (wN w1) (zN 0) (bsN w1 (zN 1)) = _ := e
    simp (disch := omega) only [b2_some, bd_some, nm_eq, Option.map_some, zN_lit, zN_add, zN_mul, zN_neg1, if_true, if_false, reduceIte, eq_self, Nat.reduceEqDiff, Nat.reduceAdd, Nat.reduceMul, Nat.reduceSub, Nat.reduceLeDiff, Nat.one_ne_zero, not_false_eq_true, Bool.false_eq_true, zN_eq, zN_lt, zN_le,  fX1_margin, h.g0, h.g1, h.xI, h.1.FI, c_snet h.1.2.1, c_sI h.1.2.1, c_nal h.1.2.2.1, c_ntl h.1.2.2.1, c_nn h.1.2.2.1, c_alI h.1.2.2.1, c_tlI h.1.2.2.1, c_size h.1.2.2.1, c_size2 h.1.2.2.1, c_tripAt1 h ht, ex_, e1, Option.isSome_some, c_new (show 1 ≤ wC w1 by omega) (show 3 ≤ wS w1 by omega), e5', e']
end
