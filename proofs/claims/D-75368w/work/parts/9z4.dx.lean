/-! Plain law: the component's path of arcs -/
noncomputable def plI (ρ : Nat → Nat) (t : Nat) : Int := match PT ρ 0 (-1) 0 t with
  | none => -1
  | some p => (p.length : Int)
noncomputable def paI (ρ : Nat → Nat) (t : Nat) (z : Int) : Int := match PT ρ 0 (-1) 0 t with
  | none => -1
  | some p => if 0 ≤ z ∧ z < p.length then (p.getD z.toNat 0 : Int) else -1
section
variable {w w0 : WH} {x s q F n : Nat} {ρ : Nat → Nat} {ν : NH} {t a : Nat} {σ : SG} {η : RH}
theorem c_pathOf (h : MR w x F s q ν ρ) (hW : WF w) (ht : t < ρ 2) (hC : 10 ≤ wC w) (hS : 31 ≤ wS w) :
    (PT ρ 0 (-1) 0 t = none ∧ ∃ w', fX1_pathOf x (zN t) w = some (.inl none, w') ∧ Kf w w' F) ∨
    ∃ p w' L0 it, PT ρ 0 (-1) 0 t = some p ∧ fX1_pathOf x (zN t) w = some (.inl (some L0), w') ∧ LkC w' L0 p.length it ∧ (∀ i, i < p.length → it (p.length - i) = nAr ν (p.getD i 0)) ∧ Kg F nQ w w' 10 31 ∧ wN w' = L0 + p.length + 1 ∧ wN w ≤ L0 := by
  have hI := h.inv
  obtain ⟨w1, e, k, hp⟩ := c_walk h.1 ht
  have h1 := h.kf k
  cases e1 : PT ρ 0 (-1) 0 t with
  | none =>
    left
    rw [e1] at e
    simp only [Option.isSome_none, if_neg Bool.false_ne_true] at e
    refine ⟨rfl, w1, ?_, k⟩
    simp (disch := omega) only [b2_some, bd_some, nm_eq, Option.map_some, zN_lit, zN_add, zN_mul, zN_neg1, if_true, if_false, reduceIte, eq_self, Nat.reduceEqDiff, Nat.reduceAdd, Nat.reduceMul, Nat.reduceSub, Nat.reduceLeDiff, Nat.one_ne_zero, not_false_eq_true, Bool.false_eq_true, zN_eq, zN_lt, zN_le,  fX1_pathOf, h.g0, h.g1, h.xI, h.1.FI, c_snet h.1.2.1, c_sI h.1.2.1, c_nal h.1.2.2.1, c_ntl h.1.2.2.1, c_nn h.1.2.2.1, c_alI h.1.2.2.1, c_tlI h.1.2.2.1, c_size h.1.2.2.1, c_size2 h.1.2.2.1, c_tripAt1 h ht, ex_, e]
  | some p =>
    right
    rw [e1] at e
    simp only [Option.isSome_some, if_true] at e
    obtain ⟨f1, f2⟩ := PT_facts' hI ht e1
    obtain ⟨pc1, f, pc2, pc3⟩ := hp p e1
    have k1 : Kg F nQ w w1 0 0 := k.kg h.FC hW
    have W1 := k1.2.2.1
    have cC : wC w1 = wC w := congrArg (fun z => z.2.2.1) k.2.1
    have cS : wS w1 = wS w := congrArg (fun z => z.2.2.2) k.2.1
    have hF6 := h1.FC.lt W1
    have n1 : hNw w1 4 11 [.int (zN 0), .int (zN 0), .null, .null] = some (wN w1, hMk w1 4 (.inr (11, [.int (zN 0), .int (zN 0), .null, .null]))) := c_new (by omega) (by omega)
    have A0 := hMk_eq w1 4 (.inr (11, [.int (zN 0), .int (zN 0), .null, .null]))
    have K2 : Kg F nQ w (hMk w1 4 (.inr (11, [.int (zN 0), .int (zN 0), .null, .null]))) 1 4 := (k1.tr0 (Kg.mk h1.FC W1 4 _)).mono (by omega) (by omega)
    have N2 : wN (hMk w1 4 (.inr (11, [.int (zN 0), .int (zN 0), .null, .null]))) = wN w1 + 0 + 1 := rfl
    have B2 : ∀ b, b < wN w1 → (hMk w1 4 (.inr (11, [.int (zN 0), .int (zN 0), .null, .null]))).1 b = w1.1 b := fun b hb => hMk_ne _ _ _ (by omega)
    have p1 := c_P A0 (k := 0) (show 0 < 4 by decide) (.int (zN 0))
    have p2 := c_P A0 (k := 1) (show 1 < 4 by decide) (.int (zN 0))
    rw [hMk_up] at p1 p2
    have i1 : fJ31_init (wN w1) (hMk w1 4 (.inr (11, [.int (zN 0), .int (zN 0), .null, .null]))) = some (hMk w1 4 (.inr (11, [.int (zN 0), .int (zN 0), .null, .null]))) := by
      have p1' : hPut (hMk w1 4 (.inr (11, [.int (zN 0), .int (zN 0), .null, .null]))) (wN w1) 11 0 (.int (zN 0)) = some (hMk w1 4 (.inr (11, [.int (zN 0), .int (zN 0), .null, .null]))) := p1
      have p2' : hPut (hMk w1 4 (.inr (11, [.int (zN 0), .int (zN 0), .null, .null]))) (wN w1) 11 1 (.int (zN 0)) = some (hMk w1 4 (.inr (11, [.int (zN 0), .int (zN 0), .null, .null]))) := p2
      simp (disch := omega) only [b2_some, bd_some, nm_eq, Option.map_some, zN_lit, zN_add, zN_mul, zN_neg1, if_true, if_false, reduceIte, eq_self, Nat.reduceEqDiff, Nat.reduceAdd, Nat.reduceMul, Nat.reduceSub, Nat.reduceLeDiff, Nat.one_ne_zero, not_false_eq_true, Bool.false_eq_true, zN_eq, zN_lt, zN_le,  fJ31_init, fJ30_init__11, fJ1_init__11, fJ0_init, p1', p2']
    have H0 : LkC (hMk w1 4 (.inr (11, [.int (zN 0), .int (zN 0), .null, .null]))) (wN w1) 0 (fun _ => 0) := ⟨⟨zN 0, A0⟩, fun j j1 j2 => by omega⟩
    generalize hMk w1 4 (.inr (11, [.int (zN 0), .int (zN 0), .null, .null])) = w2 at n1 A0 K2 N2 B2 i1 H0
    have nle : wN w ≤ wN w1 := k1.2.2.2.1
    generalize hL : wN w1 = L0 at *
    have H : ∃ r, fX1_pathOf_l39 x L0 (zI ((p.length : Int) - 1)) w2 = some r ∧ ∃ w' it, r = (.inl (some L0), w') ∧ LkC w' L0 p.length it ∧ (∀ i, i < p.length → it (p.length - i) = nAr ν (p.getD i 0)) ∧ Kg F nQ w w' (1 + p.length) (4 + 3 * p.length) ∧ wN w' = L0 + p.length + 1 := by
      refine wh_up (P := fun j y => j ≤ p.length ∧ ∃ w' it, y = (zI ((p.length : Int) - 1 - j), w') ∧ LkC w' L0 j it ∧ (∀ i, i < p.length → p.length - i ≤ j → it (p.length - i) = nAr ν (p.getD i 0)) ∧ Kg F nQ w w' (1 + j) (4 + 3 * j) ∧ wN w' = L0 + j + 1 ∧ ∀ b, b < L0 → w'.1 b = w1.1 b) p.length ?_ ?_ p.length 0 _ (by omega) ⟨by omega, w2, _, by rw [show (p.length : Int) - 1 - ((0 : Nat) : Int) = (p.length : Int) - 1 by omega], H0, fun i hi hj => by omega, K2, N2, B2⟩
      · rintro j y hj ⟨-, w', it, rfl, hL', hit, hK, hN, hB⟩
        have M' := h.kg hW hK
        have c1 : w'.1 F = some (finC F (zN p.length)) := by rw [hB _ (by omega)]; exact pc1
        have c2 : w'.1 (F + 3) = some (intC f) := by rw [hB _ (by omega)]; exact pc2
        have g2 : gR w' F 23 2 = some (some (F + 3)) := c_R c1 2
        have ei : zI ((p.length : Int) - 1 - j) = zN (p.length - 1 - j) := by
          rw [zI_nn (by omega)]
          congr 1
          omega
        have l1 : ldI w' (F + 3) 0 (zN (p.length - 1 - j)) = some (zN (p.getD (p.length - 1 - j) 0)) := by
          rw [c_ldI c2 (by omega) (by omega), pc3.get (by omega)]
        have hpa : p.getD (p.length - 1 - j) 0 < ρ 1 := f1 _ (getD_mem (by omega))
        have ga := c_geta M'.1.2.2.1 hI hpa
        have ia := c_aI M'.1.2.2.1 hpa
        have il := (lk_sz hL').2
        have hCS := hK.2.2.2.2.2
        obtain ⟨w3, it', a1, a2, a3, a4, a5, a6, a7⟩ := c_lkAdd (a := nAr ν (p.getD (p.length - 1 - j) 0)) hL' hN hK (by omega) (by omega) (by omega)
        left
        refine ⟨(zI ((p.length : Int) - 1 - ((j + 1 : Nat) : Int)), w3), ?_, by omega, w3, it', rfl, a2, fun i hi hj' => ?_, a6.mono (by omega) (by omega), a5, fun b hb => (a7 b hb).trans (hB b hb)⟩
        · have n1 : ¬ (p.length - 1 - j < 0) := by omega
          have e2 : zN (p.length - 1 - j) + zI (-1) = zI ((p.length : Int) - 1 - ((j + 1 : Nat) : Int)) := by
            rw [← zI_cast, zI_add]
            congr 1
            omega
          rw [ei]
          simp (disch := omega) only [b2_some, bd_some, nm_eq, Option.map_some, zN_lit, zN_add, zN_mul, zN_neg1, if_true, if_false, reduceIte, eq_self, Nat.reduceEqDiff, Nat.reduceAdd, Nat.reduceMul, Nat.reduceSub, Nat.reduceLeDiff, Nat.one_ne_zero, not_false_eq_true, Bool.false_eq_true, zN_eq, zN_lt, zN_le,  fX1_pathOf_b39, n1, M'.g0, M'.g1, M'.xI, M'.1.FI, c_snet M'.1.2.1, c_sI M'.1.2.1, c_nal M'.1.2.2.1, c_ntl M'.1.2.2.1, c_nn M'.1.2.2.1, c_alI M'.1.2.2.1, c_tlI M'.1.2.2.1, c_size M'.1.2.2.1, c_size2 M'.1.2.2.1, g2, l1, ga, ia, il, a1, e2]
        · by_cases c : p.length - i ≤ j
          · rw [a3 _ (by omega) c]
            exact hit i hi c
          · have : p.length - i = j + 1 := by omega
            rw [this, a4]
            congr 2
            omega
      · rintro y ⟨-, w', it, rfl, hL', hit, hK, hN, hB⟩
        refine ⟨_, ?_, w', it, rfl, hL', fun i hi => hit i hi (by omega), hK, hN⟩
        have n1 : (zI ((p.length : Int) - 1 - p.length) < zN 0) = True := by
          rw [show (p.length : Int) - 1 - p.length = -1 by omega]
          decide
        simp (disch := omega) only [b2_some, bd_some, nm_eq, Option.map_some, zN_lit, zN_add, zN_mul, zN_neg1, if_true, if_false, reduceIte, eq_self, Nat.reduceEqDiff, Nat.reduceAdd, Nat.reduceMul, Nat.reduceSub, Nat.reduceLeDiff, Nat.one_ne_zero, not_false_eq_true, Bool.false_eq_true, zN_eq, zN_lt, zN_le,  fX1_pathOf_b39, n1]
    obtain ⟨r, e2, w', it, rfl, h1', h2', h3', h4'⟩ := H
    have gl : gI w2 F 23 5 = some (zN p.length) := c_I (show w2.1 F = some (finC F (zN p.length)) from by rw [B2 F (by omega)]; exact pc1) 5
    have M2 := h.kg hW K2
    have e3 : zN p.length - zN 1 = zI ((p.length : Int) - 1) := zI_sub _ _
    refine ⟨p, w', L0, it, rfl, ?_, h1', h2', h3'.mono (by omega) (by omega), h4', nle⟩
    simp (disch := omega) only [b2_some, bd_some, nm_eq, Option.map_some, zN_lit, zN_add, zN_mul, zN_neg1, if_true, if_false, reduceIte, eq_self, Nat.reduceEqDiff, Nat.reduceAdd, Nat.reduceMul, Nat.reduceSub, Nat.reduceLeDiff, Nat.one_ne_zero, not_false_eq_true, Bool.false_eq_true, zN_eq, zN_lt, zN_le,  fX1_pathOf, h.g0, h.g1, h.xI, h.1.FI, c_snet h.1.2.1, c_sI h.1.2.1, c_nal h.1.2.2.1, c_ntl h.1.2.2.1, c_nn h.1.2.2.1, c_alI h.1.2.2.1, c_tlI h.1.2.2.1, c_size h.1.2.2.1, c_size2 h.1.2.2.1, c_tripAt1 h ht, ex_, e, n1, i1, M2.g1, gl, e3]
    exact e2
theorem q_pathLen (h : MR w x F s q ν ρ) (hW : WF w) (ht : t < ρ 2) (hC : 10 ≤ wC w) (hS : 31 ≤ wS w) : ∃ w', fX1_pathLength x (zN t) w = some (.inl (zI (plI ρ t)), w') ∧ Kg F nQ w w' 10 31 := by
  unfold plI
  rcases c_pathOf h hW ht hC hS with ⟨e1, w', e, k⟩ | ⟨p, w', L0, it, e1, e, hL, hit, hK, hN, hle⟩
  · rw [e1]
    refine ⟨w', ?_, (k.kg h.FC hW).mono (by omega) (by omega)⟩
    simp (disch := omega) only [b2_some, bd_some, nm_eq, Option.map_some, zN_lit, zN_add, zN_mul, zN_neg1, if_true, if_false, reduceIte, eq_self, Nat.reduceEqDiff, Nat.reduceAdd, Nat.reduceMul, Nat.reduceSub, Nat.reduceLeDiff, Nat.one_ne_zero, not_false_eq_true, Bool.false_eq_true, zN_eq, zN_lt, zN_le,  fX1_pathLength, h.xI, e, ex_]
  · rw [e1]
    refine ⟨w', ?_, hK⟩
    have n1 : (some L0 = none) = False := eq_false (by simp)
    simp (disch := omega) only [b2_some, bd_some, nm_eq, Option.map_some, zN_lit, zN_add, zN_mul, zN_neg1, if_true, if_false, reduceIte, eq_self, Nat.reduceEqDiff, Nat.reduceAdd, Nat.reduceMul, Nat.reduceSub, Nat.reduceLeDiff, Nat.one_ne_zero, not_false_eq_true, Bool.false_eq_true, zN_eq, zN_lt, zN_le,  fX1_pathLength, h.xI, e, ex_, n1, (lk_sz hL).2, c_lkSize hL]
    rfl
theorem q_pathArc (h : MR w x F s q ν ρ) (hW : WF w) (ht : t < ρ 2) {z : Int} (hz : bI z) (hC : 10 ≤ wC w) (hS : 31 ≤ wS w) : ∃ w', fX1_pathArc x (zN t) (zI z) w = some (.inl (zI (paI ρ t z)), w') ∧ Kg F nQ w w' 10 31 := by
  unfold paI
  rcases c_pathOf h hW ht hC hS with ⟨e1, w', e, k⟩ | ⟨p, w', L0, it, e1, e, hL, hit, hK, hN, hle⟩
  · rw [e1]
    refine ⟨w', ?_, (k.kg h.FC hW).mono (by omega) (by omega)⟩
    simp (disch := omega) only [b2_some, bd_some, nm_eq, Option.map_some, zN_lit, zN_add, zN_mul, zN_neg1, if_true, if_false, reduceIte, eq_self, Nat.reduceEqDiff, Nat.reduceAdd, Nat.reduceMul, Nat.reduceSub, Nat.reduceLeDiff, Nat.one_ne_zero, not_false_eq_true, Bool.false_eq_true, zN_eq, zN_lt, zN_le,  fX1_pathArc, h.xI, e, ex_]
  · rw [e1]
    refine ⟨w', ?_, hK⟩
    obtain ⟨f1, f2⟩ := PT_facts' h.inv ht e1
    have M' := h.kg hW hK
    have n1 : (some L0 = none) = False := eq_false (by simp)
    have e2 := c_inZ (w := w') hz (lo := 0) (hi := (p.length : Int) - 1) ⟨by omega, by omega⟩ ⟨by omega, by omega⟩
    have e3 : (zN p.length - zN 1).toInt64 = zJ ((p.length : Int) - 1) := by
      rw [show zN p.length - zN 1 = zI ((p.length : Int) - 1) from zI_sub (p.length : Int) 1, zI_J (by omega)]
    have z0 : (0 : Int64) = zJ 0 := rfl
    dsimp only
    by_cases c : 0 ≤ z ∧ z < p.length
    · rw [if_pos c]
      rw [if_pos (by omega)] at e2
      have gt := c_lkGet hL (by omega) (i := z.toNat) (by omega)
      rw [hit _ (by omega)] at gt
      have hpa : p.getD z.toNat 0 < ρ 1 := f1 _ (getD_mem (by omega))
      have ia := c_aI M'.1.2.2.1 hpa
      have nu := c_num M'.1.2.2.1 hpa
      rw [← zI_nn c.1] at gt
      simp (disch := omega) only [b2_some, bd_some, nm_eq, Option.map_some, zN_lit, zN_add, zN_mul, zN_neg1, if_true, if_false, reduceIte, eq_self, Nat.reduceEqDiff, Nat.reduceAdd, Nat.reduceMul, Nat.reduceSub, Nat.reduceLeDiff, Nat.one_ne_zero, not_false_eq_true, Bool.false_eq_true, zN_eq, zN_lt, zN_le,  fX1_pathArc, h.xI, e, ex_, n1, (lk_sz hL).2, c_lkSize hL, e3, z0, e2, gt, ia, nu]
      rfl
    · rw [if_neg c]
      rw [if_neg (by omega)] at e2
      simp (disch := omega) only [b2_some, bd_some, nm_eq, Option.map_some, zN_lit, zN_add, zN_mul, zN_neg1, if_true, if_false, reduceIte, eq_self, Nat.reduceEqDiff, Nat.reduceAdd, Nat.reduceMul, Nat.reduceSub, Nat.reduceLeDiff, Nat.one_ne_zero, not_false_eq_true, Bool.false_eq_true, zN_eq, zN_lt, zN_le,  fX1_pathArc, h.xI, e, ex_, n1, (lk_sz hL).2, c_lkSize hL, e3, z0, e2]
end
