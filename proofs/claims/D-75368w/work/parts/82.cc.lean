/-! Plain law: the component measures -/
section
variable {w : WH} {s q n F : Nat} {ρ : Nat → Nat} {ν : NH}
theorem c_chk {k m : Nat} (h : k < m) (hm : m < 2147483648) (o : Option Nat) : fJ14_checkIndex (zN k) (zN m) o w = some (zN k, w) := by
  have n1 : ¬ (k < 0) := by omega
  simp (disch := omega) only [b2_some, bd_some, nm_eq, Option.map_some, zN_lit, zN_add, zN_mul, zN_neg1, if_true, if_false, reduceIte, eq_self, Nat.reduceEqDiff, Nat.reduceAdd, Nat.reduceMul, Nat.reduceSub, Nat.reduceLeDiff, Nat.one_ne_zero, not_false_eq_true, Bool.false_eq_true, zN_eq, zN_lt, zN_le,  fJ14_checkIndex, n1, h]
theorem c_size (hN : NtC w ν ρ) : fJ2_size (nAl ν) w = some (zN (ρ 1), w) := by
  have e : gI w (nAl ν) 2 2 = some (zN (ρ 1)) := c_I hN.2.1 2
  simp (disch := omega) only [b2_some, bd_some, nm_eq, Option.map_some, zN_lit, zN_add, zN_mul, zN_neg1, if_true, if_false, reduceIte, eq_self, Nat.reduceEqDiff, Nat.reduceAdd, Nat.reduceMul, Nat.reduceSub, Nat.reduceLeDiff, Nat.one_ne_zero, not_false_eq_true, Bool.false_eq_true, zN_eq, zN_lt, zN_le,  fJ2_size, e]
theorem c_size2 (hN : NtC w ν ρ) : fJ2_size (nTl ν) w = some (zN (ρ 2), w) := by
  have e : gI w (nTl ν) 2 2 = some (zN (ρ 2)) := c_I hN.2.2.2.2.1 2
  simp (disch := omega) only [b2_some, bd_some, nm_eq, Option.map_some, zN_lit, zN_add, zN_mul, zN_neg1, if_true, if_false, reduceIte, eq_self, Nat.reduceEqDiff, Nat.reduceAdd, Nat.reduceMul, Nat.reduceSub, Nat.reduceLeDiff, Nat.one_ne_zero, not_false_eq_true, Bool.false_eq_true, zN_eq, zN_lt, zN_le,  fJ2_size, e]
theorem c_geta (hN : NtC w ν ρ) (hI : Inv ρ) {k : Nat} (hk : k < ρ 1) : fJ2_get (nAl ν) (zN k) w = some (some (nAr ν k), w) := by
  have h1 := hI.h1
  have e : gI w (nAl ν) 2 2 = some (zN (ρ 1)) := c_I hN.2.1 2
  have e2 : gR w (nAl ν) 2 1 = some (some (nAe ν)) := c_R hN.2.1 1
  obtain ⟨g, h3, h4⟩ := hN.2.2.1
  have e3 : ldR w (nAe ν) 4 (zN k) = some (some (nAr ν k)) := by rw [c_ldR h3 (by omega) (by omega), h4 k hk]
  simp (disch := omega) only [b2_some, bd_some, nm_eq, Option.map_some, zN_lit, zN_add, zN_mul, zN_neg1, if_true, if_false, reduceIte, eq_self, Nat.reduceEqDiff, Nat.reduceAdd, Nat.reduceMul, Nat.reduceSub, Nat.reduceLeDiff, Nat.one_ne_zero, not_false_eq_true, Bool.false_eq_true, zN_eq, zN_lt, zN_le,  fJ2_get, fJ27_checkIndex, e, c_chk hk, c_C hN.2.1, fJ2_elementData, e2, e3]
theorem c_gett (hN : NtC w ν ρ) (hI : Inv ρ) {k : Nat} (hk : k < ρ 2) : fJ2_get (nTl ν) (zN k) w = some (some (nTr ν k), w) := by
  have h1 := hI.h2
  have e : gI w (nTl ν) 2 2 = some (zN (ρ 2)) := c_I hN.2.2.2.2.1 2
  have e2 : gR w (nTl ν) 2 1 = some (some (nTe ν)) := c_R hN.2.2.2.2.1 1
  obtain ⟨g, h3, h4⟩ := hN.2.2.2.2.2.1
  have e3 : ldR w (nTe ν) 4 (zN k) = some (some (nTr ν k)) := by rw [c_ldR h3 (by omega) (by omega), h4 k hk]
  simp (disch := omega) only [b2_some, bd_some, nm_eq, Option.map_some, zN_lit, zN_add, zN_mul, zN_neg1, if_true, if_false, reduceIte, eq_self, Nat.reduceEqDiff, Nat.reduceAdd, Nat.reduceMul, Nat.reduceSub, Nat.reduceLeDiff, Nat.one_ne_zero, not_false_eq_true, Bool.false_eq_true, zN_eq, zN_lt, zN_le,  fJ2_get, fJ27_checkIndex, e, c_chk hk, c_C hN.2.2.2.2.1, fJ2_elementData, e2, e3]
theorem c_snet (hS : StC w s q n ρ) : gR w s 21 0 = some (some n) := c_R hS.1 0
theorem c_nal (hN : NtC w ν ρ) : gR w (nN ν) 22 1 = some (some (nAl ν)) := c_R hN.1 1
theorem c_ntl (hN : NtC w ν ρ) : gR w (nN ν) 22 2 = some (some (nTl ν)) := c_R hN.1 2
theorem c_nn (hN : NtC w ν ρ) : gI w (nN ν) 22 0 = some (zN (ρ 0)) := c_I hN.1 0
theorem c_alI (hN : NtC w ν ρ) : hIs w (nAl ν) 2 = some () := c_C hN.2.1
theorem c_tlI (hN : NtC w ν ρ) : hIs w (nTl ν) 2 = some () := c_C hN.2.2.2.2.1
/-- the world with other distances -/
def wF (w : WH) (F : Nat) (f : Nat → Int64) : WH := hUp w (F + 1) (farC f)
theorem FiC.far {w : WH} {F : Nat} (h : FiC w F) (f : Nat → Int64) : FiC (wF w F f) F := by
  obtain ⟨⟨l, h3⟩, ⟨f1, h4⟩, ⟨f2, h5⟩, ⟨f3, h6⟩, ⟨f4, h7⟩, ⟨f5, h8⟩⟩ := h
  unfold wF
  exact ⟨⟨l, by rw [hUp_ne w _ (by omega)]; exact h3⟩, ⟨f, hUp_eq _ _ _⟩, ⟨f2, by rw [hUp_ne w _ (by omega)]; exact h5⟩, ⟨f3, by rw [hUp_ne w _ (by omega)]; exact h6⟩, ⟨f4, by rw [hUp_ne w _ (by omega)]; exact h7⟩, ⟨f5, by rw [hUp_ne w _ (by omega)]; exact h8⟩⟩
theorem Kf.far {w : WH} {F : Nat} (h : FiC w F) (f : Nat → Int64) : Kf w (wF w F f) F := ⟨fun a ha => hUp_ne w _ (by omega), rfl, h.far f⟩
theorem wF_F (w : WH) (F : Nat) (f : Nat → Int64) : (wF w F f).1 (F + 1) = some (farC f) := hUp_eq _ _ _
/-- what is fixed while it measures -/
def MS (w : WH) (F s q : Nat) (ν : NH) (ρ : Nat → Nat) : Prop := FiC w F ∧ StC w s q (nN ν) ρ ∧ NtC w ν ρ ∧ Inv ρ ∧ KD (wK w)
theorem MS.kf {w' : WH} (h : MS w F s q ν ρ) (hk : Kf w w' F) : MS w' F s q ν ρ := ⟨hk.2.2, hk.st h.1 h.2.1, hk.net h.1 h.2.2.1, h.2.2.2.1, by rw [hk.K]; exact h.2.2.2.2⟩
theorem MS.far (h : MS w F s q ν ρ) (f : Nat → Int64) : MS (wF w F f) F s q ν ρ := h.kf (Kf.far h.1 f)
theorem MS.gF (h : MS w F s q ν ρ) : gR w F 23 0 = some (some (F + 1)) := by
  obtain ⟨l, e⟩ := h.1.1
  exact c_R e 0
theorem MS.FI (h : MS w F s q ν ρ) : hIs w F 23 = some () := by
  obtain ⟨l, e⟩ := h.1.1
  exact c_C e
theorem c_wt (h : MS w F s q ν ρ) {k a t : Nat} (hk : k = 5 ∨ k = 6 ∨ k = 7 ∨ k = 8) (ha : a < ρ 1) (ht : t < ρ 2) : fWt (wK w k) s (nAr ν a) (nTr ν t) w = some (zJ ((wgt ρ t k a).getD (-1)), w) := by
  obtain ⟨h1, h2, h3, h4, h5⟩ := h
  rcases hk with rfl | rfl | rfl | rfl
  · exact c_w5 h5 h2 h3 h4 ha ht
  · exact c_w6 h5 h2 h3 h4 ha ht
  · exact c_w7 h5 h2 h3 h4 ha ht
  · exact c_w8 h5 h2 h3 h4 ha ht
theorem wgt_BfN (hI : Inv ρ) {k t : Nat} (ht : t < ρ 2) : BfN (ρ 0) (ρ 1) (aFr ρ) (aTo ρ) (wgt ρ t k) 30000000000000 (pTo ρ t) := by
  have hc := hI.ht ht
  have g1 : GN (ρ 0) (ρ 1) (aFr ρ) (aTo ρ) (uT ρ 0 (-1) 0) (feI ρ (pVa ρ t)) (tlI ρ) (pTo ρ t) := tw_GN hI ht
  have g2 : GN (ztl ρ 0) (ztl ρ 1) (aFr (ztl ρ)) (aTo (ztl ρ)) (uT ρ 0 (-1) 0) (feI (ztl ρ) (pVa ρ t)) (tlI (ztl ρ)) (pTo ρ t) := inv_GN hI.ztl (by omega) (by rw [ztl_low ρ (by omega)]; exact hc.2.1) (fun a hu => by rw [ztl_low ρ (by omega)]; exact hu.1)
  have g3 : GN (ztl ρ 0) (ztl ρ 1) (aFr (ztl ρ)) (aTo (ztl ρ)) (uT ρ 0 (-1) 1) (feI (ztl ρ) (pVa ρ t)) (tlI (ztl ρ)) (pTo ρ t) := inv_GN hI.ztl (by omega) (by rw [ztl_low ρ (by omega)]; exact hc.2.1) (fun a hu => by rw [ztl_low ρ (by omega)]; exact hu.1)
  have eF : aFr (ztl ρ) = aFr ρ := funext fun b => ztl_F ρ b
  have eT : aTo (ztl ρ) = aTo ρ := funext fun b => ztl_T ρ b
  rw [ztl_low ρ (by omega), ztl_low ρ (by omega), eF, eT] at g2 g3
  by_cases h5 : k = 5
  · rw [show wgt ρ t k = wcd (uT ρ 0 (-1) 0) (feI ρ (pVa ρ t)) (tlI ρ) 10000000 (16 * sgn ρ) 1 from funext fun a => if_pos h5]
    exact g1.bf (wB_rng (sgn_wB ρ)) (by omega)
  · by_cases h6 : k = 6
    · rw [show wgt ρ t k = wcd (uT ρ 0 (-1) 0) (feI ρ (pVa ρ t)) (tlI ρ) 1 0 0 from funext fun a => (if_neg h5).trans (if_pos h6)]
      exact g1.bf wC_rng (by omega)
    · by_cases h7 : k = 7
      · rw [show wgt ρ t k = wcd (uT ρ 0 (-1) 1) (feI (ztl ρ) (pVa ρ t)) (tlI (ztl ρ)) 1 0 0 from funext fun a => (if_neg h5).trans ((if_neg h6).trans (if_pos h7))]
        exact g3.bf wC_rng (by omega)
      · rw [show wgt ρ t k = wcd (uT ρ 0 (-1) 0) (feI (ztl ρ) (pVa ρ t)) (tlI (ztl ρ)) 1 0 0 from funext fun a => (if_neg h5).trans ((if_neg h6).trans (if_neg h7))]
        exact g2.bf wC_rng (by omega)
theorem c_shr (h : MS w F s q ν ρ) {k i t : Nat} (hk : k = 5 ∨ k = 6 ∨ k = 7 ∨ k = 8) (hi : i < ρ 1) (ht : t < ρ 2) {far : Nat → Option Int} (hB : Bf (ρ 0) (ρ 1) (aFr ρ) (aTo ρ) (wgt ρ t k) 30000000000000 (pTo ρ t) far) {f : Nat → Int64} (hf : ∀ m, m < ρ 0 → f m = encF (far m)) :
    ∃ f', fX4_shorten F s (nAr ν i) (nTr ν t) (wK w k) (wF w F f) = some (zN (if (bf_rlx (aFr ρ) (aTo ρ) (wgt ρ t k) far i).2 then 1 else 0), wF w F f') ∧ ∀ m, m < ρ 0 → f' m = encF ((bf_rlx (aFr ρ) (aTo ρ) (wgt ρ t k) far i).1 m) := by
  have hI := h.2.2.2.1
  have b := hI.ha hi
  have h' := h.far f
  have hN' := h'.2.2.1
  have hw := c_wt h' hk hi ht
  rw [show wK (wF w F f) k = wK w k from rfl] at hw
  have hin := fun m => hB.inF (by omega) hI.h0.2 m
  have eF : (2305843009213693951 : Int64) = zJ FAR := rfl
  have e0 : ∀ x : Int64, lg_cmp x 0 = lg_cmp x (zJ 0) := fun _ => rfl
  have g7 := wF_F w F f
  cases hx : wgt ρ t k i with
  | none =>
    rw [hx, Option.getD_none] at hw
    rw [rlx_w hx]
    have c0 : (lg_cmp (zJ (-1)) (zJ 0) < zN 0) = True := by rw [lgc_lt (by unfold bJ; omega) (by unfold bJ; omega)]; exact eq_true (by omega)
    refine ⟨f, ?_, hf⟩
    simp (disch := omega) only [b2_some, bd_some, nm_eq, Option.map_some, zN_lit, zN_add, zN_mul, zN_neg1, if_true, if_false, reduceIte, eq_self, Nat.reduceEqDiff, Nat.reduceAdd, Nat.reduceMul, Nat.reduceSub, Nat.reduceLeDiff, Nat.one_ne_zero, not_false_eq_true, Bool.false_eq_true, zN_eq, zN_lt, zN_le,  fX4_shorten, hw, e0, c0]
  | some x =>
    have hx0 := (wgt_BfN (k := k) hI ht).2.1 i x hx
    rw [hx, Option.getD_some] at hw
    have c0 : (lg_cmp (zJ x) (zJ 0) < zN 0) = False := by rw [lgc_lt (by unfold bJ; omega) (by unfold bJ; omega)]; exact eq_false (by omega)
    have l1 : ldJ (wF w F f) (F + 1) (zN (aTo ρ i)) = some (f (aTo ρ i)) := c_ldJ g7 (by omega) (by omega)
    have l2 : ldJ (wF w F f) (F + 1) (zN (aFr ρ i)) = some (f (aFr ρ i)) := c_ldJ g7 (by omega) (by omega)
    rw [hf _ b.2.1] at l1
    rw [hf _ b.1] at l2
    have c1 := encF_eq (hin (aTo ρ i))
    cases hy : far (aTo ρ i) with
    | none =>
      rw [rlx_t hy]
      rw [hy] at c1 l1
      refine ⟨f, ?_, hf⟩
      generalize encF none = v at c1 l1
      simp (disch := omega) only [b2_some, bd_some, nm_eq, Option.map_some, zN_lit, zN_add, zN_mul, zN_neg1, if_true, if_false, reduceIte, eq_self, Nat.reduceEqDiff, Nat.reduceAdd, Nat.reduceMul, Nat.reduceSub, Nat.reduceLeDiff, Nat.one_ne_zero, not_false_eq_true, Bool.false_eq_true, zN_eq, zN_lt, zN_le,  fX4_shorten, hw, e0, c0, h'.gF, c_aI hN' hi, c_to hN' hi, l1, eF, c1]
    | some y =>
      have hy0 := hin _ y hy
      rw [hy, encF_some] at c1
      rw [hy, encF_some] at l1
      have c1' : ¬ (some y = none) := by simp
      have c2 := encF_sum (hin (aFr ρ i)) (v := y + x) (by omega)
      have c3 : (lg_cmp (zJ (y + x)) (encF (far (aFr ρ i))) < zN 0) = ¬ (zN 0 ≤ lg_cmp (zJ (y + x)) (encF (far (aFr ρ i)))) := propext Int32.not_le.symm
      by_cases hc : ∃ z, far (aFr ρ i) = some z ∧ z ≤ y + x
      · rw [c2, eq_true hc, not_true_eq_false] at c3
        obtain ⟨z, hz, hle⟩ := hc
        rw [rlx_no hx hy hz hle]
        refine ⟨f, ?_, hf⟩
        simp (disch := omega) only [b2_some, bd_some, nm_eq, Option.map_some, zN_lit, zN_add, zN_mul, zN_neg1, if_true, if_false, reduceIte, eq_self, Nat.reduceEqDiff, Nat.reduceAdd, Nat.reduceMul, Nat.reduceSub, Nat.reduceLeDiff, Nat.one_ne_zero, not_false_eq_true, Bool.false_eq_true, zN_eq, zN_lt, zN_le,  fX4_shorten, hw, e0, c0, h'.gF, c_aI hN' hi, c_to hN' hi, l1, eF, c1, c1', c_from hN' hi, l2, zJ_add, c3, fX4_shorten_b60]
      · rw [c2, eq_false hc, not_false_eq_true] at c3
        rw [rlx_yes hx hy hc]
        have s1 : stJ (wF w F f) (F + 1) (zN (aFr ρ i)) (zJ (y + x)) = some (wF w F (vp_updL f (aFr ρ i) (zJ (y + x)))) := by
          rw [c_stJ g7 (by omega) (by omega)]
          unfold wF
          rw [hUp_hUp]
          rfl
        refine ⟨vp_updL f (aFr ρ i) (zJ (y + x)), ?_, ?_⟩
        · simp (disch := omega) only [b2_some, bd_some, nm_eq, Option.map_some, zN_lit, zN_add, zN_mul, zN_neg1, if_true, if_false, reduceIte, eq_self, Nat.reduceEqDiff, Nat.reduceAdd, Nat.reduceMul, Nat.reduceSub, Nat.reduceLeDiff, Nat.one_ne_zero, not_false_eq_true, Bool.false_eq_true, zN_eq, zN_lt, zN_le,  fX4_shorten, hw, e0, c0, h'.gF, c_aI hN' hi, c_to hN' hi, l1, eF, c1, c1', c_from hN' hi, l2, zJ_add, c3, fX4_shorten_b62, s1]
        · intro m hm
          show vp_updL f (aFr ρ i) (zJ (y + x)) m = encF (bf_up far (aFr ρ i) (y + x) m)
          unfold vp_updL bf_up
          by_cases e : m = aFr ρ i
          · rw [if_pos e, if_pos e]; rfl
          · rw [if_neg e, if_neg e]; exact hf m hm
end
