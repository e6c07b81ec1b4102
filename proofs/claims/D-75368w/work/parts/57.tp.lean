/-! Plain law: the twin's distances -/
def FAR : Int := 2305843009213693951
def encF (o : Option Int) : Int64 := zJ (o.getD FAR)
/-- a distance in range -/
def inF (o : Option Int) : Prop := ∀ z, o = some z → 0 ≤ z ∧ z ≤ 300000000000000
theorem tsB_B (T : TW) (p : Nat) (f g : Nat → Int64) : tsB (tsB T p f) p g = tsB T p g := by
  unfold tsB
  congr 1; congr 1; congr 1
  funext q
  by_cases h : q = p
  · simp [h]
  · simp [h]
theorem tsB_self (T : TW) (p : Nat) : tsB T p (tB T p) = T := by
  unfold tsB tB
  congr 1; congr 1; congr 1
  funext q
  by_cases h : q = p
  · simp [h]
  · simp [h]
theorem encF_ge {o : Option Int} (h : inF o) : (zN 0 ≤ lg_cmp (encF o) (zJ FAR)) = (o = none) := by
  unfold encF
  cases o with
  | none =>
    rw [Option.getD_none, lgc_ge (by unfold bJ FAR; omega) (by unfold bJ FAR; omega)]
    exact propext ⟨fun _ => rfl, fun _ => Int.le_refl _⟩
  | some z =>
    have := h z rfl
    rw [Option.getD_some, lgc_ge (by unfold bJ; omega) (by unfold bJ FAR; omega)]
    exact propext ⟨fun e => by unfold FAR at e; omega, fun e => by cases e⟩
theorem encF_lt {o : Option Int} (h : inF o) : (lg_cmp (encF o) (zJ FAR) < zN 0) = (o ≠ none) := by
  have := encF_ge h
  rw [show (lg_cmp (encF o) (zJ FAR) < zN 0) = ¬ (zN 0 ≤ lg_cmp (encF o) (zJ FAR)) from propext Int32.not_le.symm, this]
theorem encF_eq {o : Option Int} (h : inF o) : (lg_cmp (encF o) (zJ FAR) = zN 0) = (o = none) := by
  unfold encF
  cases o with
  | none =>
    rw [Option.getD_none, lgc_eq (by unfold bJ FAR; omega) (by unfold bJ FAR; omega)]
    exact propext ⟨fun _ => rfl, fun _ => rfl⟩
  | some z =>
    have := h z rfl
    rw [Option.getD_some, lgc_eq (by unfold bJ; omega) (by unfold bJ FAR; omega)]
    exact propext ⟨fun e => by unfold FAR at e; omega, fun e => by cases e⟩
theorem encF_sum {o : Option Int} (h : inF o) {v : Int} (hv : 0 ≤ v ∧ v ≤ 400000000000000) : (zN 0 ≤ lg_cmp (zJ v) (encF o)) = (∃ z, o = some z ∧ z ≤ v) := by
  unfold encF
  cases o with
  | none =>
    rw [Option.getD_none, lgc_ge (by unfold bJ; omega) (by unfold bJ FAR; omega)]
    exact propext ⟨fun e => by unfold FAR at e; omega, fun ⟨z, e, _⟩ => by cases e⟩
  | some z =>
    have := h z rfl
    rw [Option.getD_some, lgc_ge (by unfold bJ; omega) (by unfold bJ; omega)]
    exact propext ⟨fun e => ⟨z, rfl, e⟩, fun ⟨z', e, e'⟩ => by cases e; exact e'⟩
theorem encF_sume {o : Option Int} (h : inF o) {v : Int} (hv : 0 ≤ v ∧ v ≤ 400000000000000) : (lg_cmp (zJ v) (encF o) = zN 0) = (o = some v) := by
  unfold encF
  cases o with
  | none =>
    rw [Option.getD_none, lgc_eq (by unfold bJ; omega) (by unfold bJ FAR; omega)]
    exact propext ⟨fun e => by unfold FAR at e; omega, fun e => by cases e⟩
  | some z =>
    have := h z rfl
    rw [Option.getD_some, lgc_eq (by unfold bJ; omega) (by unfold bJ; omega)]
    exact propext ⟨fun e => by rw [e], fun e => (Option.some.inj e).symm⟩
theorem encF_some (z : Int) : encF (some z) = zJ z := rfl
theorem Bf.inF {N A : Nat} {fr to : Nat → Nat} {w : Nat → Option Int} {W : Int} {t : Nat} {far : Nat → Option Int} (h : Bf N A fr to w W t far) (hW : 0 ≤ W ∧ W ≤ 30000000000000) (hN : N ≤ 10) (n : Nat) : inF (far n) := by
  intro z hz
  have h1 := h.2.2.1 n z hz
  have h2 := bf_cnt_le far N
  have h3 : W * bf_cnt far N ≤ 30000000000000 * 10 := Int.mul_le_mul hW.2 (by omega) (by omega) (by omega)
  omega
section
variable {fr to : Nat → Nat} {w far : Nat → Option Int} {a : Nat}
theorem rlx_w (h : w a = none) : bf_rlx fr to w far a = (far, false) := by
  unfold bf_rlx bf_can
  rw [h]
theorem rlx_t (h : far (to a) = none) : bf_rlx fr to w far a = (far, false) := by
  unfold bf_rlx bf_can
  rw [h]
  cases w a <;> rfl
theorem rlx_no {x y z : Int} (hx : w a = some x) (hy : far (to a) = some y) (hz : far (fr a) = some z) (h : z ≤ y + x) : bf_rlx fr to w far a = (far, false) := by
  unfold bf_rlx bf_can
  rw [hx, hy, hz]
  dsimp only
  rw [if_neg (show ¬ (y + x < z) by omega)]
theorem rlx_yes {x y : Int} (hx : w a = some x) (hy : far (to a) = some y) (h : ¬ ∃ z, far (fr a) = some z ∧ z ≤ y + x) : bf_rlx fr to w far a = (bf_up far (fr a) (y + x), true) := by
  unfold bf_rlx bf_can
  rw [hx, hy]
  dsimp only
  cases hz : far (fr a) with
  | none => rfl
  | some z =>
    dsimp only
    have h5 : y + x < z := by
      rcases Int.lt_or_le (y + x) z with h' | h'
      · exact h'
      · exact absurd ⟨z, hz, h'⟩ h
    rw [if_pos h5]
end
section
variable (ρ : Nat → Nat) (m : Nat) (aw : Int) (fz t : Nat)
noncomputable def wT : Nat → Option Int := wcd (uT ρ m aw fz) (feI ρ (pVa ρ t)) (tlI ρ) 1000000000 (100 * sgn ρ) 1
noncomputable def dT : Nat → Option Int := dA (ρ 1) (aFr ρ) (aTo ρ) (uT ρ m aw fz) (feI ρ (pVa ρ t)) (tlI ρ) (sgn ρ) (pTo ρ t)
noncomputable def nT : Nat → Nat := nA (ρ 1) (aFr ρ) (aTo ρ) (uT ρ m aw fz) (feI ρ (pVa ρ t)) (tlI ρ) (sgn ρ) (pTo ρ t)
noncomputable def pT (n : Nat) : List Nat := ptA (ρ 1) (aFr ρ) (aTo ρ) (uT ρ m aw fz) (feI ρ (pVa ρ t)) (tlI ρ) (sgn ρ) (pTo ρ t) n
end
section
variable {T : TW} {ρ : Nat → Nat} {m fz : Nat} {aw : Int} {t : Nat}
theorem tw_GN (hI : Inv ρ) (ht : t < ρ 2) : GN (ρ 0) (ρ 1) (aFr ρ) (aTo ρ) (uT ρ m aw fz) (feI ρ (pVa ρ t)) (tlI ρ) (pTo ρ t) :=
  inv_GN hI (by have := hI.ht ht; omega) (hI.ht ht).2.1 (fun _ hu => hu.1)
theorem tw_BfN (hI : Inv ρ) (ht : t < ρ 2) : BfN (ρ 0) (ρ 1) (aFr ρ) (aTo ρ) (wT ρ m aw fz t) 30000000000000 (pTo ρ t) := (tw_GN hI ht).bf (wA_rng (sgn_wB ρ)) (by omega)
theorem tw_step (hR : RowT T ρ) (hI : Inv ρ) (hO : OptT T m aw fz) (ht : t < ρ 2) {far : Nat → Option Int} (hB : Bf (ρ 0) (ρ 1) (aFr ρ) (aTo ρ) (wT ρ m aw fz t) 30000000000000 (pTo ρ t) far) {f : Nat → Int64} (hf : ∀ n, n < 10 → f n = encF (far n)) {i : Nat} (hi : i < ρ 1) (v2 : Int32) :
    ∃ f', fX5_laysFar_b45 (zN t) v2 (zN i) (tsB T 7 f) = some (.inl (if (bf_rlx (aFr ρ) (aTo ρ) (wT ρ m aw fz t) far i).2 then 1 else v2, zN (i + 1), tsB T 7 f')) ∧ ∀ n, n < 10 → f' n = encF ((bf_rlx (aFr ρ) (aTo ρ) (wT ρ m aw fz t) far i).1 n) := by
  have b := hI.ha hi
  have hR' : RowT (tsB T 7 f) ρ := hR
  have hO' : OptT (tsB T 7 f) m aw fz := hO
  have h1 := hI.h1
  have n1 : ¬ (ρ 1 ≤ i) := by omega
  have hin := fun n => hB.inF (by omega) hI.h0.2 n
  have n2 : ¬ ((1 : Int32) = 0) := by decide
  have eF : (2305843009213693951 : Int64) = zJ FAR := rfl
  have e7 : tB (tsB T 7 f) 7 = f := by rw [tB_B, if_pos rfl]
  by_cases hu : uT ρ m aw fz i
  · have hx0 : wT ρ m aw fz t i = some (1000000000 * feI ρ (pVa ρ t) i + (100 * sgn ρ) * tlI ρ i + 1) := wcd_pos hu
    have hx := (tw_BfN (m := m) (aw := aw) (fz := fz) hI ht).2.1 i _ hx0
    have hwt := tw_wt hR' hI ht hi
    generalize 1000000000 * feI ρ (pVa ρ t) i + (100 * sgn ρ) * tlI ρ i + 1 = x at hx hwt hx0
    have c1 := encF_ge (hin (aTo ρ i))
    cases hy : far (aTo ρ i) with
    | none =>
      rw [rlx_t hy]
      rw [hy] at c1
      refine ⟨f, ?_, hf⟩
      simp (disch := omega) only [b2_some, bd_some, nm_eq, Option.map_some, zN_lit, zN_add, zN_mul, zN_neg1, if_true, if_false, reduceIte, eq_self, Nat.reduceEqDiff, Nat.reduceAdd, Nat.reduceMul, Nat.reduceSub, Nat.reduceLeDiff, Nat.one_ne_zero, not_false_eq_true, Bool.false_eq_true, zN_eq, zN_lt, zN_le,  fX5_laysFar_b45, fX5_laysFar_b145, tw_rd hR', n1, eF, to1 hR' hI hO' hu, ta1 hR', e7, rd_N, hf, hy, c1]
    | some y =>
      have hy0 := hin _ y hy
      rw [hy] at c1
      have c1' : ¬ (some y = none) := by simp
      rw [encF_some] at c1
      have c2 := encF_sum (hin (aFr ρ i)) (v := y + x) (by omega)
      by_cases hc : ∃ z, far (aFr ρ i) = some z ∧ z ≤ y + x
      · rw [eq_true hc] at c2
        obtain ⟨z, hz, hle⟩ := hc
        rw [rlx_no hx0 hy hz hle]
        refine ⟨f, ?_, hf⟩
        simp (disch := omega) only [b2_some, bd_some, nm_eq, Option.map_some, zN_lit, zN_add, zN_mul, zN_neg1, if_true, if_false, reduceIte, eq_self, Nat.reduceEqDiff, Nat.reduceAdd, Nat.reduceMul, Nat.reduceSub, Nat.reduceLeDiff, Nat.one_ne_zero, not_false_eq_true, Bool.false_eq_true, zN_eq, zN_lt, zN_le,  fX5_laysFar_b45, fX5_laysFar_b145, tw_rd hR', n1, eF, to1 hR' hI hO' hu, ta1 hR', ta0 hR', e7, rd_N, hf, hy, c1, c1', hwt, encF_some, zJ_add, c2]
      · rw [eq_false hc] at c2
        rw [rlx_yes hx0 hy hc]
        refine ⟨vp_updL f (aFr ρ i) (zJ (y + x)), ?_, ?_⟩
        · simp (disch := omega) only [b2_some, bd_some, nm_eq, Option.map_some, zN_lit, zN_add, zN_mul, zN_neg1, if_true, if_false, reduceIte, eq_self, Nat.reduceEqDiff, Nat.reduceAdd, Nat.reduceMul, Nat.reduceSub, Nat.reduceLeDiff, Nat.one_ne_zero, not_false_eq_true, Bool.false_eq_true, zN_eq, zN_lt, zN_le,  fX5_laysFar_b45, fX5_laysFar_b145, tw_rd hR', n1, eF, to1 hR' hI hO' hu, ta1 hR', ta0 hR', e7, rd_N, hf, hy, c1, c1', hwt, encF_some, zJ_add, c2, wrB_N, tsB_B]
        · intro n hn
          show vp_updL f (aFr ρ i) (zJ (y + x)) n = encF (bf_up far (aFr ρ i) (y + x) n)
          unfold vp_updL bf_up
          by_cases e : n = aFr ρ i
          · rw [if_pos e, if_pos e]; rfl
          · rw [if_neg e, if_neg e]; exact hf n hn
  · rw [rlx_w (show wT ρ m aw fz t i = none from wcd_neg hu)]
    refine ⟨f, ?_, hf⟩
    simp (disch := omega) only [b2_some, bd_some, nm_eq, Option.map_some, zN_lit, zN_add, zN_mul, zN_neg1, if_true, if_false, reduceIte, eq_self, Nat.reduceEqDiff, Nat.reduceAdd, Nat.reduceMul, Nat.reduceSub, Nat.reduceLeDiff, Nat.one_ne_zero, not_false_eq_true, Bool.false_eq_true, zN_eq, zN_lt, zN_le,  fX5_laysFar_b45, fX5_laysFar_b145, tw_rd hR', n1, to0 hR' hI hO' hi hu]
end
