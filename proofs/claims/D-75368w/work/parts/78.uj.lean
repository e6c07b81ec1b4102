/-! Plain law: actions on the twin's side -/
def scl (ρ : Nat → Nat) (a x : Nat) : Nat → Nat := upN ρ (4 + 6 * a + 5) x
def sde (ρ : Nat → Nat) (t x : Nat) : Nat → Nat := upN ρ (148 + 4 * t + 2) x
def sti (ρ : Nat → Nat) (x : Nat) : Nat → Nat := upN ρ 3 x
theorem upN_eq (ρ : Nat → Nat) (k x : Nat) : upN ρ k x k = x := if_pos rfl
theorem upN_ne (ρ : Nat → Nat) {k j : Nat} (x : Nat) (h : j ≠ k) : upN ρ k x j = ρ j := if_neg h
theorem inv_scl {ρ : Nat → Nat} (hI : Inv ρ) {a x : Nat} (ha : a < ρ 1) (hx : x ≤ 1) : Inv (scl ρ a x) := by
  have h1 := hI.h1
  obtain ⟨h0, -, h2, h3, h4, h5, h6, h7, h8⟩ := hI
  unfold Inv scl aFr aTo aCo aMx aTl aCl pFr pTo pDe pVa at *
  simp (disch := omega) only [upN_ne]
  refine ⟨h0, h1, h2, h3, fun b hb => ?_, h5, fun t ht => ?_, fun t ht => ?_, fun b hb hb' => ?_⟩
  · have := h4 b hb
    by_cases e : b = a
    · subst e; rw [upN_eq]; omega
    · rw [upN_ne ρ x (show 4 + 6 * b + 5 ≠ 4 + 6 * a + 5 by omega)]; exact this
  · have := h6 t ht
    first
      | exact this
      | (simp (disch := omega) only [upN_ne]; exact this)
  · have := h7 t ht
    first
      | exact this
      | (simp (disch := omega) only [upN_ne]; exact this)
  · rw [upN_ne ρ x (show 4 + 6 * b + 5 ≠ 4 + 6 * a + 5 by omega)]
    exact h8 b hb hb'
theorem Inv.scl {ρ : Nat → Nat} (hI : Inv ρ) {a x : Nat} (ha : a < ρ 1) (hx : x ≤ 1) : Inv (scl ρ a x) := inv_scl hI ha hx
theorem inv_sde {ρ : Nat → Nat} (hI : Inv ρ) {t x : Nat} (ht : t < ρ 2) (hx : x ≤ 999) : Inv (sde ρ t x) := by
  have h2 := hI.h2
  obtain ⟨h0, h1, -, h3, h4, h5, h6, h7, h8⟩ := hI
  unfold Inv sde aFr aTo aCo aMx aTl aCl pFr pTo pDe pVa at *
  simp (disch := omega) only [upN_ne]
  refine ⟨h0, h1, h2, h3, fun b hb => ?_, fun b hb => ?_, fun s hs => ?_, h7, fun b hb hb' => ?_⟩
  · have := h4 b hb
    first
      | exact this
      | (simp (disch := omega) only [upN_ne]; exact this)
  · have := h5 b hb
    first
      | exact this
      | (simp (disch := omega) only [upN_ne]; exact this)
  · have := h6 s hs
    by_cases e : s = t
    · subst e; rw [upN_eq]; omega
    · rw [upN_ne ρ x (show 148 + 4 * s + 2 ≠ 148 + 4 * t + 2 by omega)]; exact this
  · have := h8 b hb hb'
    first
      | exact this
      | (simp (disch := omega) only [upN_ne]; exact this)
theorem Inv.sde {ρ : Nat → Nat} (hI : Inv ρ) {t x : Nat} (ht : t < ρ 2) (hx : x ≤ 999) : Inv (sde ρ t x) := inv_sde hI ht hx
theorem inv_sti {ρ : Nat → Nat} (hI : Inv ρ) {x : Nat} (hx : x ≤ 1) : Inv (sti ρ x) := by
  obtain ⟨h0, h1, h2, h3, h4, h5, h6, h7, h8⟩ := hI
  unfold Inv sti aFr aTo aCo aMx aTl aCl pFr pTo pDe pVa at *
  simp (disch := omega) only [upN_ne, upN_eq]
  exact ⟨h0, h1, h2, hx, h4, h5, h6, h7, h8⟩
theorem Inv.sti {ρ : Nat → Nat} (hI : Inv ρ) {x : Nat} (hx : x ≤ 1) : Inv (sti ρ x) := inv_sti hI hx
/-- a toll brought into its range -/
def clp (M : Nat) (x : Int) : Nat := if x < 0 then 0 else if (M : Int) < x then M else x.toNat
theorem clp_le (M : Nat) (x : Int) : clp M x ≤ M := by
  unfold clp
  split
  · omega
  · split <;> omega
/-- all tolls become others: the row, how many are different -/
def blk (ρ : Nat → Nat) (f : Nat → Nat) : Nat → (Nat → Nat) × Nat
  | 0 => (ρ, 0)
  | k + 1 => (stl (blk ρ f k).1 k (f k), if f k = aTl ρ k then (blk ρ f k).2 else (blk ρ f k).2 + 1)
theorem blk_succ (ρ : Nat → Nat) (f : Nat → Nat) (k : Nat) : blk ρ f (k + 1) = (stl (blk ρ f k).1 k (f k), if f k = aTl ρ k then (blk ρ f k).2 else (blk ρ f k).2 + 1) := rfl
theorem blk_low (ρ : Nat → Nat) (f : Nat → Nat) (k : Nat) {j : Nat} (hj : j < 4) : (blk ρ f k).1 j = ρ j := by
  induction k with
  | zero => rfl
  | succ k ih =>
    unfold blk
    dsimp only
    rw [stl_low _ _ _ hj, ih]
theorem blk_acc (ρ : Nat → Nat) (f : Nat → Nat) (k b : Nat) : aMx (blk ρ f k).1 b = aMx ρ b ∧ aTl (blk ρ f k).1 b = if b < k then f b else aTl ρ b := by
  induction k with
  | zero => exact ⟨rfl, by rw [if_neg (by omega)]; rfl⟩
  | succ k ih =>
    unfold blk
    dsimp only
    rw [stl_M, stl_L]
    refine ⟨ih.1, ?_⟩
    by_cases e : b = k
    · rw [if_pos e, if_pos (by omega), e]
    · rw [if_neg e, ih.2]
      by_cases e' : b < k
      · rw [if_pos e', if_pos (by omega)]
      · rw [if_neg e', if_neg (by omega)]
theorem blk_inv {ρ : Nat → Nat} {f : Nat → Nat} (hI : Inv ρ) (hf : ∀ k, k < ρ 1 → f k ≤ aMx ρ k) : ∀ k, k ≤ ρ 1 → Inv (blk ρ f k).1
  | 0, _ => hI
  | k + 1, h => by
    unfold blk
    exact (blk_inv hI hf k (by omega)).stl (by rw [blk_low _ _ _ (by omega)]; omega) (by rw [(blk_acc ρ f k k).1]; exact hf k (by omega))
theorem blk_cnt (ρ : Nat → Nat) (f : Nat → Nat) : ∀ k, (blk ρ f k).2 ≤ k
  | 0 => Nat.le_refl _
  | k + 1 => by
    have := blk_cnt ρ f k
    unfold blk
    dsimp only
    split <;> omega
section
variable {T : TW} {ρ : Nat → Nat} {σ : SG}
theorem tw_bec (hQ : QT T ρ 0 (-1) 0) {a : Nat} (ha : a < ρ 1) {x : Int} (hx : bI x) : ∃ T', fX5_becomes (zN a) (zI x) T = some (zN (if clp (aMx ρ a) x = aTl ρ a then 0 else 1), T') ∧ QT T' (stl ρ a (clp (aMx ρ a) x)) 0 (-1) 0 ∧ KR T T' := by
  have b := hQ.2.1.ha ha
  have hc := clp_le (aMx ρ a) x
  unfold bI at hx
  have e1 : mnI (zN (aMx ρ a)) (zI x) = zI (if x < (aMx ρ a : Int) then x else (aMx ρ a : Int)) := mnI_z (a := (aMx ρ a : Int)) (by omega) (by omega)
  have e2 : mxI (zN 0) (zI (if x < (aMx ρ a : Int) then x else (aMx ρ a : Int))) = zN (clp (aMx ρ a) x) := by
    have := mxI_z (a := (0 : Nat)) (b := if x < (aMx ρ a : Int) then x else (aMx ρ a : Int)) (by omega) (by split <;> omega)
    show mxI (zI ((0 : Nat) : Int)) _ = _
    rw [this]
    unfold clp zN
    congr 1
    split <;> split <;> (try split) <;> (try split) <;> omega
  have hQ2 := hQ.stl ha hc
  have e3 := ta4 hQ2.1 (a := a) (by omega)
  rw [stl_L, if_pos rfl] at e3
  refine ⟨_, ?_, hQ2, KR.A _ _⟩
  by_cases c : clp (aMx ρ a) x = aTl ρ a
  · have c' := eq_true c
    rw [if_pos c]
    simp (disch := omega) only [b2_some, bd_some, nm_eq, Option.map_some, zN_lit, zN_add, zN_mul, zN_neg1, if_true, if_false, reduceIte, eq_self, Nat.reduceEqDiff, Nat.reduceAdd, Nat.reduceMul, Nat.reduceSub, Nat.reduceLeDiff, Nat.one_ne_zero, not_false_eq_true, Bool.false_eq_true, zN_eq, zN_lt, zN_le,  fX5_becomes, ta4 hQ.1, fX5_atArc, ta3 hQ.1, e1, e2, wrA_N, e3, c']
  · have c' := eq_false c
    rw [if_neg c]
    simp (disch := omega) only [b2_some, bd_some, nm_eq, Option.map_some, zN_lit, zN_add, zN_mul, zN_neg1, if_true, if_false, reduceIte, eq_self, Nat.reduceEqDiff, Nat.reduceAdd, Nat.reduceMul, Nat.reduceSub, Nat.reduceLeDiff, Nat.one_ne_zero, not_false_eq_true, Bool.false_eq_true, zN_eq, zN_lt, zN_le,  fX5_becomes, ta4 hQ.1, fX5_atArc, ta3 hQ.1, e1, e2, wrA_N, e3, c']
theorem tw_addL (hQ : QT T ρ 0 (-1) 0) {by' : Int} (hb : -9999 ≤ by' ∧ by' ≤ 9999) : ∃ T', fX5_addTolls_l28 (zI by') 0 0 T = some (zN (blk ρ (fun k => clp (aMx ρ k) ((aTl ρ k : Int) + by')) (ρ 1)).2, T') ∧ QT T' (blk ρ (fun k => clp (aMx ρ k) ((aTl ρ k : Int) + by')) (ρ 1)).1 0 (-1) 0 ∧ KR T T' := by
  have h1 := hQ.2.1.h1
  have H : ∃ r, fX5_addTolls_l28 (zI by') 0 0 T = some r ∧ ∃ T', r = (zN (blk ρ (fun k => clp (aMx ρ k) ((aTl ρ k : Int) + by')) (ρ 1)).2, T') ∧ QT T' (blk ρ (fun k => clp (aMx ρ k) ((aTl ρ k : Int) + by')) (ρ 1)).1 0 (-1) 0 ∧ KR T T' := by
    refine wh_up (P := fun i s => i ≤ ρ 1 ∧ ∃ T', s = (zN (blk ρ (fun k => clp (aMx ρ k) ((aTl ρ k : Int) + by')) i).2, zN i, T') ∧ QT T' (blk ρ (fun k => clp (aMx ρ k) ((aTl ρ k : Int) + by')) i).1 0 (-1) 0 ∧ KR T T') (ρ 1) ?_ ?_ (ρ 1) 0 _ (by omega) ⟨by omega, T, rfl, hQ, KR.refl T⟩
    · rintro i s hi ⟨-, T', rfl, hQ', hK⟩
      have l1 : (blk ρ (fun k => clp (aMx ρ k) ((aTl ρ k : Int) + by')) i).1 1 = ρ 1 := blk_low _ _ _ (by omega)
      have la := blk_acc ρ (fun k => clp (aMx ρ k) ((aTl ρ k : Int) + by')) i i
      rw [if_neg (by omega)] at la
      have hc := blk_cnt ρ (fun k => clp (aMx ρ k) ((aTl ρ k : Int) + by')) i
      have b := hQ.2.1.ha hi
      obtain ⟨T2, e2, hQ2, hK2⟩ := tw_bec hQ' (a := i) (by omega) (x := (aTl ρ i : Int) + by') ⟨by omega, by omega⟩
      rw [la.1, la.2] at e2
      rw [la.1] at hQ2
      have e3 := ta4 hQ'.1 (a := i) (by omega)
      rw [la.2] at e3
      have e4 : zN (aTl ρ i) + zI by' = zI ((aTl ρ i : Int) + by') := zI_add _ _
      have m1 : ¬ ((blk ρ (fun k => clp (aMx ρ k) ((aTl ρ k : Int) + by')) i).1 1 ≤ i) := by omega
      have m2 : (blk ρ (fun k => clp (aMx ρ k) ((aTl ρ k : Int) + by')) i).1 1 < 2147483648 := by omega
      left
      refine ⟨_, ?_, by omega, T2, rfl, hQ2, hK.trans hK2⟩
      rw [blk_succ]
      dsimp only
      by_cases c : clp (aMx ρ i) ((aTl ρ i : Int) + by') = aTl ρ i
      · rw [if_pos c] at e2 ⊢
        simp (disch := omega) only [b2_some, bd_some, nm_eq, Option.map_some, zN_lit, zN_add, zN_mul, zN_neg1, if_true, if_false, reduceIte, eq_self, Nat.reduceEqDiff, Nat.reduceAdd, Nat.reduceMul, Nat.reduceSub, Nat.reduceLeDiff, Nat.one_ne_zero, not_false_eq_true, Bool.false_eq_true, zN_eq, zN_lt, zN_le,  fX5_addTolls_b28, tw_rd hQ'.1, m1, e3, e4, e2, Nat.add_zero]
      · rw [if_neg c] at e2 ⊢
        simp (disch := omega) only [b2_some, bd_some, nm_eq, Option.map_some, zN_lit, zN_add, zN_mul, zN_neg1, if_true, if_false, reduceIte, eq_self, Nat.reduceEqDiff, Nat.reduceAdd, Nat.reduceMul, Nat.reduceSub, Nat.reduceLeDiff, Nat.one_ne_zero, not_false_eq_true, Bool.false_eq_true, zN_eq, zN_lt, zN_le,  fX5_addTolls_b28, tw_rd hQ'.1, m1, e3, e4, e2]
    · rintro s ⟨-, T', rfl, hQ', hK⟩
      have l1 : (blk ρ (fun k => clp (aMx ρ k) ((aTl ρ k : Int) + by')) (ρ 1)).1 1 = ρ 1 := blk_low _ _ _ (by omega)
      refine ⟨_, ?_, T', rfl, hQ', hK⟩
      simp (disch := omega) only [b2_some, bd_some, nm_eq, Option.map_some, zN_lit, zN_add, zN_mul, zN_neg1, if_true, if_false, reduceIte, eq_self, Nat.reduceEqDiff, Nat.reduceAdd, Nat.reduceMul, Nat.reduceSub, Nat.reduceLeDiff, Nat.one_ne_zero, not_false_eq_true, Bool.false_eq_true, zN_eq, zN_lt, zN_le,  fX5_addTolls_b28, tw_rd hQ'.1, l1, Nat.le_refl]
  obtain ⟨r, e, T', rfl, h⟩ := H
  exact ⟨T', e, h⟩
theorem tw_clrL (hQ : QT T ρ 0 (-1) 0) : ∃ T', fX5_clearTolls_l13 0 0 T = some (zN (blk ρ (fun _ => 0) (ρ 1)).2, T') ∧ QT T' (blk ρ (fun _ => 0) (ρ 1)).1 0 (-1) 0 ∧ KR T T' := by
  have h1 := hQ.2.1.h1
  have H : ∃ r, fX5_clearTolls_l13 0 0 T = some r ∧ ∃ T', r = (zN (blk ρ (fun _ => 0) (ρ 1)).2, T') ∧ QT T' (blk ρ (fun _ => 0) (ρ 1)).1 0 (-1) 0 ∧ KR T T' := by
    refine wh_up (P := fun i s => i ≤ ρ 1 ∧ ∃ T', s = (zN (blk ρ (fun _ => 0) i).2, zN i, T') ∧ QT T' (blk ρ (fun _ => 0) i).1 0 (-1) 0 ∧ KR T T') (ρ 1) ?_ ?_ (ρ 1) 0 _ (by omega) ⟨by omega, T, rfl, hQ, KR.refl T⟩
    · rintro i s hi ⟨-, T', rfl, hQ', hK⟩
      have l1 : (blk ρ (fun _ => 0) i).1 1 = ρ 1 := blk_low _ _ _ (by omega)
      have la := blk_acc ρ (fun _ => 0) i i
      rw [if_neg (by omega)] at la
      have hc := blk_cnt ρ (fun _ => 0) i
      have b := hQ.2.1.ha hi
      obtain ⟨T2, e2, hQ2, hK2⟩ := tw_bec hQ' (a := i) (by omega) (x := 0) ⟨by omega, by omega⟩
      have c0 : clp (aMx ρ i) 0 = 0 := by unfold clp; rw [if_neg (by omega), if_neg (by omega)]; rfl
      rw [la.1, la.2, c0] at e2
      rw [la.1, c0] at hQ2
      have m1 : ¬ ((blk ρ (fun _ => 0) i).1 1 ≤ i) := by omega
      have m2 : (blk ρ (fun _ => 0) i).1 1 < 2147483648 := by omega
      have e2' : fX5_becomes (zN i) (zN 0) T' = _ := e2
      left
      refine ⟨_, ?_, by omega, T2, rfl, hQ2, hK.trans hK2⟩
      rw [blk_succ]
      dsimp only
      by_cases c : 0 = aTl ρ i
      · rw [if_pos c] at e2' ⊢
        simp (disch := omega) only [b2_some, bd_some, nm_eq, Option.map_some, zN_lit, zN_add, zN_mul, zN_neg1, if_true, if_false, reduceIte, eq_self, Nat.reduceEqDiff, Nat.reduceAdd, Nat.reduceMul, Nat.reduceSub, Nat.reduceLeDiff, Nat.one_ne_zero, not_false_eq_true, Bool.false_eq_true, zN_eq, zN_lt, zN_le,  fX5_clearTolls_b13, tw_rd hQ'.1, m1, e2', Nat.add_zero]
      · rw [if_neg c] at e2' ⊢
        simp (disch := omega) only [b2_some, bd_some, nm_eq, Option.map_some, zN_lit, zN_add, zN_mul, zN_neg1, if_true, if_false, reduceIte, eq_self, Nat.reduceEqDiff, Nat.reduceAdd, Nat.reduceMul, Nat.reduceSub, Nat.reduceLeDiff, Nat.one_ne_zero, not_false_eq_true, Bool.false_eq_true, zN_eq, zN_lt, zN_le,  fX5_clearTolls_b13, tw_rd hQ'.1, m1, e2']
    · rintro s ⟨-, T', rfl, hQ', hK⟩
      have l1 : (blk ρ (fun _ => 0) (ρ 1)).1 1 = ρ 1 := blk_low _ _ _ (by omega)
      refine ⟨_, ?_, T', rfl, hQ', hK⟩
      simp (disch := omega) only [b2_some, bd_some, nm_eq, Option.map_some, zN_lit, zN_add, zN_mul, zN_neg1, if_true, if_false, reduceIte, eq_self, Nat.reduceEqDiff, Nat.reduceAdd, Nat.reduceMul, Nat.reduceSub, Nat.reduceLeDiff, Nat.one_ne_zero, not_false_eq_true, Bool.false_eq_true, zN_eq, zN_lt, zN_le,  fX5_clearTolls_b13, tw_rd hQ'.1, l1, Nat.le_refl]
  obtain ⟨r, e, T', rfl, h⟩ := H
  exact ⟨T', e, h⟩
theorem tw_sclL (hQ : QT T ρ 0 (-1) 0) {pc : Nat} (hp : pc ≤ 1000) : ∃ T', fX5_scaleTolls_l26 (zN pc) 0 0 T = some (zN (blk ρ (fun k => clp (aMx ρ k) ((aTl ρ k * pc / 100 : Nat) : Int)) (ρ 1)).2, T') ∧ QT T' (blk ρ (fun k => clp (aMx ρ k) ((aTl ρ k * pc / 100 : Nat) : Int)) (ρ 1)).1 0 (-1) 0 ∧ KR T T' := by
  have h1 := hQ.2.1.h1
  have H : ∃ r, fX5_scaleTolls_l26 (zN pc) 0 0 T = some r ∧ ∃ T', r = (zN (blk ρ (fun k => clp (aMx ρ k) ((aTl ρ k * pc / 100 : Nat) : Int)) (ρ 1)).2, T') ∧ QT T' (blk ρ (fun k => clp (aMx ρ k) ((aTl ρ k * pc / 100 : Nat) : Int)) (ρ 1)).1 0 (-1) 0 ∧ KR T T' := by
    refine wh_up (P := fun i s => i ≤ ρ 1 ∧ ∃ T', s = (zN (blk ρ (fun k => clp (aMx ρ k) ((aTl ρ k * pc / 100 : Nat) : Int)) i).2, zN i, T') ∧ QT T' (blk ρ (fun k => clp (aMx ρ k) ((aTl ρ k * pc / 100 : Nat) : Int)) i).1 0 (-1) 0 ∧ KR T T') (ρ 1) ?_ ?_ (ρ 1) 0 _ (by omega) ⟨by omega, T, rfl, hQ, KR.refl T⟩
    · rintro i s hi ⟨-, T', rfl, hQ', hK⟩
      have l1 : (blk ρ (fun k => clp (aMx ρ k) ((aTl ρ k * pc / 100 : Nat) : Int)) i).1 1 = ρ 1 := blk_low _ _ _ (by omega)
      have la := blk_acc ρ (fun k => clp (aMx ρ k) ((aTl ρ k * pc / 100 : Nat) : Int)) i i
      rw [if_neg (by omega)] at la
      have hc := blk_cnt ρ (fun k => clp (aMx ρ k) ((aTl ρ k * pc / 100 : Nat) : Int)) i
      have b := hQ.2.1.ha hi
      have hm : aTl ρ i * pc ≤ 9999 * 1000 := Nat.mul_le_mul (by omega) hp
      obtain ⟨T2, e2, hQ2, hK2⟩ := tw_bec hQ' (a := i) (by omega) (x := ((aTl ρ i * pc / 100 : Nat) : Int)) ⟨by omega, by omega⟩
      rw [la.1, la.2] at e2
      rw [la.1] at hQ2
      have e3 := ta4 hQ'.1 (a := i) (by omega)
      rw [la.2] at e3
      have m1 : ¬ ((blk ρ (fun k => clp (aMx ρ k) ((aTl ρ k * pc / 100 : Nat) : Int)) i).1 1 ≤ i) := by omega
      have m2 : (blk ρ (fun k => clp (aMx ρ k) ((aTl ρ k * pc / 100 : Nat) : Int)) i).1 1 < 2147483648 := by omega
      have e2' : fX5_becomes (zN i) (zN (aTl ρ i * pc / 100)) T' = _ := e2
      left
      refine ⟨_, ?_, by omega, T2, rfl, hQ2, hK.trans hK2⟩
      rw [blk_succ]
      dsimp only
      by_cases c : clp (aMx ρ i) ((aTl ρ i * pc / 100 : Nat) : Int) = aTl ρ i
      · rw [if_pos c] at e2' ⊢
        simp (disch := omega) only [b2_some, bd_some, nm_eq, Option.map_some, zN_lit, zN_add, zN_mul, zN_neg1, if_true, if_false, reduceIte, eq_self, Nat.reduceEqDiff, Nat.reduceAdd, Nat.reduceMul, Nat.reduceSub, Nat.reduceLeDiff, Nat.one_ne_zero, not_false_eq_true, Bool.false_eq_true, zN_eq, zN_lt, zN_le,  fX5_scaleTolls_b26, tw_rd hQ'.1, m1, e3, zN_div, e2', Nat.add_zero]
      · rw [if_neg c] at e2' ⊢
        simp (disch := omega) only [b2_some, bd_some, nm_eq, Option.map_some, zN_lit, zN_add, zN_mul, zN_neg1, if_true, if_false, reduceIte, eq_self, Nat.reduceEqDiff, Nat.reduceAdd, Nat.reduceMul, Nat.reduceSub, Nat.reduceLeDiff, Nat.one_ne_zero, not_false_eq_true, Bool.false_eq_true, zN_eq, zN_lt, zN_le,  fX5_scaleTolls_b26, tw_rd hQ'.1, m1, e3, zN_div, e2']
    · rintro s ⟨-, T', rfl, hQ', hK⟩
      have l1 : (blk ρ (fun k => clp (aMx ρ k) ((aTl ρ k * pc / 100 : Nat) : Int)) (ρ 1)).1 1 = ρ 1 := blk_low _ _ _ (by omega)
      refine ⟨_, ?_, T', rfl, hQ', hK⟩
      simp (disch := omega) only [b2_some, bd_some, nm_eq, Option.map_some, zN_lit, zN_add, zN_mul, zN_neg1, if_true, if_false, reduceIte, eq_self, Nat.reduceEqDiff, Nat.reduceAdd, Nat.reduceMul, Nat.reduceSub, Nat.reduceLeDiff, Nat.one_ne_zero, not_false_eq_true, Bool.false_eq_true, zN_eq, zN_lt, zN_le,  fX5_scaleTolls_b26, tw_rd hQ'.1, l1, Nat.le_refl]
  obtain ⟨r, e, T', rfl, h⟩ := H
  exact ⟨T', e, h⟩
end
