/-! Plain law: the next best path on the twin's side -/
section
variable (ρ : Nat → Nat) (t : Nat) (p : List Nat)
/-- the node ahead of an arc of a path -/
def nd (j : Nat) : Nat := if j = 0 then pFr ρ t else aTo ρ (p.getD (j - 1) 0)
def pmk : Nat → Nat
  | 0 => 0
  | j + 1 => pmk j ||| 2 ^ nd ρ t p j
def psm (j : Nat) : Nat := sgN (fun i => feN ρ (pVa ρ t) (p.getD i 0)) j
noncomputable def asI (fz k : Nat) : Int := if lI ρ (pmk ρ t p k) (p.getD k 0) fz t (nd ρ t p k) = -1 then 2147483647 else (psm ρ t p k : Int) + lI ρ (pmk ρ t p k) (p.getD k 0) fz t (nd ρ t p k)
noncomputable def mnA (fz : Nat) : Nat → Int
  | 0 => 2147483647
  | k + 1 => if asI ρ t p fz k < mnA fz k then asI ρ t p fz k else mnA fz k
end
noncomputable def mrgI (ρ : Nat → Nat) (fz t : Nat) : Int := match PT ρ 0 (-1) fz t with
  | none => -1
  | some p => if mnA ρ t p fz p.length = 2147483647 then -1 else mnA ρ t p fz p.length - ((pVa ρ t * pco ρ p + ptl ρ p : Nat) : Int)
section
variable {T : TW} {ρ : Nat → Nat} {fz : Nat} {t : Nat}
theorem nd_lt (hI : Inv ρ) (ht : t < ρ 2) {p : List Nat} (hp : ∀ a ∈ p, a < ρ 1) {k : Nat} (hk : k ≤ p.length) : nd ρ t p k < 10 := by
  unfold nd
  split
  · have := hI.ht ht; omega
  · have := hI.ha (hp _ (getD_mem (show k - 1 < p.length by omega)))
    omega
theorem pmk_lt (hI : Inv ρ) (ht : t < ρ 2) {p : List Nat} (hp : ∀ a ∈ p, a < ρ 1) : ∀ {k : Nat}, k ≤ p.length → pmk ρ t p k < 1024
  | 0, _ => by unfold pmk; omega
  | k + 1, h => by
    unfold pmk
    exact or_lt (pmk_lt hI ht hp (by omega)) (Nat.pow_lt_pow_right (n := 10) (by omega) (nd_lt hI ht hp (by omega)))
theorem psm_le (hI : Inv ρ) (ht : t < ρ 2) {p : List Nat} (hp : ∀ a ∈ p, a < ρ 1) {k : Nat} (hk : k ≤ p.length) : psm ρ t p k ≤ k * 29979 :=
  sgN_le k (fun i hi => feN_le hI (by have := hI.ht ht; omega) (hp _ (getD_mem (by omega))))
theorem asI_rng (hI : Inv ρ) (ht : t < ρ 2) {p : List Nat} (hp : ∀ a ∈ p, a < ρ 1) (hl : p.length < 10) {k : Nat} (hk : k ≤ p.length) : 0 ≤ asI ρ t p fz k ∧ asI ρ t p fz k ≤ 2147483647 := by
  have h1 := psm_le hI ht hp hk
  have h2 := lI_rng (m := pmk ρ t p k) (aw := p.getD k 0) (fz := fz) hI ht (nd ρ t p k)
  have h3 : k * 29979 ≤ 10 * 29979 := Nat.mul_le_mul_right _ (by omega)
  unfold asI
  split
  · omega
  · omega
theorem tw_aside (hQ : QT T ρ 0 (-1) fz) (ht : t < ρ 2) {p : List Nat} (hp : ∀ a ∈ p, a < ρ 1) (hl : p.length < 10) (hA : Arr (tA T 15) p) {k : Nat} (hk : k < p.length) :
    ∃ T', fX5_feltAside (zN t) (zN k) T = some (zI (asI ρ t p fz k), T') ∧ K4 T T' := by
  have c := hQ.2.1.ht ht
  have H : ∃ r, fX5_feltAside_l13 (zN t) (zN k) 0 (zN (pFr ρ t)) 0 T = some r ∧ ∃ T', r = (zI (asI ρ t p fz k), T') ∧ K4 T T' := by
    refine wh_up (P := fun i s => i ≤ k ∧ ∃ T', s = (zN (psm ρ t p i), zN (nd ρ t p i), zN i, T') ∧ T' = tsI T 17 (zN (pmk ρ t p i))) k ?_ ?_ k 0 _ (by omega) ⟨by omega, T, rfl, ?_⟩
    · rintro i s hi ⟨-, T', rfl, rfl⟩
      have n1 : ¬ (k ≤ i) := by omega
      have g := hp _ (getD_mem (show i < p.length by omega))
      have b := hQ.2.1.ha g
      have hn := nd_lt hQ.2.1 ht hp (show i ≤ p.length by omega)
      have hR1 : RowT (tsI T 17 (zN (pmk ρ t p i))) ρ := hQ.1
      have hR2 : RowT (tsI (tsI T 17 (zN (pmk ρ t p i))) 17 (zN (pmk ρ t p i ||| 2 ^ nd ρ t p i))) ρ := hQ.1
      have e17 : tI (tsI T 17 (zN (pmk ρ t p i))) 17 = zN (pmk ρ t p i) := by rw [tI_s, if_pos rfl]
      left
      refine ⟨(zN (psm ρ t p i + feN ρ (pVa ρ t) (p.getD i 0)), zN (aTo ρ (p.getD i 0)), zN (i + 1), tsI (tsI T 17 (zN (pmk ρ t p i))) 17 (zN (pmk ρ t p i ||| 2 ^ nd ρ t p i))), ?_, by omega, tsI T 17 (zN (pmk ρ t p (i + 1))), ?_, rfl⟩
      · simp (disch := omega) only [b2_some, bd_some, nm_eq, Option.map_some, zN_lit, zN_add, zN_mul, zN_neg1, if_true, if_false, reduceIte, eq_self, Nat.reduceEqDiff, Nat.reduceAdd, Nat.reduceMul, Nat.reduceSub, Nat.reduceLeDiff, Nat.one_ne_zero, not_false_eq_true, Bool.false_eq_true, zN_eq, zN_lt, zN_le,  fX5_feltAside_b13, n1, rd_N, tA_s, hA.get (show i < p.length by omega), tw_felt hR1, e17, zN_shlz, zN_or, ta1 hR2]
      · have e1 : tsI (tsI T 17 (zN (pmk ρ t p i))) 17 (zN (pmk ρ t p i ||| 2 ^ nd ρ t p i)) = tsI T 17 (zN (pmk ρ t p (i + 1))) := by
          rw [show pmk ρ t p (i + 1) = pmk ρ t p i ||| 2 ^ nd ρ t p i from rfl]
          unfold tsI
          congr 1
          funext j
          unfold upd
          dsimp only
          by_cases e : j = 17
          · rw [if_pos e, if_pos e]
          · rw [if_neg e, if_neg e, if_neg e]
        rw [e1, show nd ρ t p (i + 1) = aTo ρ (p.getD i 0) by unfold nd; rw [if_neg (by omega)]; rfl]
        rfl
    · rintro s ⟨-, T', rfl, rfl⟩
      have hpm := pmk_lt hQ.2.1 ht hp (show k ≤ p.length by omega)
      have g := hp _ (getD_mem hk)
      have b := hQ.2.1.ha g
      have hn := nd_lt hQ.2.1 ht hp (show k ≤ p.length by omega)
      have hQ1 : QT (tsI (tsI T 17 (zN (pmk ρ t p k))) 18 (zN (p.getD k 0))) ρ (pmk ρ t p k) (p.getD k 0) fz :=
        ⟨hQ.1, hQ.2.1, ⟨by rw [tI_s, if_neg (by omega), tI_s, if_pos rfl], hpm⟩, ⟨by rw [tI_s, if_pos rfl]; rfl, by omega, by omega⟩, by rw [tI_s, if_neg (by omega), tI_s, if_neg (by omega)]; exact hQ.2.2.2.2.1, hQ.2.2.2.2.2⟩
      obtain ⟨T2, e2, hK2, hL2⟩ := tw_least hQ1 ht
      have hli := lI_rng (m := pmk ρ t p k) (aw := p.getD k 0) (fz := fz) hQ.2.1 ht (nd ρ t p k)
      have n2 : (zI (lI ρ (pmk ρ t p k) (p.getD k 0) fz t (nd ρ t p k)) = zI (-1)) = (lI ρ (pmk ρ t p k) (p.getD k 0) fz t (nd ρ t p k) = -1) := zI_eq (by omega) (by omega)
      have hKK : K4 T (tsI (tsI T2 18 (zI (-1))) 17 (zN 0)) := by
        refine ⟨fun q hq => ?_, hK2.2.1, hK2.2.2⟩
        rw [tI_s]
        by_cases e : q = 17
        · rw [if_pos e, e]; exact hQ.2.2.1.1.symm
        · rw [if_neg e, tI_s]
          by_cases e' : q = 18
          · rw [if_pos e', e']; exact hQ.2.2.2.1.1.symm
          · rw [if_neg e', hK2.1 q hq, tI_s, if_neg e', tI_s, if_neg e]
      have a15 : tA (tsI T 17 (zN (pmk ρ t p k))) 15 = tA T 15 := rfl
      refine ⟨_, ?_, tsI (tsI T2 18 (zI (-1))) 17 (zN 0), rfl, hKK⟩
      unfold asI
      by_cases e : lI ρ (pmk ρ t p k) (p.getD k 0) fz t (nd ρ t p k) = -1
      · rw [eq_true e] at n2
        rw [if_pos e]
        simp (disch := omega) only [b2_some, bd_some, nm_eq, Option.map_some, zN_lit, zN_add, zN_mul, zN_neg1, if_true, if_false, reduceIte, eq_self, Nat.reduceEqDiff, Nat.reduceAdd, Nat.reduceMul, Nat.reduceSub, Nat.reduceLeDiff, Nat.one_ne_zero, not_false_eq_true, Bool.false_eq_true, zN_eq, zN_lt, zN_le,  fX5_feltAside_b13, Nat.le_refl, fX5_feltAside_b67, rd_N, a15, hA.get hk, e2, tA_s, hL2, n2]
        rfl
      · rw [eq_false e] at n2
        rw [if_neg e]
        have e3 : zN (psm ρ t p k) + zI (lI ρ (pmk ρ t p k) (p.getD k 0) fz t (nd ρ t p k)) = zI ((psm ρ t p k : Int) + lI ρ (pmk ρ t p k) (p.getD k 0) fz t (nd ρ t p k)) := zI_add _ _
        simp (disch := omega) only [b2_some, bd_some, nm_eq, Option.map_some, zN_lit, zN_add, zN_mul, zN_neg1, if_true, if_false, reduceIte, eq_self, Nat.reduceEqDiff, Nat.reduceAdd, Nat.reduceMul, Nat.reduceSub, Nat.reduceLeDiff, Nat.one_ne_zero, not_false_eq_true, Bool.false_eq_true, zN_eq, zN_lt, zN_le,  fX5_feltAside_b13, Nat.le_refl, fX5_feltAside_b67, rd_N, a15, hA.get hk, e2, tA_s, hL2, n2, e3]
    · unfold pmk
      unfold tsI
      show T = (upd T.1 17 (zN 0), T.2)
      have : upd T.1 17 (zN 0) = T.1 := by
        funext j
        unfold upd
        by_cases e : j = 17
        · rw [if_pos e, e]; exact hQ.2.2.1.1.symm
        · rw [if_neg e]
      rw [this]
  obtain ⟨r, e, T', rfl, h⟩ := H
  refine ⟨T', ?_, h⟩
  have e' : fX5_feltAside_l13 (zN t) (zN k) (zN 0) (zN (pFr ρ t)) (zN 0) T = _ := e
  simp (disch := omega) only [b2_some, bd_some, nm_eq, Option.map_some, zN_lit, zN_add, zN_mul, zN_neg1, if_true, if_false, reduceIte, eq_self, Nat.reduceEqDiff, Nat.reduceAdd, Nat.reduceMul, Nat.reduceSub, Nat.reduceLeDiff, Nat.one_ne_zero, not_false_eq_true, Bool.false_eq_true, zN_eq, zN_lt, zN_le,  fX5_feltAside, tp0 hQ.1, e']
theorem mnA_rng (hI : Inv ρ) (ht : t < ρ 2) {p : List Nat} (hp : ∀ a ∈ p, a < ρ 1) (hl : p.length < 10) : ∀ k, k ≤ p.length → 0 ≤ mnA ρ t p fz k ∧ mnA ρ t p fz k ≤ 2147483647
  | 0, _ => by unfold mnA; omega
  | k + 1, h => by
    have h1 := mnA_rng hI ht hp hl k (by omega)
    have h2 := asI_rng (fz := fz) hI ht hp hl (show k ≤ p.length by omega)
    unfold mnA
    split <;> omega
theorem tw_mrg48 (hQ : QT T ρ 0 (-1) fz) (ht : t < ρ 2) {p : List Nat} (hp : ∀ a ∈ p, a < ρ 1) (hl : p.length < 10) (hA : Arr (tA T 8) p) {f : Nat} (hf : f ≤ 269811) :
    ∃ T', fX5_margin_l48 (zN t) (zN f) (zN p.length) 0 T = some (zI (if mnA ρ t p fz p.length = 2147483647 then -1 else mnA ρ t p fz p.length - (f : Int)), T') ∧ K2 T T' := by
  have H : ∃ r, fX5_margin_l48 (zN t) (zN f) (zN p.length) 0 T = some r ∧ ∃ T', r = (zI (if mnA ρ t p fz p.length = 2147483647 then -1 else mnA ρ t p fz p.length - (f : Int)), T') ∧ K2 T T' := by
    refine wh_up (P := fun i s => i ≤ p.length ∧ ∃ T', s = (zN i, T') ∧ K2 T T' ∧ tA T' 8 = tA T 8 ∧ ∀ k, k < i → tA T' 15 k = zN (p.getD k 0)) p.length ?_ ?_ p.length 0 _ (by omega) ⟨by omega, T, rfl, K2.refl T, rfl, fun k hk => by omega⟩
    · rintro i s hi ⟨-, T', rfl, hK, h8, h15⟩
      have n1 : ¬ (p.length ≤ i) := by omega
      left
      refine ⟨(zN (i + 1), tsA T' 15 (upd (tA T' 15) i (zN (p.getD i 0)))), ?_, by omega, _, rfl, hK.trans ⟨fun _ _ _ => rfl, fun q hq => by rw [tA_A, if_neg (by omega)]⟩, by rw [tA_A, if_neg (by omega)]; exact h8, fun k hk => ?_⟩
      · simp (disch := omega) only [b2_some, bd_some, nm_eq, Option.map_some, zN_lit, zN_add, zN_mul, zN_neg1, if_true, if_false, reduceIte, eq_self, Nat.reduceEqDiff, Nat.reduceAdd, Nat.reduceMul, Nat.reduceSub, Nat.reduceLeDiff, Nat.one_ne_zero, not_false_eq_true, Bool.false_eq_true, zN_eq, zN_lt, zN_le,  fX5_margin_b48, n1, rd_N, h8, hA.get hi, wrA_N]
      · rw [tA_A, if_pos rfl]
        unfold upd
        by_cases e : k = i
        · rw [if_pos e, e]
        · rw [if_neg e]; exact h15 k (by omega)
    · rintro s ⟨-, T', rfl, hK, h8, h15⟩
      have G : ∃ r, fX5_margin_l82 (zN t) (zN f) (zN p.length) 2147483647 0 T' = some r ∧ ∃ T2, r = (zI (if mnA ρ t p fz p.length = 2147483647 then -1 else mnA ρ t p fz p.length - (f : Int)), T2) ∧ K2 T T2 := by
        refine wh_up (P := fun i s => i ≤ p.length ∧ ∃ T2, s = (zI (mnA ρ t p fz i), zN i, T2) ∧ K2 T T2 ∧ Arr (tA T2 15) p) p.length ?_ ?_ p.length 0 _ (by omega) ⟨by omega, T', rfl, hK, h15⟩
        · rintro i s hi ⟨-, T2, rfl, hK2, hA2⟩
          obtain ⟨T3, e3, hK3⟩ := tw_aside (hK2.q hQ) ht hp hl hA2 hi
          have n1 : ¬ (p.length ≤ i) := by omega
          have r1 := mnA_rng (fz := fz) hQ.2.1 ht hp hl i (by omega)
          have r2 := asI_rng (fz := fz) hQ.2.1 ht hp hl (show i ≤ p.length by omega)
          have m1 := mnI_z (a := mnA ρ t p fz i) (b := asI ρ t p fz i) (by omega) (by omega)
          left
          refine ⟨_, ?_, by omega, T3, rfl, hK2.trans hK3.k2, by rw [hK3.2.2 15 (by omega) (by omega) (by omega) (by omega)]; exact hA2⟩
          rw [mnA]
          simp (disch := omega) only [b2_some, bd_some, nm_eq, Option.map_some, zN_lit, zN_add, zN_mul, zN_neg1, if_true, if_false, reduceIte, eq_self, Nat.reduceEqDiff, Nat.reduceAdd, Nat.reduceMul, Nat.reduceSub, Nat.reduceLeDiff, Nat.one_ne_zero, not_false_eq_true, Bool.false_eq_true, zN_eq, zN_lt, zN_le,  fX5_margin_b82, n1, e3, m1]
        · rintro s ⟨-, T2, rfl, hK2, hA2⟩
          have r1 := mnA_rng (fz := fz) hQ.2.1 ht hp hl p.length (by omega)
          have n2 : (zI (mnA ρ t p fz p.length) = zN 2147483647) = (mnA ρ t p fz p.length = 2147483647) := zI_eq (b := (2147483647 : Nat)) (by omega) (by omega)
          refine ⟨_, ?_, T2, rfl, hK2⟩
          by_cases e : mnA ρ t p fz p.length = 2147483647
          · rw [eq_true e] at n2
            rw [if_pos e]
            simp (disch := omega) only [b2_some, bd_some, nm_eq, Option.map_some, zN_lit, zN_add, zN_mul, zN_neg1, if_true, if_false, reduceIte, eq_self, Nat.reduceEqDiff, Nat.reduceAdd, Nat.reduceMul, Nat.reduceSub, Nat.reduceLeDiff, Nat.one_ne_zero, not_false_eq_true, Bool.false_eq_true, zN_eq, zN_lt, zN_le,  fX5_margin_b82, Nat.le_refl, fX5_margin_b108, n2]
          · rw [eq_false e] at n2
            rw [if_neg e]
            have e3 : zI (mnA ρ t p fz p.length) - zN f = zI (mnA ρ t p fz p.length - (f : Int)) := zI_sub _ _
            simp (disch := omega) only [b2_some, bd_some, nm_eq, Option.map_some, zN_lit, zN_add, zN_mul, zN_neg1, if_true, if_false, reduceIte, eq_self, Nat.reduceEqDiff, Nat.reduceAdd, Nat.reduceMul, Nat.reduceSub, Nat.reduceLeDiff, Nat.one_ne_zero, not_false_eq_true, Bool.false_eq_true, zN_eq, zN_lt, zN_le,  fX5_margin_b82, Nat.le_refl, fX5_margin_b108, n2, e3]
      obtain ⟨r, e, T2, rfl, hK2⟩ := G
      refine ⟨_, ?_, T2, rfl, hK2⟩
      have e' : fX5_margin_l82 (zN t) (zN f) (zN p.length) (zN 2147483647) (zN 0) T' = _ := e
      simp (disch := omega) only [b2_some, bd_some, nm_eq, Option.map_some, zN_lit, zN_add, zN_mul, zN_neg1, if_true, if_false, reduceIte, eq_self, Nat.reduceEqDiff, Nat.reduceAdd, Nat.reduceMul, Nat.reduceSub, Nat.reduceLeDiff, Nat.one_ne_zero, not_false_eq_true, Bool.false_eq_true, zN_eq, zN_lt, zN_le,  fX5_margin_b48, Nat.le_refl, fX5_margin_b74, e']
  obtain ⟨r, e, T', rfl, h⟩ := H
  exact ⟨T', e, h⟩
end
