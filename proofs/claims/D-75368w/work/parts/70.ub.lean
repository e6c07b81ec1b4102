/-! Plain law: the twin lays ties -/
def K4 (T T' : TW) : Prop := (∀ k, k ≠ 21 → tI T' k = tI T k) ∧ tR T' = tR T ∧ (∀ p, p ≠ 8 → p ≠ 9 → p ≠ 10 → p ≠ 11 → tA T' p = tA T p)
theorem K4.k2 {T T' : TW} (h : K4 T T') : K2 T T' := ⟨fun k hk _ => h.1 k hk, fun p hp => h.2.2 p (by omega) (by omega) (by omega) (by omega)⟩
theorem K4.q {T T' : TW} {ρ : Nat → Nat} {m fz : Nat} {aw : Int} (h : K4 T T') (hQ : QT T ρ m aw fz) : QT T' ρ m aw fz := h.k2.q hQ
theorem K4.refl (T : TW) : K4 T T := ⟨fun _ _ => rfl, rfl, fun _ _ _ _ _ => rfl⟩
theorem K4.trans {T T' T2 : TW} (h : K4 T T') (h' : K4 T' T2) : K4 T T2 := ⟨fun k hk => (h'.1 k hk).trans (h.1 k hk), h'.2.1.trans h.2.1, fun p a b c d => (h'.2.2 p a b c d).trans (h.2.2 p a b c d)⟩
theorem K4.A (T : TW) {p : Nat} (hp : p = 9 ∨ p = 10 ∨ p = 11) (f : Nat → Int32) : K4 T (tsA T p f) := ⟨fun _ _ => rfl, rfl, fun q a b c d => by rw [tA_A, if_neg (by omega)]⟩
theorem K4.B (T : TW) (p : Nat) (f : Nat → Int64) : K4 T (tsB T p f) := ⟨fun _ _ => rfl, rfl, fun _ _ _ _ _ => rfl⟩
theorem lsum_rng {f : Nat → Int} {D : Int} : ∀ l : List Nat, (∀ a ∈ l, 0 ≤ f a ∧ f a ≤ D) → 0 ≤ lsum f l ∧ lsum f l ≤ D * l.length
  | [], _ => by simp [lsum]
  | a :: l, h => by
    have ih := lsum_rng l (fun b hb => h b (List.mem_cons_of_mem _ hb))
    have h1 := h a (List.mem_cons_self ..)
    rw [lsum, List.length_cons, show D * ((l.length + 1 : Nat) : Int) = D * l.length + D by rw [Int.natCast_add, Int.mul_add]; simp]
    omega
section
variable (ρ : Nat → Nat) (m : Nat) (aw : Int) (fz t : Nat)
/-- what is felt from a node on -/
noncomputable def lT (n : Nat) : Option Int := dC (ρ 1) (aFr ρ) (aTo ρ) (uT ρ m aw fz) (feI ρ (pVa ρ t)) (tlI ρ) (pTo ρ t) n
noncomputable def lI (n : Nat) : Int := (lT ρ m aw fz t n).getD (-1)
noncomputable def tiT (a : Nat) : Bool := tgt (aFr ρ) (aTo ρ) (wcd (uT ρ m aw fz) (feI ρ (pVa ρ t)) (tlI ρ) 1 0 0) (lT ρ m aw fz t) a
noncomputable def vT (n : Nat) : Int × Int × Int := tieV (ρ 1) (aFr ρ) (aTo ρ) (tiT ρ m aw fz t) (tlI ρ) (pTo ρ t) 10 n
end
section
variable {T : TW} {ρ : Nat → Nat} {m fz : Nat} {aw : Int} {t : Nat}
theorem lT_eq (hI : Inv ρ) (ht : t < ρ 2) (n : Nat) : lT ρ m aw fz t n = (dT ρ m aw fz t n).map fun _ => lsum (feI ρ (pVa ρ t)) (pT ρ m aw fz t n) := dC_eq (tw_GN hI ht) (sgn_wB ρ) n
theorem lT_rng (hI : Inv ρ) (ht : t < ρ 2) {n : Nat} {z : Int} (hz : lT ρ m aw fz t n = some z) : 0 ≤ z ∧ z ≤ 269811 ∧ n < ρ 0 := by
  have h9 := cntB_9 (tw_GN (m := m) (aw := aw) (fz := fz) hI ht) hz
  rw [lT_eq hI ht] at hz
  cases e : dT ρ m aw fz t n with
  | none => rw [e] at hz; cases hz
  | some y =>
    rw [e] at hz
    have hz := Option.some.inj hz
    dsimp only at hz
    obtain ⟨-, h2, h3, h4, h5, h6⟩ := pT_all hI ht e
    have c := hI.ht ht
    have h0 := hI.h0
    have := lsum_rng (f := feI ρ (pVa ρ t)) (D := 29979) (pT ρ m aw fz t n) (fun a ha => by
      have := feN_le hI (show pVa ρ t ≤ 20 by omega) (h6 a ha).1
      unfold feI
      omega)
    omega
theorem lI_rng (hI : Inv ρ) (ht : t < ρ 2) (n : Nat) : -1 ≤ lI ρ m aw fz t n ∧ lI ρ m aw fz t n ≤ 269811 := by
  unfold lI
  cases e : lT ρ m aw fz t n with
  | none => exact ⟨(by decide : (-1 : Int) ≤ -1), (by decide : (-1 : Int) ≤ 269811)⟩
  | some z =>
    have := lT_rng hI ht e
    rw [Option.getD_some]
    omega
theorem lI_m1 (hI : Inv ρ) (ht : t < ρ 2) (n : Nat) : lI ρ m aw fz t n = -1 ↔ lT ρ m aw fz t n = none := by
  unfold lI
  cases e : lT ρ m aw fz t n with
  | none => exact ⟨fun _ => rfl, fun _ => rfl⟩
  | some z =>
    have := lT_rng hI ht e
    rw [Option.getD_some]
    exact ⟨fun h => by omega, fun h => by cases h⟩
theorem tw_least (hQ : QT T ρ m aw fz) (ht : t < ρ 2) : ∃ T', fX5_laysLeast (zN t) T = some T' ∧ K4 T T' ∧ ∀ n, n < 10 → tA T' 9 n = zI (lI ρ m aw fz t n) := by
  obtain ⟨f', e, hf⟩ := tw_far hQ.1 hQ.2.1 hQ.2.2 ht
  have H : ∃ r, fX5_laysLeast_l7 0 (tsB T 7 f') = some r ∧ (K4 T r ∧ ∀ n, n < 10 → tA r 9 n = zI (lI ρ m aw fz t n)) := by
    refine wh_up (P := fun i s => i ≤ 10 ∧ ∃ T', s = (zN i, T') ∧ K4 T T' ∧ tB T' 7 = f' ∧ ∀ n, n < i → tA T' 9 n = zI (lI ρ m aw fz t n)) 10 ?_ ?_ 10 0 _ (by omega) ⟨by omega, _, rfl, K4.B T 7 f', by rw [tB_B, if_pos rfl], fun n hn => by omega⟩
    · rintro i s hi ⟨-, T', rfl, hK, hB, hA⟩
      have n1 : ¬ (10 ≤ i) := by omega
      have hin := dT_in (m := m) (aw := aw) (fz := fz) hQ.2.1 ht i
      have c1 := encF_lt hin
      have eF : (2305843009213693951 : Int64) = zJ FAR := rfl
      have hfi := hf i hi
      have hx : fX5_laysLeast_b7 (zN i) T' = some (.inl (zN (i + 1), tsA T' 9 (upd (tA T' 9) i (zI (lI ρ m aw fz t i))))) := by
        cases hd : dT ρ m aw fz t i with
        | none =>
          have hl : lI ρ m aw fz t i = -1 := by unfold lI; rw [lT_eq hQ.2.1 ht, hd]; rfl
          rw [hd] at c1
          have c2 : ¬ (none ≠ (none : Option Int)) := by simp
          rw [hl]
          rw [hd] at hfi
          generalize encF none = v at c1 hfi
          simp (disch := omega) only [b2_some, bd_some, nm_eq, Option.map_some, zN_lit, zN_add, zN_mul, zN_neg1, if_true, if_false, reduceIte, eq_self, Nat.reduceEqDiff, Nat.reduceAdd, Nat.reduceMul, Nat.reduceSub, Nat.reduceLeDiff, Nat.one_ne_zero, not_false_eq_true, Bool.false_eq_true, zN_eq, zN_lt, zN_le,  fX5_laysLeast_b7, n1, hB, rd_N, hfi, eF, c1, c2, fX5_laysLeast_b50, wrA_N]
        | some z =>
          have hz := hin z hd
          have hl : lI ρ m aw fz t i = lsum (feI ρ (pVa ρ t)) (pT ρ m aw fz t i) := by unfold lI; rw [lT_eq hQ.2.1 ht, hd]; rfl
          obtain ⟨h1, h2, h3, h4, h5, h6⟩ := pT_all hQ.2.1 ht hd
          have h0 := hQ.2.1.h0
          rw [hd] at c1
          have c2 : some z ≠ none := by simp
          have e1 : (z + 500000000) / 1000000000 = lsum (feI ρ (pVa ρ t)) (pT ρ m aw fz t i) := by
            rcases sgn_wB ρ with hs | hs <;> rw [hs] at h1 <;> omega
          have e2 := zJ_div (a := z + 500000000) (b := 1000000000) (by omega) (by omega)
          rw [e1] at e2
          rw [hl]
          rw [hd] at hfi
          rw [encF_some] at c1 hfi
          simp (disch := omega) only [b2_some, bd_some, nm_eq, Option.map_some, zN_lit, zN_add, zN_mul, zN_neg1, if_true, if_false, reduceIte, eq_self, Nat.reduceEqDiff, Nat.reduceAdd, Nat.reduceMul, Nat.reduceSub, Nat.reduceLeDiff, Nat.one_ne_zero, not_false_eq_true, Bool.false_eq_true, zN_eq, zN_lt, zN_le,  fX5_laysLeast_b7, n1, hB, rd_N, hfi, eF, c1, c2, fX5_laysLeast_b50, wrA_N, show (500000000 : Int64) = zJ 500000000 from rfl, show (1000000000 : Int64) = zJ 1000000000 from rfl, zJ_add, e2, zJ_I, ne_eq, reduceCtorEq]
      refine .inl ⟨_, hx, by omega, _, rfl, hK.trans (K4.A _ (by omega) _), hB, fun n hn => ?_⟩
      rw [tA_A, if_pos rfl]
      unfold upd
      by_cases e : n = i
      · rw [if_pos e, e]
      · rw [if_neg e]; exact hA n (by omega)
    · rintro s ⟨-, T', rfl, hK, hB, hA⟩
      refine ⟨T', ?_, hK, hA⟩
      simp (disch := omega) only [b2_some, bd_some, nm_eq, Option.map_some, zN_lit, zN_add, zN_mul, zN_neg1, if_true, if_false, reduceIte, eq_self, Nat.reduceEqDiff, Nat.reduceAdd, Nat.reduceMul, Nat.reduceSub, Nat.reduceLeDiff, Nat.one_ne_zero, not_false_eq_true, Bool.false_eq_true, zN_eq, zN_lt, zN_le,  fX5_laysLeast_b7, Nat.le_refl]
  obtain ⟨T', e2, h⟩ := H
  refine ⟨T', ?_, h⟩
  have e2' : fX5_laysLeast_l7 (zN 0) (tsB T 7 f') = some T' := e2
  simp (disch := omega) only [b2_some, bd_some, nm_eq, Option.map_some, zN_lit, zN_add, zN_mul, zN_neg1, if_true, if_false, reduceIte, eq_self, Nat.reduceEqDiff, Nat.reduceAdd, Nat.reduceMul, Nat.reduceSub, Nat.reduceLeDiff, Nat.one_ne_zero, not_false_eq_true, Bool.false_eq_true, zN_eq, zN_lt, zN_le,  fX5_laysLeast, e, e2']
theorem tw_tie (hQ : QT T ρ m aw fz) (ht : t < ρ 2) (hL : ∀ n, n < 10 → tA T 9 n = zI (lI ρ m aw fz t n)) {a : Nat} (ha : a < ρ 1) : fX5_isTight (zN t) (zN a) T = some (zN (if tiT ρ m aw fz t a then 1 else 0), T) := by
  have b := hQ.2.1.ha ha
  have c := hQ.2.1.ht ht
  have hf := feN_le hQ.2.1 (show pVa ρ t ≤ 20 by omega) ha
  have r1 := lI_rng (m := m) (aw := aw) (fz := fz) hQ.2.1 ht (aTo ρ a)
  have r2 := lI_rng (m := m) (aw := aw) (fz := fz) hQ.2.1 ht (aFr ρ a)
  by_cases hu : uT ρ m aw fz a
  · have hw : wcd (uT ρ m aw fz) (feI ρ (pVa ρ t)) (tlI ρ) 1 0 0 a = some (1 * feI ρ (pVa ρ t) a + 0 * tlI ρ a + 0) := wcd_pos hu
    have n1 : (zI (lI ρ m aw fz t (aTo ρ a)) = zI (-1)) = (lI ρ m aw fz t (aTo ρ a) = -1) := zI_eq (by omega) (by omega)
    by_cases h1 : lI ρ m aw fz t (aTo ρ a) = -1
    · have h1' := (lI_m1 hQ.2.1 ht _).mp h1
      rw [eq_true h1] at n1
      have h2 : tiT ρ m aw fz t a = false := by
        cases e : tiT ρ m aw fz t a with
        | false => rfl
        | true =>
          obtain ⟨x, y, hx, hy, hz⟩ := tgt_iff.mp e
          rw [h1'] at hy
          cases hy
      rw [h2]
      simp (disch := omega) only [b2_some, bd_some, nm_eq, Option.map_some, zN_lit, zN_add, zN_mul, zN_neg1, if_true, if_false, reduceIte, eq_self, Nat.reduceEqDiff, Nat.reduceAdd, Nat.reduceMul, Nat.reduceSub, Nat.reduceLeDiff, Nat.one_ne_zero, not_false_eq_true, Bool.false_eq_true, zN_eq, zN_lt, zN_le,  fX5_isTight, to1 hQ.1 hQ.2.1 hQ.2.2 hu, ta1 hQ.1, rd_N, hL, n1]
    · rw [eq_false h1] at n1
      have n2 : (zI (lI ρ m aw fz t (aFr ρ a)) = zI (lI ρ m aw fz t (aTo ρ a) + feI ρ (pVa ρ t) a)) = (lI ρ m aw fz t (aFr ρ a) = lI ρ m aw fz t (aTo ρ a) + feI ρ (pVa ρ t) a) := zI_eq (by omega) (by unfold feI; omega)
      have n3 : zI (lI ρ m aw fz t (aTo ρ a)) + zN (feN ρ (pVa ρ t) a) = zI (lI ρ m aw fz t (aTo ρ a) + feI ρ (pVa ρ t) a) := zI_add _ _
      have hto : ∃ y, lT ρ m aw fz t (aTo ρ a) = some y ∧ lI ρ m aw fz t (aTo ρ a) = y := by
        cases e : lT ρ m aw fz t (aTo ρ a) with
        | none => exact absurd ((lI_m1 hQ.2.1 ht _).mpr e) h1
        | some y => exact ⟨y, rfl, by unfold lI; rw [e]; rfl⟩
      obtain ⟨y, hy, hy'⟩ := hto
      by_cases h2 : lI ρ m aw fz t (aFr ρ a) = lI ρ m aw fz t (aTo ρ a) + feI ρ (pVa ρ t) a
      · rw [eq_true h2] at n2
        have h3 : tiT ρ m aw fz t a = true := by
          refine tgt_iff.mpr ⟨_, y, hw, hy, ?_⟩
          cases e : lT ρ m aw fz t (aFr ρ a) with
          | none =>
            have := (lI_m1 (m := m) (aw := aw) (fz := fz) hQ.2.1 ht _).mpr e
            have := lT_rng hQ.2.1 ht hy
            unfold feI at h2
            omega
          | some z =>
            have h4 : lI ρ m aw fz t (aFr ρ a) = z := by unfold lI; rw [e]; rfl
            congr 1
            omega
        rw [h3]
        simp (disch := omega) only [b2_some, bd_some, nm_eq, Option.map_some, zN_lit, zN_add, zN_mul, zN_neg1, if_true, if_false, reduceIte, eq_self, Nat.reduceEqDiff, Nat.reduceAdd, Nat.reduceMul, Nat.reduceSub, Nat.reduceLeDiff, Nat.one_ne_zero, not_false_eq_true, Bool.false_eq_true, zN_eq, zN_lt, zN_le,  fX5_isTight, to1 hQ.1 hQ.2.1 hQ.2.2 hu, ta0 hQ.1, ta1 hQ.1, rd_N, hL, n1, tw_felt hQ.1, n3, n2]
      · rw [eq_false h2] at n2
        have h3 : tiT ρ m aw fz t a = false := by
          cases e : tiT ρ m aw fz t a with
          | false => rfl
          | true =>
            obtain ⟨x, y', hx, hy2, hz⟩ := tgt_iff.mp e
            rw [hw] at hx
            rw [hy] at hy2
            have hx := Option.some.inj hx
            have hy2 := Option.some.inj hy2
            have h4 : lI ρ m aw fz t (aFr ρ a) = y' + x := by unfold lI; rw [hz]; rfl
            omega
        rw [h3]
        simp (disch := omega) only [b2_some, bd_some, nm_eq, Option.map_some, zN_lit, zN_add, zN_mul, zN_neg1, if_true, if_false, reduceIte, eq_self, Nat.reduceEqDiff, Nat.reduceAdd, Nat.reduceMul, Nat.reduceSub, Nat.reduceLeDiff, Nat.one_ne_zero, not_false_eq_true, Bool.false_eq_true, zN_eq, zN_lt, zN_le,  fX5_isTight, to1 hQ.1 hQ.2.1 hQ.2.2 hu, ta0 hQ.1, ta1 hQ.1, rd_N, hL, n1, tw_felt hQ.1, n3, n2]
  · have h2 : tiT ρ m aw fz t a = false := by
      cases e : tiT ρ m aw fz t a with
      | false => rfl
      | true =>
        obtain ⟨x, y, hx, hy, hz⟩ := tgt_iff.mp e
        rw [wcd_neg hu] at hx
        cases hx
    rw [h2]
    simp (disch := omega) only [b2_some, bd_some, nm_eq, Option.map_some, zN_lit, zN_add, zN_mul, zN_neg1, if_true, if_false, reduceIte, eq_self, Nat.reduceEqDiff, Nat.reduceAdd, Nat.reduceMul, Nat.reduceSub, Nat.reduceLeDiff, Nat.one_ne_zero, not_false_eq_true, Bool.false_eq_true, zN_eq, zN_lt, zN_le,  fX5_isTight, to0 hQ.1 hQ.2.1 hQ.2.2 ha hu]
end
