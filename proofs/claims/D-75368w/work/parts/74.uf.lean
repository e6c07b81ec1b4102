/-! Plain law: ranges; the twin judges the buffer -/
def bI (x : Int) : Prop := -2147483648 ≤ x ∧ x < 2147483648
theorem zI_lt' {a b : Int} (ha : bI a) (hb : bI b) : (zI a < zI b) = (a < b) := zI_lt ha hb
theorem toI_rng (v : Int32) : bI v.toInt := ⟨Int32.le_toInt v, Int32.toInt_lt v⟩
theorem zI_ofv (v : Int32) : ∃ x, v = zI x ∧ bI x := ⟨v.toInt, zI_of v, toI_rng v⟩
theorem tw_in {T : TW} {a b c : Int} (ha : bI a) (hb : bI b) (hc : bI c) : fX5_in (zI a) (zI b) (zI c) T = some (zN (if b ≤ a ∧ a ≤ c then 1 else 0), T) := by
  unfold fX5_in
  simp only [zI_lt' ha hb, zI_lt' hc ha]
  by_cases h1 : a < b
  · rw [if_pos h1, if_neg (by omega)]; rfl
  · rw [if_neg h1]
    by_cases h2 : c < a
    · rw [if_pos h2, if_neg (by omega)]; rfl
    · rw [if_neg h2, if_pos (by omega)]; rfl
theorem bz_N (b : Prop) [Decidable b] : bz_ (zN (if b then 1 else 0)) = some (zN (if b then 1 else 0)) := by
  by_cases h : b
  · rw [if_pos h]; exact bz_1
  · rw [if_neg h]; exact bz_0
section
variable {T : TW} {ρ : Nat → Nat} {m fz : Nat} {aw : Int} {t : Nat}
theorem tw_isA (hR : RowT T ρ) (hI : Inv ρ) {x : Int} (hx : bI x) : fX5_isArc (zI x) T = some (zN (if 0 ≤ x ∧ x < ρ 1 then 1 else 0), T) := by
  have h1 := hI.h1
  have e1 : zN (ρ 1) - zN 1 = zI ((ρ 1 : Int) - 1) := zI_sub _ _
  have e2 : fX5_in (zI x) (zN 0) (zI ((ρ 1 : Int) - 1)) T = _ := tw_in (a := x) (b := (0 : Nat)) (c := (ρ 1 : Int) - 1) hx ⟨by omega, by omega⟩ ⟨by omega, by omega⟩
  have e3 : (if ((0 : Nat) : Int) ≤ x ∧ x ≤ (ρ 1 : Int) - 1 then 1 else 0) = (if 0 ≤ x ∧ x < ρ 1 then 1 else 0) := by
    by_cases h : 0 ≤ x ∧ x < ρ 1
    · rw [if_pos h, if_pos (by omega)]
    · rw [if_neg h, if_neg (by omega)]
  rw [e3] at e2
  unfold fX5_isArc
  rw [show (1 : Int32) = zN 1 from rfl, tw_rd hR 1 (by omega), bd_some, e1, show (0 : Int32) = zN 0 from rfl, e2, b2_some, bz_N, bd_some]
theorem tw_isP (hR : RowT T ρ) (hI : Inv ρ) {x : Int} (hx : bI x) : fX5_isTrip (zI x) T = some (zN (if 0 ≤ x ∧ x < ρ 2 then 1 else 0), T) := by
  have h2 := hI.h2
  have e1 : zN (ρ 2) - zN 1 = zI ((ρ 2 : Int) - 1) := zI_sub _ _
  have e2 : fX5_in (zI x) (zN 0) (zI ((ρ 2 : Int) - 1)) T = _ := tw_in (a := x) (b := (0 : Nat)) (c := (ρ 2 : Int) - 1) hx ⟨by omega, by omega⟩ ⟨by omega, by omega⟩
  have e3 : (if ((0 : Nat) : Int) ≤ x ∧ x ≤ (ρ 2 : Int) - 1 then 1 else 0) = (if 0 ≤ x ∧ x < ρ 2 then 1 else 0) := by
    by_cases h : 0 ≤ x ∧ x < ρ 2
    · rw [if_pos h, if_pos (by omega)]
    · rw [if_neg h, if_neg (by omega)]
  rw [e3] at e2
  unfold fX5_isTrip
  rw [show (2 : Int32) = zN 2 from rfl, tw_rd hR 2 (by omega), bd_some, show (1 : Int32) = zN 1 from rfl, e1, show (0 : Int32) = zN 0 from rfl, e2, b2_some, bz_N, bd_some]
theorem tw_thr (b : Prop) [Decidable b] (k : Int32) : fX5_isThrown (zN (if b then 1 else 0)) k T = some (zN (if b then 0 else 1), tsI T 6 (if b then 0 else k)) := by
  unfold fX5_isThrown fX5_isThrown_b10
  by_cases h : b
  · rw [if_pos h, if_pos h, if_pos h, if_neg (by decide), nm_eq, if_neg (by decide)]; rfl
  · rw [if_neg h, if_neg h, if_neg h]; rfl
end
/-- bytes with their sign -/
def sb (b : Nat) : Int := if b < 128 then b else (b : Int) - 256
theorem sb_255 : ∀ b, b < 256 → (zI (sb b) &&& zN 255) = zN b := by decide +kernel
def BufT (T : TW) (n : Nat) (β : Nat → Nat) : Prop := tI T 8 = zN n ∧ n ≤ 600 ∧ ∀ k, k < n → β k < 256 ∧ tA T 6 k = zI (sb (β k))
/-- what is felt along the letters of the buffer -/
noncomputable def jdg (ρ : Nat → Nat) (u : Nat → Prop) (t : Nat) (β : Nat → Nat) : Nat → Option (Nat × Nat)
  | 0 => some (pFr ρ t, 0)
  | k + 1 => match jdg ρ u t β k with
    | none => none
    | some q => @ite _ (97 ≤ β k ∧ β k - 97 < ρ 1 ∧ u (β k - 97) ∧ aFr ρ (β k - 97) = q.1) (Classical.propDecidable _) (some (aTo ρ (β k - 97), q.2 + feN ρ (pVa ρ t) (β k - 97))) none
noncomputable def jdgI (ρ : Nat → Nat) (u : Nat → Prop) (t : Nat) (β : Nat → Nat) (n : Nat) : Int := match jdg ρ u t β n with
  | none => -1
  | some q => if q.1 = pTo ρ t then (q.2 : Int) else -1
theorem jdg_none {ρ : Nat → Nat} {u : Nat → Prop} {t : Nat} {β : Nat → Nat} {n : Nat} : ∀ {k : Nat}, k ≤ n → jdg ρ u t β k = none → jdg ρ u t β n = none := by
  induction n with
  | zero => intro k hk h; rw [Nat.le_zero.mp hk] at h; exact h
  | succ n ih =>
    intro k hk h
    by_cases e : k = n + 1
    · rw [← e]; exact h
    · rw [jdg, ih (by omega) h]
theorem jdg_rng {ρ : Nat → Nat} {u : Nat → Prop} {t : Nat} {β : Nat → Nat} (hI : Inv ρ) (ht : t < ρ 2) : ∀ n q, jdg ρ u t β n = some q → q.1 < 10 ∧ q.2 ≤ 29979 * n
  | 0, q, h => by
    have h := Option.some.inj h
    subst h
    have := hI.ht ht
    dsimp only
    omega
  | n + 1, q, h => by
    rw [jdg] at h
    cases e : jdg ρ u t β n with
    | none => rw [e] at h; cases h
    | some q' =>
      rw [e] at h
      dsimp only at h
      have ih := jdg_rng hI ht n q' e
      split at h
      next hh =>
        have h := Option.some.inj h
        subst h
        have h2 := hI.ha hh.2.1
        have h3 := hI.ht ht
        have h4 := feN_le hI (show pVa ρ t ≤ 20 by omega) hh.2.1
        dsimp only
        omega
      next => cases h
section
variable {T : TW} {ρ : Nat → Nat} {m fz : Nat} {aw : Int} {t : Nat}
theorem tw_jdg (hQ : QT T ρ m aw fz) (ht : t < ρ 2) {n : Nat} {β : Nat → Nat} (hB : BufT T n β) : fX5_feltInBuffer (zN t) T = some (zI (jdgI ρ (uT ρ m aw fz) t β n), T) := by
  obtain ⟨b1, b2, b3⟩ := hB
  have c := hQ.2.1.ht ht
  have h1 := hQ.2.1.h1
  have H : ∃ r, fX5_feltInBuffer_l12 (zN t) (zN (pFr ρ t)) 0 0 T = some r ∧ r = (zI (jdgI ρ (uT ρ m aw fz) t β n), T) := by
    refine wh_up (P := fun i s => i ≤ n ∧ ∃ q, jdg ρ (uT ρ m aw fz) t β i = some q ∧ s = (zN q.1, zN q.2, zN i, T)) n ?_ ?_ n 0 _ (by omega) ⟨by omega, (pFr ρ t, 0), rfl, rfl⟩
    · rintro i s hi ⟨-, q, hq, rfl⟩
      have n1 : ¬ (n ≤ i) := by omega
      obtain ⟨b4, b5⟩ := b3 i hi
      have e1 : zN (β i) - zN 97 = zI ((β i : Int) - 97) := zI_sub _ _
      have e2 := tw_isA hQ.1 hQ.2.1 (x := (β i : Int) - 97) ⟨by omega, by omega⟩
      have hr := jdg_rng hQ.2.1 ht i q hq
      have bad : ¬ (97 ≤ β i ∧ β i - 97 < ρ 1 ∧ uT ρ m aw fz (β i - 97) ∧ aFr ρ (β i - 97) = q.1) → jdgI ρ (uT ρ m aw fz) t β n = -1 := by
        intro hn
        unfold jdgI
        rw [jdg_none (show i + 1 ≤ n by omega) (by rw [jdg, hq]; dsimp only; rw [if_neg hn])]
      by_cases h2 : 97 ≤ β i ∧ β i - 97 < ρ 1
      · rw [if_pos (by omega)] at e2
        have e3 : zI ((β i : Int) - 97) = zN (β i - 97) := by
          show _ = zI _
          congr 1
          omega
        rw [e3] at e1 e2
        by_cases h3 : uT ρ m aw fz (β i - 97)
        · by_cases h4 : aFr ρ (β i - 97) = q.1
          · left
            have h5 := hQ.2.1.ha h2.2
            refine ⟨_, ?_, by omega, (aTo ρ (β i - 97), q.2 + feN ρ (pVa ρ t) (β i - 97)), ?_, rfl⟩
            · simp (disch := omega) only [b2_some, bd_some, nm_eq, Option.map_some, zN_lit, zN_add, zN_mul, zN_neg1, if_true, if_false, reduceIte, eq_self, Nat.reduceEqDiff, Nat.reduceAdd, Nat.reduceMul, Nat.reduceSub, Nat.reduceLeDiff, Nat.one_ne_zero, not_false_eq_true, Bool.false_eq_true, zN_eq, zN_lt, zN_le,  fX5_feltInBuffer_b12, b1, n1, rd_N, b5, sb_255, e1, e2, to1 hQ.1 hQ.2.1 hQ.2.2 h3, ta0 hQ.1, h4, tw_felt hQ.1, ta1 hQ.1]
            · rw [jdg, hq]
              dsimp only
              rw [if_pos ⟨h2.1, h2.2, h3, h4⟩]
          · right
            have h5 := hQ.2.1.ha h2.2
            refine ⟨_, ?_, rfl⟩
            rw [bad (fun h => h4 h.2.2.2)]
            simp (disch := omega) only [b2_some, bd_some, nm_eq, Option.map_some, zN_lit, zN_add, zN_mul, zN_neg1, if_true, if_false, reduceIte, eq_self, Nat.reduceEqDiff, Nat.reduceAdd, Nat.reduceMul, Nat.reduceSub, Nat.reduceLeDiff, Nat.one_ne_zero, not_false_eq_true, Bool.false_eq_true, zN_eq, zN_lt, zN_le,  fX5_feltInBuffer_b12, b1, n1, rd_N, b5, sb_255, e1, e2, to1 hQ.1 hQ.2.1 hQ.2.2 h3, ta0 hQ.1, h4]
        · right
          refine ⟨_, ?_, rfl⟩
          rw [bad (fun h => h3 h.2.2.1)]
          simp (disch := omega) only [b2_some, bd_some, nm_eq, Option.map_some, zN_lit, zN_add, zN_mul, zN_neg1, if_true, if_false, reduceIte, eq_self, Nat.reduceEqDiff, Nat.reduceAdd, Nat.reduceMul, Nat.reduceSub, Nat.reduceLeDiff, Nat.one_ne_zero, not_false_eq_true, Bool.false_eq_true, zN_eq, zN_lt, zN_le,  fX5_feltInBuffer_b12, b1, n1, rd_N, b5, sb_255, e1, e2, to0 hQ.1 hQ.2.1 hQ.2.2 h2.2 h3]
      · rw [if_neg (by omega)] at e2
        right
        refine ⟨_, ?_, rfl⟩
        rw [bad (fun h => h2 ⟨h.1, h.2.1⟩)]
        simp (disch := omega) only [b2_some, bd_some, nm_eq, Option.map_some, zN_lit, zN_add, zN_mul, zN_neg1, if_true, if_false, reduceIte, eq_self, Nat.reduceEqDiff, Nat.reduceAdd, Nat.reduceMul, Nat.reduceSub, Nat.reduceLeDiff, Nat.one_ne_zero, not_false_eq_true, Bool.false_eq_true, zN_eq, zN_lt, zN_le,  fX5_feltInBuffer_b12, b1, n1, rd_N, b5, sb_255, e1, e2]
    · rintro s ⟨-, q, hq, rfl⟩
      have hr := jdg_rng hQ.2.1 ht n q hq
      refine ⟨_, ?_, rfl⟩
      unfold jdgI
      rw [hq]
      dsimp only
      by_cases h : q.1 = pTo ρ t
      · rw [if_pos h, zI_cast]
        simp (disch := omega) only [b2_some, bd_some, nm_eq, Option.map_some, zN_lit, zN_add, zN_mul, zN_neg1, if_true, if_false, reduceIte, eq_self, Nat.reduceEqDiff, Nat.reduceAdd, Nat.reduceMul, Nat.reduceSub, Nat.reduceLeDiff, Nat.one_ne_zero, not_false_eq_true, Bool.false_eq_true, zN_eq, zN_lt, zN_le,  fX5_feltInBuffer_b12, b1, Nat.le_refl, fX5_feltInBuffer_b92, tp1 hQ.1, h]
      · rw [if_neg h]
        simp (disch := omega) only [b2_some, bd_some, nm_eq, Option.map_some, zN_lit, zN_add, zN_mul, zN_neg1, if_true, if_false, reduceIte, eq_self, Nat.reduceEqDiff, Nat.reduceAdd, Nat.reduceMul, Nat.reduceSub, Nat.reduceLeDiff, Nat.one_ne_zero, not_false_eq_true, Bool.false_eq_true, zN_eq, zN_lt, zN_le,  fX5_feltInBuffer_b12, b1, Nat.le_refl, fX5_feltInBuffer_b92, tp1 hQ.1, h]
  obtain ⟨r, e, rfl⟩ := H
  have e' : fX5_feltInBuffer_l12 (zN t) (zN (pFr ρ t)) (zN 0) (zN 0) T = _ := e
  simp (disch := omega) only [b2_some, bd_some, nm_eq, Option.map_some, zN_lit, zN_add, zN_mul, zN_neg1, if_true, if_false, reduceIte, eq_self, Nat.reduceEqDiff, Nat.reduceAdd, Nat.reduceMul, Nat.reduceSub, Nat.reduceLeDiff, Nat.one_ne_zero, not_false_eq_true, Bool.false_eq_true, zN_eq, zN_lt, zN_le,  fX5_feltInBuffer, tp0 hQ.1, e']
end
