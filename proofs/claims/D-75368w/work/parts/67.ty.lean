/-! Plain law: best tolls on the twin's side -/
/-- the smallest of the greatest -/
def Best (F : Nat → Int) (S : Nat → Prop) (b : Nat) : Prop := S b ∧ ∀ x, S x → F x ≤ F b ∧ (F x = F b → b ≤ x)
theorem Best.uniq {F : Nat → Int} {S : Nat → Prop} {b b' : Nat} (h : Best F S b) (h' : Best F S b') : b = b' := by
  have h1 := h.2 b' h'.1
  have h2 := h'.2 b h.1
  have h3 : F b' = F b := by omega
  have h4 := h1.2 h3
  have h5 := h2.2 h3.symm
  omega
/-- the tolls that are tried -/
def cnd (ρ : Nat → Nat) (a : Nat) (R : Nat) (x : Nat) : Prop := x = 0 ∨ x = aMx ρ a ∨ ∃ t, t < R ∧ ∃ k : Nat, kpI ρ 0 0 t a = k ∧ (x = k ∨ (k < aMx ρ a ∧ x = k + 1))
noncomputable def alW (ρ : Nat → Nat) (a x : Nat) : Int := allI (stl ρ a x) 0 (-1) 0
noncomputable def bst (ρ : Nat → Nat) (a : Nat) : Nat := @dite _ (∃ b, Best (alW ρ a) (cnd ρ a (ρ 2)) b) (Classical.propDecidable _) (fun h => h.choose) (fun _ => 0)
theorem bst_eq {ρ : Nat → Nat} {a b : Nat} (h : Best (alW ρ a) (cnd ρ a (ρ 2)) b) : bst ρ a = b := by
  have hh : ∃ b, Best (alW ρ a) (cnd ρ a (ρ 2)) b := ⟨b, h⟩
  unfold bst
  rw [dif_pos hh]
  exact hh.choose_spec.uniq h
theorem kpI_rng {ρ : Nat → Nat} {m fz t a : Nat} : -1 ≤ kpI ρ m fz t a ∧ kpI ρ m fz t a ≤ aMx ρ a := gr_le
theorem cnd_le {ρ : Nat → Nat} {a R x : Nat} (h : cnd ρ a R x) : x ≤ aMx ρ a := by
  rcases h with rfl | rfl | ⟨t, -, k, hk, h⟩
  · omega
  · omega
  · have := (kpI_rng (ρ := ρ) (m := 0) (fz := 0) (t := t) (a := a)).2
    rcases h with rfl | ⟨h, rfl⟩ <;> omega
theorem cnd_succ {ρ : Nat → Nat} {a R x : Nat} : cnd ρ a (R + 1) x ↔ cnd ρ a R x ∨ ∃ k : Nat, kpI ρ 0 0 R a = k ∧ (x = k ∨ (k < aMx ρ a ∧ x = k + 1)) := by
  unfold cnd
  constructor
  · rintro (h | h | ⟨t, ht, h⟩)
    · exact .inl (.inl h)
    · exact .inl (.inr (.inl h))
    · by_cases e : t = R
      · subst e; exact .inr h
      · exact .inl (.inr (.inr ⟨t, by omega, h⟩))
  · rintro ((h | h | ⟨t, ht, h⟩) | h)
    · exact .inl h
    · exact .inr (.inl h)
    · exact .inr (.inr ⟨t, by omega, h⟩)
    · exact .inr (.inr ⟨R, by omega, h⟩)
theorem K2.tR {T : TW} (x : Int64) : K2 T (tsR T x) := ⟨fun _ _ _ => rfl, fun _ _ => rfl⟩
theorem mxL_z {a b : Int} (ha : bJ a) (hb : bJ b) : mxL (zJ a) (zJ b) = zJ (if a < b then b else a) := by
  unfold mxL
  simp only [zJ_lt hb ha]
  by_cases h : b < a
  · rw [if_pos h, if_neg (by omega)]
  · rw [if_neg h]
    by_cases h' : a < b
    · rw [if_pos h']
    · rw [if_neg h', show a = b by omega]
section
variable {T : TW} {ρ : Nat → Nat} {t : Nat}
theorem tw_bests (hQ : QT T ρ 0 (-1) 0) {a : Nat} (ha : a < ρ 1) : ∃ T', fX5_bests (zN a) T = some (zN (bst ρ a), T') ∧ tR T' = zJ (alW ρ a (bst ρ a)) ∧ K2 T T' ∧ bst ρ a ≤ aMx ρ a ∧ Best (alW ρ a) (cnd ρ a (ρ 2)) (bst ρ a) := by
  have b := hQ.2.1.ha ha
  have h2 := hQ.2.1.h2
  have hS0 : Srt (tsI T 28 (zN 0)) 0 (fun _ => 0) := ⟨by rw [tI_s, if_pos rfl], by omega, fun k hk => by omega, fun i j h1 h2 => by omega⟩
  have hK0 : K2 T (tsI T 28 (zN 0)) := ⟨fun k _ hk => by rw [tI_s, if_neg hk], fun p hp => rfl⟩
  obtain ⟨T1, n1, g1, e1, s1, l1, k1, x1⟩ := tw_turn hS0 (by omega) (v := 0) (by omega)
  obtain ⟨T2, n2, g2, e2, s2, l2, k2, x2⟩ := tw_turn s1 (by omega) (v := aMx ρ a) (by omega)
  -- the turns of all trips
  have H : ∃ r, fX5_bests_l24 (zN a) (zN (aMx ρ a)) 0 T2 = some r ∧ ∃ T', r = (zN (bst ρ a), T') ∧ tR T' = zJ (alW ρ a (bst ρ a)) ∧ K2 T T' ∧ bst ρ a ≤ aMx ρ a ∧ Best (alW ρ a) (cnd ρ a (ρ 2)) (bst ρ a) := by
    refine wh_up (P := fun i s => i ≤ ρ 2 ∧ ∃ T' n g, s = (zN i, T') ∧ K2 T T' ∧ Srt T' n g ∧ n ≤ 2 + 2 * i ∧ ∀ x, (∃ j, j < n ∧ g j = x) ↔ cnd ρ a i x) (ρ 2) ?_ ?_ (ρ 2) 0 _ (by omega) ⟨by omega, T2, n2, g2, rfl, (hK0.trans k1.k2).trans k2.k2, s2, by omega, fun x => ?_⟩
    · rintro i s hi ⟨-, T', n, g, rfl, hK, hS, hn, hx⟩
      have hQ' := hK.q hQ
      obtain ⟨T3, e3, hK3⟩ := tw_keep hQ' hi ha
      have hkr := kpI_rng (ρ := ρ) (m := 0) (fz := 0) (t := i) (a := a)
      have m1 : ¬ (ρ 2 ≤ i) := by omega
      have m2 : (zI (kpI ρ 0 0 i a) = zI (-1)) = (kpI ρ 0 0 i a = -1) := zI_eq (by omega) (by omega)
      left
      by_cases hk : kpI ρ 0 0 i a = -1
      · rw [eq_true hk] at m2
        refine ⟨(zN (i + 1), T3), ?_, by omega, T3, n, g, rfl, hK.trans hK3.k2, hK3.srt hS, by omega, fun x => ?_⟩
        · simp (disch := omega) only [b2_some, bd_some, nm_eq, Option.map_some, zN_lit, zN_add, zN_mul, zN_neg1, if_true, if_false, reduceIte, eq_self, Nat.reduceEqDiff, Nat.reduceAdd, Nat.reduceMul, Nat.reduceSub, Nat.reduceLeDiff, Nat.one_ne_zero, not_false_eq_true, Bool.false_eq_true, zN_eq, zN_lt, zN_le,  fX5_bests_b24, tw_rd hQ'.1, m1, e3, m2, fX5_bests_b66]
        · rw [hx, cnd_succ]
          exact ⟨.inl, fun h => h.elim id (fun ⟨k, hk', _⟩ => by omega)⟩
      · rw [eq_false hk] at m2
        have hkn : zI (kpI ρ 0 0 i a) = zN (kpI ρ 0 0 i a).toNat := zI_nn (by omega)
        obtain ⟨T4, n4, g4, e4, s4, l4, k4, x4⟩ := tw_turn (hK3.srt hS) (by omega) (v := (kpI ρ 0 0 i a).toNat) (by omega)
        have hmn : mnI (zN (aMx ρ a)) (zN ((kpI ρ 0 0 i a).toNat + 1)) = zN (if (kpI ρ 0 0 i a).toNat < aMx ρ a then (kpI ρ 0 0 i a).toNat + 1 else aMx ρ a) := by
          show mnI (zI _) (zI _) = _
          rw [mnI_z (by omega) (by omega)]
          by_cases c : (kpI ρ 0 0 i a).toNat < aMx ρ a
          · rw [if_pos c]
            split
            · rfl
            · rw [show (kpI ρ 0 0 i a).toNat + 1 = aMx ρ a by omega]; rfl
          · rw [if_neg c, if_neg (by omega)]; rfl
        obtain ⟨T5, n5, g5, e5, s5, l5, k5, x5⟩ := tw_turn s4 (by omega) (v := if (kpI ρ 0 0 i a).toNat < aMx ρ a then (kpI ρ 0 0 i a).toNat + 1 else aMx ρ a) (by split <;> omega)
        refine ⟨(zN (i + 1), T5), ?_, by omega, T5, n5, g5, rfl, ((hK.trans hK3.k2).trans k4.k2).trans k5.k2, s5, by omega, fun x => ?_⟩
        · rw [hkn] at e3 m2
          simp (disch := omega) only [b2_some, bd_some, nm_eq, Option.map_some, zN_lit, zN_add, zN_mul, zN_neg1, if_true, if_false, reduceIte, eq_self, Nat.reduceEqDiff, Nat.reduceAdd, Nat.reduceMul, Nat.reduceSub, Nat.reduceLeDiff, Nat.one_ne_zero, not_false_eq_true, Bool.false_eq_true, zN_eq, zN_lt, zN_le,  fX5_bests_b24, tw_rd hQ'.1, m1, e3, m2, e4, hmn, e5, fX5_bests_b66]
        · rw [x5, x4, hx, cnd_succ]
          constructor
          · rintro (h | h | h)
            · by_cases c : (kpI ρ 0 0 i a).toNat < aMx ρ a
              · rw [if_pos c] at h
                exact .inr ⟨(kpI ρ 0 0 i a).toNat, by omega, .inr ⟨c, h⟩⟩
              · rw [if_neg c] at h
                exact .inl (.inr (.inl h))
            · exact .inr ⟨(kpI ρ 0 0 i a).toNat, by omega, .inl h⟩
            · exact .inl h
          · rintro (h | ⟨k, hk', h | ⟨c, h⟩⟩)
            · exact .inr (.inr h)
            · exact .inr (.inl (by omega))
            · exact .inl (by rw [if_pos (by omega)]; omega)
    · rintro s ⟨-, T', n, g, rfl, hK, hS, hn, hx⟩
      have hQ' := hK.q hQ
      have hS1 : Srt (tsR T' (zJ (-1))) n g := hS
      have hn0 : 0 < n := by
        obtain ⟨j, hj, -⟩ := (hx 0).mpr (.inl rfl)
        omega
      have G : ∃ r, fX5_bests_l84 (zN a) 0 0 (tsR T' (zJ (-1))) = some r ∧ ∃ T2 b, r = (zN b, T2) ∧ tR T2 = zJ (alW ρ a b) ∧ K2 T T2 ∧ Best (alW ρ a) (cnd ρ a (ρ 2)) b := by
        refine wh_up (P := fun i s => i ≤ n ∧ ∃ T2 b r, s = (zN b, zN i, T2) ∧ tR T2 = zJ r ∧ -1 ≤ r ∧ r ≤ 539406054 ∧ K2 T T2 ∧ Srt T2 n g ∧ (i = 0 → r = -1) ∧ (0 < i → (∃ j, j < i ∧ g j = b) ∧ r = alW ρ a b ∧ ∀ j, j < i → alW ρ a (g j) ≤ r ∧ (alW ρ a (g j) = r → b ≤ g j))) n ?_ ?_ n 0 _ (by omega) ⟨by omega, tsR T' (zJ (-1)), 0, -1, rfl, tR_R _ _, by omega, by omega, hK.trans (K2.tR _), hS1, fun _ => rfl, fun h => by omega⟩
        · rintro i s hi ⟨-, T2, b2, r, rfl, hr, hr1, hr2, hK2, hS2, h0, h1⟩
          have hQ2 := hK2.q hQ
          have hgm : g i ≤ aMx ρ a := cnd_le ((hx (g i)).mp ⟨i, hi, rfl⟩)
          obtain ⟨T3, e3, hK3⟩ := tw_allW hQ2 ha hgm
          have hal := allI_rng (m := 0) (aw := -1) (fz := 0) (hQ.2.1.stl ha hgm)
          have m1 : ¬ (n ≤ i) := by omega
          have hg3 := (hK3.srt hS2).2.2.1 i hi
          have hg2 := hS2.2.2.1 i hi
          have m2 := lgc_le' (a := alW ρ a (g i)) (b := r) ⟨by unfold alW; omega, by unfold alW; omega⟩ ⟨by omega, by omega⟩
          have m3 := mxL_z (a := r) (b := alW ρ a (g i)) ⟨by omega, by omega⟩ ⟨by unfold alW; omega, by unfold alW; omega⟩
          have e3' : fX5_allWith (zN a) (zN (g i)) T2 = some (zJ (alW ρ a (g i)), T3) := e3
          have hn14 := hS.2.1
          have hr3 : tR T3 = zJ r := by rw [hK3.2.1, hr]
          have hal' : 0 ≤ alW ρ a (g i) ∧ alW ρ a (g i) ≤ 539406054 := hal
          left
          by_cases c : alW ρ a (g i) ≤ r
          · rw [eq_true c] at m2
            rw [if_neg (by omega)] at m3
            have hi0 : 0 < i := by
              rcases Nat.eq_zero_or_pos i with h | h
              · have := h0 h; omega
              · exact h
            obtain ⟨⟨j0, hj0, hb⟩, h3, h4⟩ := h1 hi0
            refine ⟨(zN b2, zN (i + 1), tsR T3 (zJ r)), ?_, by omega, tsR T3 (zJ r), b2, r, rfl, tR_R _ _, hr1, hr2, (hK2.trans hK3.k2).trans (K2.tR _), hK3.srt hS2, fun h => by omega, fun _ => ⟨⟨j0, by omega, hb⟩, h3, fun j hj => ?_⟩⟩
            · simp (disch := omega) only [b2_some, bd_some, nm_eq, Option.map_some, zN_lit, zN_add, zN_mul, zN_neg1, if_true, if_false, reduceIte, eq_self, Nat.reduceEqDiff, Nat.reduceAdd, Nat.reduceMul, Nat.reduceSub, Nat.reduceLeDiff, Nat.one_ne_zero, not_false_eq_true, Bool.false_eq_true, zN_eq, zN_lt, zN_le,  fX5_bests_b84, hS2.1, m1, rd_N, hg2.1, e3', hr3, m2, fX5_bests_b128, m3]
            · by_cases ej : j = i
              · rw [ej]
                refine ⟨c, fun _ => ?_⟩
                have := hS.2.2.2 j0 i hj0 hi
                omega
              · exact h4 j (by omega)
          · rw [eq_false c] at m2
            rw [if_pos (by omega)] at m3
            refine ⟨(zN (g i), zN (i + 1), tsR T3 (zJ (alW ρ a (g i)))), ?_, by omega, tsR T3 (zJ (alW ρ a (g i))), g i, alW ρ a (g i), rfl, tR_R _ _, by omega, by omega, (hK2.trans hK3.k2).trans (K2.tR _), hK3.srt hS2, fun h => by omega, fun _ => ⟨⟨i, by omega, rfl⟩, rfl, fun j hj => ?_⟩⟩
            · simp (disch := omega) only [b2_some, bd_some, nm_eq, Option.map_some, zN_lit, zN_add, zN_mul, zN_neg1, if_true, if_false, reduceIte, eq_self, Nat.reduceEqDiff, Nat.reduceAdd, Nat.reduceMul, Nat.reduceSub, Nat.reduceLeDiff, Nat.one_ne_zero, not_false_eq_true, Bool.false_eq_true, zN_eq, zN_lt, zN_le,  fX5_bests_b84, hS2.1, m1, rd_N, hg2.1, hg3.1, e3', hr3, m2, fX5_bests_b128, m3]
            · by_cases ej : j = i
              · rw [ej]
                exact ⟨Int.le_refl _, fun _ => Nat.le_refl _⟩
              · have := (h1 (by omega)).2.2 j (by omega)
                exact ⟨by omega, fun h => by omega⟩
        · rintro s ⟨-, T2, b2, r, rfl, hr, hr1, hr2, hK2, hS2, h0, h1⟩
          obtain ⟨⟨j0, hj0, hb⟩, h3, h4⟩ := h1 hn0
          have hn14 := hS.2.1
          refine ⟨_, ?_, T2, b2, rfl, by rw [hr, h3], hK2, (hx b2).mp ⟨j0, hj0, hb⟩, fun x hx' => ?_⟩
          · simp (disch := omega) only [b2_some, bd_some, nm_eq, Option.map_some, zN_lit, zN_add, zN_mul, zN_neg1, if_true, if_false, reduceIte, eq_self, Nat.reduceEqDiff, Nat.reduceAdd, Nat.reduceMul, Nat.reduceSub, Nat.reduceLeDiff, Nat.one_ne_zero, not_false_eq_true, Bool.false_eq_true, zN_eq, zN_lt, zN_le,  fX5_bests_b84, hS2.1, Nat.le_refl]
          · obtain ⟨j, hj, rfl⟩ := (hx x).mpr hx'
            rw [← h3]
            exact h4 j hj
      obtain ⟨r, e, T2, b2, rfl, hr, hK2, hB⟩ := G
      have hbe := bst_eq hB
      refine ⟨_, ?_, T2, rfl, by rw [hbe]; exact hr, hK2, by rw [hbe]; exact cnd_le hB.1, by rw [hbe]; exact hB⟩
      have e' : fX5_bests_l84 (zN a) (zN 0) (zN 0) (tsR T' (zJ (-1))) = some (zN b2, T2) := e
      rw [hbe]
      simp (disch := omega) only [b2_some, bd_some, nm_eq, Option.map_some, zN_lit, zN_add, zN_mul, zN_neg1, if_true, if_false, reduceIte, eq_self, Nat.reduceEqDiff, Nat.reduceAdd, Nat.reduceMul, Nat.reduceSub, Nat.reduceLeDiff, Nat.one_ne_zero, not_false_eq_true, Bool.false_eq_true, zN_eq, zN_lt, zN_le,  fX5_bests_b24, tw_rd hQ'.1, Nat.le_refl, fX5_bests_b72, show (-1 : Int64) = zJ (-1) from rfl, e']
    · rw [x2, x1]
      unfold cnd
      constructor
      · rintro (h | h | ⟨j, hj, -⟩)
        · exact .inr (.inl h)
        · exact .inl h
        · omega
      · rintro (h | h | ⟨t, ht, -⟩)
        · exact .inr (.inl h)
        · exact .inl h
        · omega
  obtain ⟨r, e, T', rfl, h⟩ := H
  refine ⟨T', ?_, h⟩
  have e' : fX5_bests_l24 (zN a) (zN (aMx ρ a)) (zN 0) T2 = some (zN (bst ρ a), T') := e
  have e1' : fX5_addsTurn (zN 0) (tsI T 28 (zN 0)) = some T1 := e1
  simp (disch := omega) only [b2_some, bd_some, nm_eq, Option.map_some, zN_lit, zN_add, zN_mul, zN_neg1, if_true, if_false, reduceIte, eq_self, Nat.reduceEqDiff, Nat.reduceAdd, Nat.reduceMul, Nat.reduceSub, Nat.reduceLeDiff, Nat.one_ne_zero, not_false_eq_true, Bool.false_eq_true, zN_eq, zN_lt, zN_le,  fX5_bests, ta3 hQ.1, e1', e2, e']
end
