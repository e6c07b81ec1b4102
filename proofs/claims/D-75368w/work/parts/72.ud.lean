/-! Plain law: the twin lays all ties -/
theorem VAt.set {T : TW} {n : Nat} (q : Int × Int × Int) : VAt (tsA (tsA (tsB T 12 (vp_updL (tB T 12) n (zJ q.1))) 10 (upd (tA T 10) n (zI q.2.1))) 11 (upd (tA T 11) n (zI q.2.2))) n q := by
  refine ⟨?_, ?_, ?_⟩
  · rw [tB_A, tB_A, tB_B, if_pos rfl]; exact if_pos rfl
  · rw [tA_A, if_neg (by omega), tA_A, if_pos rfl]; exact if_pos rfl
  · rw [tA_A, if_pos rfl]; exact if_pos rfl
theorem VAt.keep {T : TW} {n n' : Nat} {x : Int64} {y z : Int32} {q : Int × Int × Int} (h : VAt T n' q) (hn : n' ≠ n) : VAt (tsA (tsA (tsB T 12 (vp_updL (tB T 12) n x)) 10 (upd (tA T 10) n y)) 11 (upd (tA T 11) n z)) n' q := by
  refine ⟨?_, ?_, ?_⟩
  · rw [tB_A, tB_A, tB_B, if_pos rfl]; exact (if_neg hn).trans h.1
  · rw [tA_A, if_neg (by omega), tA_A, if_pos rfl]; exact (if_neg hn).trans h.2.1
  · rw [tA_A, if_pos rfl]; exact (if_neg hn).trans h.2.2
section
variable {T : TW} {ρ : Nat → Nat} {m fz : Nat} {aw : Int} {t : Nat}
theorem vT_eq (hI : Inv ρ) (ht : t < ρ 2) {n : Nat} {z : Int} (hz : lT ρ m aw fz t n = some z) : vT ρ m aw fz t n = if n = pTo ρ t then (1, 0, 0) else (tieT ρ m aw fz t n (ρ 1)).getD (0, 0, 0) :=
  tieV_eq (tw_GN (m := m) (aw := aw) (fz := fz) hI ht) hz
theorem tieT_no (hI : Inv ρ) (ht : t < ρ 2) : ∀ i, tieT ρ m aw fz t (pTo ρ t) i = none
  | 0 => rfl
  | i + 1 => by
    have ih := tieT_no hI ht i
    unfold tieT at ih ⊢
    rw [tie1, if_neg, ih]
    rintro ⟨h1, h2⟩
    obtain ⟨y, g1, g2, g3, g4⟩ := tiT_step hI ht h2
    rw [h1, lT_last hI ht] at g2
    have := Option.some.inj g2
    have := lT_rng hI ht g1
    omega
theorem tw_ties (hQ : QT T ρ m aw fz) (ht : t < ρ 2) : ∃ T', fX5_laysTies (zN t) T = some T' ∧ K4 T T' ∧ (∀ n, n < 10 → tA T' 9 n = zI (lI ρ m aw fz t n)) ∧ ∀ n z, lT ρ m aw fz t n = some z → VAt T' n (vT ρ m aw fz t n) := by
  obtain ⟨T1, e1, hK1, hL1⟩ := tw_least hQ ht
  have hQ1 := hK1.q hQ
  have h0 := hQ.2.1.h0
  have c := hQ.2.1.ht ht
  have hl := fun n => lI_rng (m := m) (aw := aw) (fz := fz) hQ.2.1 ht n
  obtain ⟨r0, e0, hr0⟩ := tw_nn hQ1.1 hQ1.2.1 (fun n _ => hl n) hL1 (b := -1) (f := -1) (by omega) (by omega)
  have hfin : ∀ n, lI ρ m aw fz t n ≠ -1 → ∃ z, lT ρ m aw fz t n = some z ∧ lI ρ m aw fz t n = z := fun n hn => by
    cases e : lT ρ m aw fz t n with
    | none => exact absurd ((lI_m1 hQ.2.1 ht n).mpr e) hn
    | some z => exact ⟨z, rfl, lT_lI e⟩
  have H : ∃ x, fX5_laysTies_l19 (zN t) (zN (pTo ρ t)) (zI r0) T1 = some x ∧ (K4 T x ∧ (∀ n, n < 10 → tA x 9 n = zI (lI ρ m aw fz t n)) ∧ ∀ n z, lT ρ m aw fz t n = some z → VAt x n (vT ρ m aw fz t n)) := by
    refine wh_dn (P := fun k s => ∃ (r : Int) (T' : TW), s = (zI r, T') ∧ K4 T T' ∧ (∀ n, n < 10 → tA T' 9 n = zI (lI ρ m aw fz t n)) ∧
      ((r = -1 ∧ k = 0 ∧ ∀ n z, lT ρ m aw fz t n = some z → VAt T' n (vT ρ m aw fz t n)) ∨
       (∃ c : Nat, r = c ∧ c < ρ 0 ∧ lI ρ m aw fz t c ≠ -1 ∧ (k : Int) = (300000 - lI ρ m aw fz t c) * 16 + (16 - (c : Int)) ∧ ∀ n z, lT ρ m aw fz t n = some z → (lI ρ m aw fz t n < lI ρ m aw fz t c ∨ (lI ρ m aw fz t n = lI ρ m aw fz t c ∧ n < c)) → VAt T' n (vT ρ m aw fz t n)))) ?_
      (if r0 = -1 then 0 else ((300000 - lI ρ m aw fz t r0.toNat) * 16 + (16 - r0)).toNat) _ ⟨r0, T1, rfl, hK1, hL1, ?_⟩
    · rintro k s ⟨r, T', rfl, hK, hL, ⟨rfl, rfl, hall⟩ | ⟨c, rfl, hc, hcf, hk, hd⟩⟩
      · right
        refine ⟨T', ?_, hK, hL, hall⟩
        simp (disch := omega) only [b2_some, bd_some, nm_eq, Option.map_some, zN_lit, zN_add, zN_mul, zN_neg1, if_true, if_false, reduceIte, eq_self, Nat.reduceEqDiff, Nat.reduceAdd, Nat.reduceMul, Nat.reduceSub, Nat.reduceLeDiff, Nat.one_ne_zero, not_false_eq_true, Bool.false_eq_true, zN_eq, zN_lt, zN_le,  fX5_laysTies_b19]
      · left
        have hlc := hl c
        obtain ⟨zc, hzc, hlz⟩ := hfin c hcf
        have hQ' := hK.q hQ
        -- the node's first values
        have hq0 : ∃ q0 : Int × Int × Int, (c = pTo ρ t → q0 = (1, 0, 0)) ∧ (c ≠ pTo ρ t → q0 = (0, -2147483648, 2147483647)) := by
          by_cases e : c = pTo ρ t
          · exact ⟨(1, 0, 0), fun _ => rfl, fun h => absurd e h⟩
          · exact ⟨(0, -2147483648, 2147483647), fun h => absurd h e, fun _ => rfl⟩
        obtain ⟨q0, hqa, hqb⟩ := hq0
        have hb : fX5_laysTies_b19 (zN t) (zN (pTo ρ t)) (zI ↑c) T' = fX5_laysTies_l79 (zN t) (zN (pTo ρ t)) (zN c) 0 (tsA (tsA (tsB T' 12 (vp_updL (tB T' 12) c (zJ q0.1))) 10 (upd (tA T' 10) c (zI q0.2.1))) 11 (upd (tA T' 11) c (zI q0.2.2))) := by
          have n1 : (zN c = zI (-1)) = False := zN_ne_m1 (by omega)
          have z0 : (0 : Int64) = zJ 0 := rfl
          have z1 : (1 : Int64) = zJ 1 := rfl
          have z2 : -zN 2147483648 = zI (-2147483648) := rfl
          by_cases e : c = pTo ρ t
          · rw [hqa e]
            subst e
            simp (disch := omega) only [b2_some, bd_some, nm_eq, Option.map_some, zN_lit, zN_add, zN_mul, zN_neg1, if_true, if_false, reduceIte, eq_self, Nat.reduceEqDiff, Nat.reduceAdd, Nat.reduceMul, Nat.reduceSub, Nat.reduceLeDiff, Nat.one_ne_zero, not_false_eq_true, Bool.false_eq_true, zN_eq, zN_lt, zN_le,  zI_cast, fX5_laysTies_b19, n1, fX5_laysTies_b39, fX5_laysTies_b57, fX5_laysTies_b75, wrB_N, wrA_N, z1, tA_B, tA_A]
            rfl
          · rw [hqb e]
            simp (disch := omega) only [b2_some, bd_some, nm_eq, Option.map_some, zN_lit, zN_add, zN_mul, zN_neg1, if_true, if_false, reduceIte, eq_self, Nat.reduceEqDiff, Nat.reduceAdd, Nat.reduceMul, Nat.reduceSub, Nat.reduceLeDiff, Nat.one_ne_zero, not_false_eq_true, Bool.false_eq_true, zN_eq, zN_lt, zN_le,  zI_cast, fX5_laysTies_b19, n1, e, fX5_laysTies_b39, fX5_laysTies_b57, fX5_laysTies_b75, wrB_N, wrA_N, z0, z2, tA_B, tA_A]
            rfl
        obtain ⟨r', T2, e2, hK2, h9, hV, hO, hr'⟩ := tw_node (T := tsA (tsA (tsB T' 12 (vp_updL (tB T' 12) c (zJ q0.1))) 10 (upd (tA T' 10) c (zI q0.2.1))) 11 (upd (tA T' 11) c (zI q0.2.2))) (m := m) (aw := aw) (fz := fz) (ρ := ρ) (n := c) (q0 := q0) ⟨hQ'.1, hQ'.2.1, hQ'.2.2⟩ ht hL (by omega) (fun a ha hf hti => by
          obtain ⟨y, g1, g2, g3, g4⟩ := tiT_step hQ.2.1 ht hti
          rw [hf] at g2
          refine VAt.keep (hd _ y g1 (.inl (by rw [lT_lI g1, lT_lI g2]; exact g3))) ?_
          have := hQ.2.1.ha ha
          omega) (VAt.set q0) hqb (zN (pTo ρ t))
        have hvc : VAt T2 c (vT ρ m aw fz t c) := by
          rw [vT_eq hQ.2.1 ht hzc]
          by_cases e : c = pTo ρ t
          · rw [if_pos e]
            rw [e, tieT_no hQ.2.1 ht, ← e, hqa e] at hV
            exact hV
          · rw [if_neg e]
            obtain ⟨a, ha, hf, hti⟩ := tie_has (tw_GN (m := m) (aw := aw) (fz := fz) hQ.2.1 ht) hzc e
            obtain ⟨q, hq⟩ := tie1_some (fr := aFr ρ) (to := aTo ρ) (ti := tiT ρ m aw fz t) (tl := tlI ρ) (v := vT ρ m aw fz t) ha hf hti
            have hq' : tieT ρ m aw fz t c (ρ 1) = some q := hq
            rw [hq'] at hV ⊢
            exact hV
        have hKK : K4 T T2 := (((hK.trans (K4.B _ _ _)).trans (K4.A _ (by omega) _)).trans (K4.A _ (by omega) _)).trans hK2
        have hL2 : ∀ n, n < 10 → tA T2 9 n = zI (lI ρ m aw fz t n) := fun n hn => by rw [h9]; exact hL n hn
        have hold : ∀ n z, lT ρ m aw fz t n = some z → ¬ Bh (lI ρ m aw fz t) c (lI ρ m aw fz t c) n → VAt T2 n (vT ρ m aw fz t n) := by
          intro n z hz hnb
          by_cases e : n = c
          · rw [e]; exact hvc
          · refine hO n e _ (VAt.keep (hd n z hz ?_) e)
            unfold Bh at hnb
            omega
        rcases hr' with ⟨rfl, hno⟩ | ⟨n', rfl, hn', hf', hb', hmin⟩
        · refine ⟨(zI (-1), T2), 0, by omega, by rw [hb, e2], -1, T2, rfl, hKK, hL2, .inl ⟨rfl, rfl, fun n z hz => hold n z hz (hno n (lT_rng hQ.2.1 ht hz).2.2 (fun h => by
            rw [(lI_m1 hQ.2.1 ht n).mp h] at hz; cases hz))⟩⟩
        · have hln := hl n'
          have hb2 := hb'
          unfold Bh at hb2
          refine ⟨(zI n', T2), ((300000 - lI ρ m aw fz t n') * 16 + (16 - (n' : Int))).toNat, by omega, by rw [hb, e2], n', T2, rfl, hKK, hL2, .inr ⟨n', rfl, hn', hf', by omega, fun n z hz hlt => hold n z hz (fun hbn => ?_)⟩⟩
          have := hmin n (lT_rng hQ.2.1 ht hz).2.2 (fun h => by rw [(lI_m1 hQ.2.1 ht n).mp h] at hz; cases hz) hbn
          omega
    · rcases hr0 with ⟨rfl, hno⟩ | ⟨n', rfl, hn', hf', hb', hmin⟩
      · refine .inl ⟨rfl, rfl, fun n z hz => ?_⟩
        have h1 := lT_rng hQ.2.1 ht hz
        exact absurd (.inl (by rw [lT_lI hz]; omega)) (hno n h1.2.2 (fun h => by rw [(lI_m1 hQ.2.1 ht n).mp h] at hz; cases hz))
      · have hln := hl n'
        refine .inr ⟨n', rfl, hn', hf', ?_, fun n z hz hlt => ?_⟩
        · rw [if_neg (by omega)]
          have : (n' : Int).toNat = n' := by omega
          rw [this]
          omega
        · have h1 := lT_rng hQ.2.1 ht hz
          have := hmin n h1.2.2 (fun h => by rw [(lI_m1 hQ.2.1 ht n).mp h] at hz; cases hz) (.inl (by rw [lT_lI hz]; omega))
          omega
  obtain ⟨T', e2, h⟩ := H
  refine ⟨T', ?_, h⟩
  simp (disch := omega) only [b2_some, bd_some, nm_eq, Option.map_some, zN_lit, zN_add, zN_mul, zN_neg1, if_true, if_false, reduceIte, eq_self, Nat.reduceEqDiff, Nat.reduceAdd, Nat.reduceMul, Nat.reduceSub, Nat.reduceLeDiff, Nat.one_ne_zero, not_false_eq_true, Bool.false_eq_true, zN_eq, zN_lt, zN_le,  fX5_laysTies, e1, tp1 hQ1.1, e0, e2]
end
