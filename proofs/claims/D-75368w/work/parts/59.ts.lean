/-! Plain law: the twin lays the path -/
def Arr (f : Nat → Int32) (l : List Nat) : Prop := ∀ k, k < l.length → f k = zN (l.getD k 0)
theorem Arr.snoc {f : Nat → Int32} {l : List Nat} (h : Arr f l) (a : Nat) : Arr (upd f l.length (zN a)) (l ++ [a]) := by
  intro k hk
  rw [List.length_append, List.length_singleton] at hk
  unfold upd
  by_cases e : k = l.length
  · rw [if_pos e, e]
    simp [List.getD_eq_getElem?_getD]
  · rw [if_neg e, h k (by omega)]
    simp only [List.getD_eq_getElem?_getD]
    rw [List.getElem?_append_left (by omega)]
/-- all but the distances, the path and its length is kept -/
def K1 (T T' : TW) : Prop := (∀ k, k ≠ 21 → tI T' k = tI T k) ∧ tR T' = tR T ∧ (∀ p, p ≠ 8 → tA T' p = tA T p)
theorem K1.refl (T : TW) : K1 T T := ⟨fun _ _ => rfl, rfl, fun _ _ => rfl⟩
theorem K1.trans {T T' T2 : TW} (h : K1 T T') (h' : K1 T' T2) : K1 T T2 := ⟨fun k hk => (h'.1 k hk).trans (h.1 k hk), h'.2.1.trans h.2.1, fun p hp => (h'.2.2 p hp).trans (h.2.2 p hp)⟩
theorem K1.row {T T' : TW} {ρ : Nat → Nat} (h : K1 T T') (hR : RowT T ρ) : RowT T' ρ := fun i hi => by
  rw [h.2.2 1 (by omega)]
  exact hR i hi
theorem K1.opt {T T' : TW} {m fz : Nat} {aw : Int} (h : K1 T T') (hO : OptT T m aw fz) : OptT T' m aw fz := by
  unfold OptT
  rw [h.1 17 (by omega), h.1 18 (by omega), h.1 19 (by omega)]
  exact hO
theorem K1.B (T : TW) (p : Nat) (f : Nat → Int64) : K1 T (tsB T p f) := ⟨fun _ _ => rfl, rfl, fun _ _ => rfl⟩
theorem K1.i21 (T : TW) (x : Int32) : K1 T (tsI T 21 x) := ⟨fun k hk => by rw [tI_s, if_neg hk], rfl, fun _ _ => rfl⟩
theorem K1.a8 (T : TW) (f : Nat → Int32) : K1 T (tsA T 8 f) := ⟨fun k hk => rfl, rfl, fun p hp => by rw [tA_A, if_neg hp]⟩
section
variable {T : TW} {ρ : Nat → Nat} {m fz : Nat} {aw : Int} {t : Nat}
theorem pT_all (hI : Inv ρ) (ht : t < ρ 2) {n : Nat} {z : Int} (hz : dT ρ m aw fz t n = some z) :
    z = 1000000000 * lsum (feI ρ (pVa ρ t)) (pT ρ m aw fz t n) + (100 * sgn ρ) * lsum (tlI ρ) (pT ρ m aw fz t n) + (pT ρ m aw fz t n).length ∧
    (pT ρ m aw fz t n).length + 1 ≤ ρ 0 ∧ 0 ≤ lsum (tlI ρ) (pT ρ m aw fz t n) ∧ lsum (tlI ρ) (pT ρ m aw fz t n) ≤ 9999 * (pT ρ m aw fz t n).length ∧ isP (aFr ρ) (aTo ρ) (pTo ρ t) n (pT ρ m aw fz t n) ∧ ∀ a ∈ pT ρ m aw fz t n, uT ρ m aw fz a :=
  (ptA_all (tw_GN hI ht) (sgn_wB ρ) hz 10 (.inl (by omega))).2
theorem tw_next (hR : RowT T ρ) (hI : Inv ρ) (hO : OptT T m aw fz) (ht : t < ρ 2) (hf : ∀ n, n < 10 → tB T 7 n = encF (dT ρ m aw fz t n)) {n : Nat} {z : Int} (hz : dT ρ m aw fz t n = some z) (hn : n ≠ pTo ρ t) {j : Nat} (hj : j < 10) (hl : tI T 21 = zN j) :
    fX5_laysPath_l38 (zN t) (zN n) (zN 0) T = some (.inl (zN (aTo ρ (nT ρ m aw fz t n)), tsI (tsA T 8 (upd (tA T 8) j (zN (nT ρ m aw fz t n)))) 21 (zN (j + 1)))) := by
  obtain ⟨g1, g2, g3, g4, -, g5⟩ := nA_ok (tw_GN hI ht) (sgn_wB ρ) hz hn
  have b := hI.ha g1
  have hn10 : n < 10 := by
    have : n = aFr ρ (nT ρ m aw fz t n) := g2.symm
    have := hI.ha g1
    have e : aFr ρ (nA (ρ 1) (aFr ρ) (aTo ρ) (uT ρ m aw fz) (feI ρ (pVa ρ t)) (tlI ρ) (sgn ρ) (pTo ρ t) n) = n := g2
    omega
  refine wh_run (fun i => (zN i, T)) (nT ρ m aw fz t n) _ (fun i hi => ?_) ?_ (nT ρ m aw fz t n) 0 (by omega)
  · have hi' : i < nA (ρ 1) (aFr ρ) (aTo ρ) (uT ρ m aw fz) (feI ρ (pVa ρ t)) (tlI ρ) (sgn ρ) (pTo ρ t) n := hi
    have h0 := tw_tight0 hR hI hO ht hf (a := i) (n := n) (by omega) hn10 (g5 i hi)
    simp (disch := omega) only [b2_some, bd_some, nm_eq, Option.map_some, zN_lit, zN_add, zN_mul, zN_neg1, if_true, if_false, reduceIte, eq_self, Nat.reduceEqDiff, Nat.reduceAdd, Nat.reduceMul, Nat.reduceSub, Nat.reduceLeDiff, Nat.one_ne_zero, not_false_eq_true, Bool.false_eq_true, zN_eq, zN_lt, zN_le,  fX5_laysPath_b38, h0]
  · have h1 := tw_tight1 hR hI hO ht hf (a := nT ρ m aw fz t n) (n := n) g1 g2 g4
    have hR2 : RowT (tsI (tsA T 8 (upd (tA T 8) j (zN (nT ρ m aw fz t n)))) 21 (zN (j + 1))) ρ := (K1.i21 _ _).row ((K1.a8 _ _).row hR)
    have b2 : nT ρ m aw fz t n < 24 := b.2.2.2.2.2.2.2.2.2.2
    simp (disch := omega) only [b2_some, bd_some, nm_eq, Option.map_some, zN_lit, zN_add, zN_mul, zN_neg1, if_true, if_false, reduceIte, eq_self, Nat.reduceEqDiff, Nat.reduceAdd, Nat.reduceMul, Nat.reduceSub, Nat.reduceLeDiff, Nat.one_ne_zero, not_false_eq_true, Bool.false_eq_true, zN_eq, zN_lt, zN_le,  fX5_laysPath_b38, h1, fX5_laysPath_b54, hl, wrA_N, tI_A, ta1 hR2]
theorem tw_path (hR : RowT T ρ) (hI : Inv ρ) (hO : OptT T m aw fz) (ht : t < ρ 2) {z : Int} (hz : dT ρ m aw fz t (pFr ρ t) = some z) :
    ∃ T', fX5_laysPath (zN t) T = some (zN 1, T') ∧ K1 T T' ∧ tI T' 21 = zN (pT ρ m aw fz t (pFr ρ t)).length ∧ Arr (tA T' 8) (pT ρ m aw fz t (pFr ρ t)) := by
  have c := hI.ht ht
  have hR1 : RowT (tsI T 21 0) ρ := (K1.i21 _ _).row hR
  have hO1 : OptT (tsI T 21 0) m aw fz := (K1.i21 _ _).opt hO
  obtain ⟨f', e, hf⟩ := tw_best hR1 hI hO1 ht
  have hR2 : RowT (tsB (tsI T 21 0) 7 f') ρ := hR1
  have H : ∃ r, fX5_laysPath_l26 (zN t) (zN (pFr ρ t)) (tsB (tsI T 21 0) 7 f') = some r ∧ ∃ T', r = (zN 1, T') ∧ K1 T T' ∧ tI T' 21 = zN (pT ρ m aw fz t (pFr ρ t)).length ∧ Arr (tA T' 8) (pT ρ m aw fz t (pFr ρ t)) := by
    refine wh_dn (P := fun k s => ∃ n T' pre z, s = (zN n, T') ∧ n < 10 ∧ dT ρ m aw fz t n = some z ∧ k = (pT ρ m aw fz t n).length ∧ pT ρ m aw fz t (pFr ρ t) = pre ++ pT ρ m aw fz t n ∧ K1 T T' ∧ (∀ n, n < 10 → tB T' 7 n = encF (dT ρ m aw fz t n)) ∧ tI T' 21 = zN pre.length ∧ Arr (tA T' 8) pre) ?_ _ _
      ⟨pFr ρ t, _, [], z, rfl, by omega, hz, rfl, rfl, (K1.i21 _ _).trans (K1.B _ _ _), fun n hn => by rw [tB_B, if_pos rfl]; exact hf n hn, rfl, fun k hk => by cases hk⟩
    rintro k s ⟨n, T', pre, zn, rfl, hn, hzn, rfl, hp, hK, hf', hl, hA⟩
    have hR' := hK.row hR
    have hO' := hK.opt hO
    have hlen := (pT_all hI ht hz).2.1
    rw [hp, List.length_append] at hlen
    have h0 := hI.h0
    by_cases ent : n = pTo ρ t
    · right
      have e0 : pT ρ m aw fz t n = [] := by
        rw [ent]
        show pth (pTo ρ t) (aTo ρ) _ 10 (pTo ρ t) = []
        unfold pth
        rw [if_pos rfl]
      rw [e0, List.append_nil] at hp
      refine ⟨_, ?_, T', rfl, hK, ?_, ?_⟩
      · simp (disch := omega) only [b2_some, bd_some, nm_eq, Option.map_some, zN_lit, zN_add, zN_mul, zN_neg1, if_true, if_false, reduceIte, eq_self, Nat.reduceEqDiff, Nat.reduceAdd, Nat.reduceMul, Nat.reduceSub, Nat.reduceLeDiff, Nat.one_ne_zero, not_false_eq_true, Bool.false_eq_true, zN_eq, zN_lt, zN_le,  fX5_laysPath_b26, tp1 hR', ent]
      · rw [hp]; exact hl
      · rw [hp]; exact hA
    · left
      have hc : pT ρ m aw fz t n = nT ρ m aw fz t n :: pT ρ m aw fz t (aTo ρ (nT ρ m aw fz t n)) := ptA_cons (tw_GN hI ht) (sgn_wB ρ) hzn ent
      obtain ⟨g1, g2, g3, g4, ⟨y, hy⟩, g5⟩ := nA_ok (tw_GN hI ht) (sgn_wB ρ) hzn ent
      have b := hI.ha g1
      have hx := tw_next hR' hI hO' ht hf' hzn ent (j := pre.length) (by omega) hl
      have g1' : nT ρ m aw fz t n < ρ 1 := g1
      have b' := hI.ha g1'
      have hb : fX5_laysPath_b26 (zN t) (zN n) T' = some (.inl (zN (aTo ρ (nT ρ m aw fz t n)), tsI (tsA T' 8 (upd (tA T' 8) pre.length (zN (nT ρ m aw fz t n)))) 21 (zN (pre.length + 1)))) := by
        simp (disch := omega) only [b2_some, bd_some, nm_eq, Option.map_some, zN_lit, zN_add, zN_mul, zN_neg1, if_true, if_false, reduceIte, eq_self, Nat.reduceEqDiff, Nat.reduceAdd, Nat.reduceMul, Nat.reduceSub, Nat.reduceLeDiff, Nat.one_ne_zero, not_false_eq_true, Bool.false_eq_true, zN_eq, zN_lt, zN_le,  fX5_laysPath_b26, tp1 hR', ent, hx]
      refine ⟨_, (pT ρ m aw fz t (aTo ρ (nT ρ m aw fz t n))).length, by rw [hc, List.length_cons]; omega, hb, aTo ρ (nT ρ m aw fz t n), _, pre ++ [nT ρ m aw fz t n], y, rfl, by omega, hy, rfl, ?_, (hK.trans (K1.a8 _ _)).trans (K1.i21 _ _), ?_, ?_, ?_⟩
      · rw [hp, hc, List.append_assoc]; rfl
      · intro n hn
        rw [tB_s, tB_A]
        exact hf' n hn
      · rw [tI_s, if_pos rfl, List.length_append]; rfl
      · rw [tA_s, tA_A, if_pos rfl]
        exact hA.snoc _
  obtain ⟨r, e2, T', rfl, h⟩ := H
  refine ⟨T', ?_, h⟩
  have c1 := encF_lt (dT_in (m := m) (aw := aw) (fz := fz) hI ht (pFr ρ t))
  rw [hz] at c1
  have c2 : some z ≠ none := by simp
  have e' : fX5_best (zN t) (tsI T 21 (zN 0)) = some (encF (dT ρ m aw fz t (pFr ρ t)), tsB (tsI T 21 (zN 0)) 7 f') := e
  have e3 : fX5_laysPath_l26 (zN t) (zN (pFr ρ t)) (tsB (tsI T 21 (zN 0)) 7 f') = some (zN 1, T') := e2
  have hR3 : RowT (tsB (tsI T 21 (zN 0)) 7 f') ρ := hR1
  simp (disch := omega) only [b2_some, bd_some, nm_eq, Option.map_some, zN_lit, zN_add, zN_mul, zN_neg1, if_true, if_false, reduceIte, eq_self, Nat.reduceEqDiff, Nat.reduceAdd, Nat.reduceMul, Nat.reduceSub, Nat.reduceLeDiff, Nat.one_ne_zero, not_false_eq_true, Bool.false_eq_true, zN_eq, zN_lt, zN_le,  fX5_laysPath, e', hz, show (2305843009213693951 : Int64) = zJ FAR from rfl, c1, c2, tp0 hR3, e3, ne_eq, reduceCtorEq]
theorem tw_nopath (hR : RowT T ρ) (hI : Inv ρ) (hO : OptT T m aw fz) (ht : t < ρ 2) (hz : dT ρ m aw fz t (pFr ρ t) = none) :
    ∃ T', fX5_laysPath (zN t) T = some (zN 0, T') ∧ K1 T T' := by
  have hR1 : RowT (tsI T 21 0) ρ := (K1.i21 _ _).row hR
  have hO1 : OptT (tsI T 21 0) m aw fz := (K1.i21 _ _).opt hO
  obtain ⟨f', e, hf⟩ := tw_best hR1 hI hO1 ht
  have c1 := encF_lt (dT_in (m := m) (aw := aw) (fz := fz) hI ht (pFr ρ t))
  rw [hz] at c1
  have e' : fX5_best (zN t) (tsI T 21 (zN 0)) = some (encF (dT ρ m aw fz t (pFr ρ t)), tsB (tsI T 21 (zN 0)) 7 f') := e
  refine ⟨_, ?_, (K1.i21 T (zN 0)).trans (K1.B _ 7 f')⟩
  simp (disch := omega) only [b2_some, bd_some, nm_eq, Option.map_some, zN_lit, zN_add, zN_mul, zN_neg1, if_true, if_false, reduceIte, eq_self, Nat.reduceEqDiff, Nat.reduceAdd, Nat.reduceMul, Nat.reduceSub, Nat.reduceLeDiff, Nat.one_ne_zero, not_false_eq_true, Bool.false_eq_true, zN_eq, zN_lt, zN_le,  fX5_laysPath, e', hz, show (2305843009213693951 : Int64) = zJ FAR from rfl, c1, ne_eq, not_true_eq_false]
end
