/-! Plain law: the output on the twin's side -/
theorem nI_zN (n : Nat) : nI n = zN n := (Int32.ofInt_eq_ofNat (n := n)).symm
theorem zN_div {a b : Nat} (ha : a < 2147483648) (hb : b < 2147483648) : zN a / zN b = zN (a / b) := by
  obtain ⟨q, hq⟩ : ∃ q, q = a / b := ⟨_, rfl⟩
  have h1 : q ≤ a := by rw [hq]; exact Nat.div_le_self _ _
  have h2 : (a : Int) / (b : Int) = (q : Int) := by rw [hq]; exact (Int.natCast_ediv a b).symm
  rw [← hq]
  apply Int32.toInt_inj.mp
  unfold zN
  rw [Int32.toInt_div, zI_toInt (by omega), zI_toInt (by omega), zI_toInt (by omega), Int.tdiv_eq_ediv_of_nonneg (by omega), h2]
  exact Int.bmod_eq_of_le (by omega) (by omega)
theorem nzI_N {a : Nat} (h : 0 < a ∧ a < 2147483648) : nzI (zN a) = some () := by
  unfold nzI
  rw [if_neg]
  show ¬ (zN a = zN 0)
  rw [zN_eq h.2 (by omega)]
  omega
theorem byt_id : ∀ c, c < 128 → vp_nar .byte ((zN c).toInt8.toInt32) = zN c := by decide +kernel
/-- all but the output, the path and its length is kept -/
def KO (T T' : TW) : Prop := (∀ k, k ≠ 21 → k ≠ 32 → tI T' k = tI T k) ∧ (∀ p, p ≠ 8 → p ≠ 16 → tA T' p = tA T p)
theorem KO.refl (T : TW) : KO T T := ⟨fun _ _ _ => rfl, fun _ _ _ => rfl⟩
theorem KO.trans {T T' T2 : TW} (h : KO T T') (h' : KO T' T2) : KO T T2 := ⟨fun k hk hk' => (h'.1 k hk hk').trans (h.1 k hk hk'), fun p hp hp' => (h'.2 p hp hp').trans (h.2 p hp hp')⟩
theorem K1.ko {T T' : TW} (h : K1 T T') : KO T T' := ⟨fun k hk _ => h.1 k hk, fun p hp _ => h.2.2 p hp⟩
theorem KO.q {T T' : TW} {ρ : Nat → Nat} {m fz : Nat} {aw : Int} (h : KO T T') (hQ : QT T ρ m aw fz) : QT T' ρ m aw fz := by
  refine ⟨fun i hi => ?_, hQ.2.1, ?_⟩
  · rw [h.2 1 (by omega) (by omega)]
    exact hQ.1 i hi
  · unfold OptT
    rw [h.1 17 (by omega) (by omega), h.1 18 (by omega) (by omega), h.1 19 (by omega) (by omega)]
    exact hQ.2.2
/-- what was written -/
def OutT (T : TW) (o : List Nat) : Prop := tI T 32 = zN o.length ∧ o.length ≤ 256 ∧ Arr (tA T 16) o ∧ ∀ c ∈ o, c < 128
/-- decimal digits of 0 to 9999 -/
def dgs (v : Nat) : List Nat := if v < 10 then [48 + v] else if v < 100 then [48 + v / 10, 48 + v % 10] else if v < 1000 then [48 + v / 100, 48 + v / 10 % 10, 48 + v % 10] else [48 + v / 1000, 48 + v / 100 % 10, 48 + v / 10 % 10, 48 + v % 10]
theorem dgs_len (v : Nat) : 1 ≤ (dgs v).length ∧ (dgs v).length ≤ 4 := by
  unfold dgs
  split
  · exact ⟨(by decide : 1 ≤ 1), (by decide : 1 ≤ 4)⟩
  · split
    · exact ⟨(by decide : 1 ≤ 2), (by decide : 2 ≤ 4)⟩
    · split
      · exact ⟨(by decide : 1 ≤ 3), (by decide : 3 ≤ 4)⟩
      · exact ⟨(by decide : 1 ≤ 4), (by decide : 4 ≤ 4)⟩
section
variable {T : TW} {ρ : Nat → Nat} {m fz : Nat} {aw : Int} {t : Nat} {o : List Nat}
/-- same path and row -/
def KP (T T' : TW) : Prop := KO T T' ∧ tI T' 21 = tI T 21 ∧ tA T' 8 = tA T 8
theorem KP.refl (T : TW) : KP T T := ⟨KO.refl T, rfl, rfl⟩
theorem KP.trans {T T' T2 : TW} (h : KP T T') (h' : KP T' T2) : KP T T2 := ⟨h.1.trans h'.1, h'.2.1.trans h.2.1, h'.2.2.trans h.2.2⟩
theorem tw_puts (hO : OutT T o) (hl : o.length < 256) {c : Nat} (hc : c < 128) : ∃ T', fX5_puts (zN c) T = some T' ∧ OutT T' (o ++ [c]) ∧ KP T T' := by
  obtain ⟨h1, h2, h3, h4⟩ := hO
  refine ⟨tsI (tsA T 16 (upd (tA T 16) o.length (zN c))) 32 (zN (o.length + 1)), ?_, ⟨?_, by rw [List.length_append]; exact hl, ?_, fun x hx => ?_⟩, ⟨⟨fun k _ hk => by rw [tI_s, if_neg hk, tI_A], fun p _ hp => by rw [tA_s, tA_A, if_neg hp]⟩, rfl, rfl⟩⟩
  · simp (disch := omega) only [b2_some, bd_some, nm_eq, Option.map_some, zN_lit, zN_add, zN_mul, zN_neg1, if_true, if_false, reduceIte, eq_self, Nat.reduceEqDiff, Nat.reduceAdd, Nat.reduceMul, Nat.reduceSub, Nat.reduceLeDiff, Nat.one_ne_zero, not_false_eq_true, Bool.false_eq_true, zN_eq, zN_lt, zN_le,  fX5_puts, h1, byt_id c hc, wrA_N, tI_A]
  · rw [tI_s, if_pos rfl, List.length_append]; rfl
  · rw [tA_s, tA_A, if_pos rfl]
    exact h3.snoc c
  · rcases List.mem_append.mp hx with hx | hx
    · exact h4 x hx
    · rw [List.mem_singleton.mp hx]; exact hc
theorem tw_dig {v u : Nat} (hv : v ≤ 9999) (hu : u = 1 ∨ u = 10 ∨ u = 100 ∨ u = 1000) (hO : OutT T o) (hl : o.length < 256) :
    ∃ T', fX5_putsNumber_b18 (zN v) (zN u) T = some (.inl (zN (u / 10), T')) ∧ OutT T' (o ++ [48 + (v / u) % 10]) ∧ KP T T' := by
  have hq : v / u ≤ v := Nat.div_le_self _ _
  have hq2 : v / u / 10 * 10 ≤ v / u := Nat.div_mul_le_self _ _
  have hm : v / u - v / u / 10 * 10 = v / u % 10 := by
    have := Nat.div_add_mod (v / u) 10
    omega
  have hm10 : v / u % 10 < 10 := Nat.mod_lt _ (by omega)
  obtain ⟨T', e, h⟩ := tw_puts hO hl (c := 48 + v / u % 10) (by omega)
  refine ⟨T', ?_, h⟩
  have n1 : ¬ (u ≤ 0) := by omega
  simp (disch := omega) only [b2_some, bd_some, nm_eq, Option.map_some, zN_lit, zN_add, zN_mul, zN_neg1, if_true, if_false, reduceIte, eq_self, Nat.reduceEqDiff, Nat.reduceAdd, Nat.reduceMul, Nat.reduceSub, Nat.reduceLeDiff, Nat.one_ne_zero, not_false_eq_true, Bool.false_eq_true, zN_eq, zN_lt, zN_le,  fX5_putsNumber_b18, n1, nzI_N, zN_div, zN_sub, hm, e]
theorem tw_end {v : Nat} : fX5_putsNumber_b18 (zN v) (zN 0) T = some (.inr T) := by
  simp (disch := omega) only [b2_some, bd_some, nm_eq, Option.map_some, zN_lit, zN_add, zN_mul, zN_neg1, if_true, if_false, reduceIte, eq_self, Nat.reduceEqDiff, Nat.reduceAdd, Nat.reduceMul, Nat.reduceSub, Nat.reduceLeDiff, Nat.one_ne_zero, not_false_eq_true, Bool.false_eq_true, zN_eq, zN_lt, zN_le,  fX5_putsNumber_b18, Nat.le_refl]
theorem tw_num {v : Nat} (hv : v ≤ 9999) (hO : OutT T o) (hl : o.length ≤ 252) : ∃ T', fX5_putsNumber (zN v) T = some T' ∧ OutT T' (o ++ dgs v) ∧ KP T T' := by
  have up : ∀ u, (u = 1 ∨ u = 10 ∨ u = 100) → ¬ (v / u < 10) → fX5_putsNumber_b2 (zN v) (zN u) T = some (.inl (zN (u * 10), T)) := fun u hu hn => by
    have hq : v / u ≤ v := Nat.div_le_self _ _
    simp (disch := omega) only [b2_some, bd_some, nm_eq, Option.map_some, zN_lit, zN_add, zN_mul, zN_neg1, if_true, if_false, reduceIte, eq_self, Nat.reduceEqDiff, Nat.reduceAdd, Nat.reduceMul, Nat.reduceSub, Nat.reduceLeDiff, Nat.one_ne_zero, not_false_eq_true, Bool.false_eq_true, zN_eq, zN_lt, zN_le,  fX5_putsNumber_b2, nzI_N, zN_div, hn]
  have last : ∀ u, (u = 1 ∨ u = 10 ∨ u = 100 ∨ u = 1000) → v / u < 10 → ∀ T', fX5_putsNumber_l18 (zN v) (zN u) T = some T' → fX5_putsNumber_b2 (zN v) (zN u) T = some (.inr T') := fun u hu hn T' e => by
    have hq : v / u ≤ v := Nat.div_le_self _ _
    simp (disch := omega) only [b2_some, bd_some, nm_eq, Option.map_some, zN_lit, zN_add, zN_mul, zN_neg1, if_true, if_false, reduceIte, eq_self, Nat.reduceEqDiff, Nat.reduceAdd, Nat.reduceMul, Nat.reduceSub, Nat.reduceLeDiff, Nat.one_ne_zero, not_false_eq_true, Bool.false_eq_true, zN_eq, zN_lt, zN_le,  fX5_putsNumber_b2, nzI_N, zN_div, hn, e]
  have u0 : fX5_putsNumber (zN v) T = fX5_putsNumber_l2 (zN v) (zN 1) T := rfl
  rw [u0]
  unfold dgs
  by_cases c1 : v < 10
  · rw [if_pos c1]
    obtain ⟨T1, e1, o1, k1⟩ := tw_dig hv (u := 1) (by omega) hO (by omega)
    refine ⟨T1, wh_inr (last 1 (by omega) (by omega) T1 ((wh_inl e1).trans (wh_inr tw_end))), ?_, k1⟩
    rw [Nat.div_one, Nat.mod_eq_of_lt c1] at o1
    exact o1
  · rw [if_neg c1]
    have s1 : fX5_putsNumber_l2 (zN v) (zN 1) T = fX5_putsNumber_l2 (zN v) (zN 10) T := wh_inl (up 1 (by omega) (by omega))
    rw [s1]
    by_cases c2 : v < 100
    · rw [if_pos c2]
      obtain ⟨T1, e1, o1, k1⟩ := tw_dig hv (u := 10) (by omega) hO (by omega)
      obtain ⟨T2, e2, o2, k2⟩ := tw_dig hv (u := 1) (by omega) o1 (by simp; omega)
      refine ⟨T2, wh_inr (last 10 (by omega) (by omega) T2 ((wh_inl e1).trans ((wh_inl e2).trans (wh_inr tw_end)))), ?_, k1.trans k2⟩
      rw [Nat.mod_eq_of_lt (show v / 10 < 10 by omega), Nat.div_one, List.append_assoc] at o2
      exact o2
    · rw [if_neg c2]
      have s2 : fX5_putsNumber_l2 (zN v) (zN 10) T = fX5_putsNumber_l2 (zN v) (zN 100) T := wh_inl (up 10 (by omega) (by omega))
      rw [s2]
      by_cases c3 : v < 1000
      · rw [if_pos c3]
        obtain ⟨T1, e1, o1, k1⟩ := tw_dig hv (u := 100) (by omega) hO (by omega)
        obtain ⟨T2, e2, o2, k2⟩ := tw_dig hv (u := 10) (by omega) o1 (by simp; omega)
        obtain ⟨T3, e3, o3, k3⟩ := tw_dig hv (u := 1) (by omega) o2 (by simp; omega)
        refine ⟨T3, wh_inr (last 100 (by omega) (by omega) T3 ((wh_inl e1).trans ((wh_inl e2).trans ((wh_inl e3).trans (wh_inr tw_end))))), ?_, (k1.trans k2).trans k3⟩
        rw [Nat.mod_eq_of_lt (show v / 100 < 10 by omega), Nat.div_one, List.append_assoc, List.append_assoc] at o3
        exact o3
      · rw [if_neg c3]
        have s3 : fX5_putsNumber_l2 (zN v) (zN 100) T = fX5_putsNumber_l2 (zN v) (zN 1000) T := wh_inl (up 100 (by omega) (by omega))
        rw [s3]
        obtain ⟨T0, e0, o0, k0⟩ := tw_dig hv (u := 1000) (by omega) hO (by omega)
        obtain ⟨T1, e1, o1, k1⟩ := tw_dig hv (u := 100) (by omega) o0 (by simp; omega)
        obtain ⟨T2, e2, o2, k2⟩ := tw_dig hv (u := 10) (by omega) o1 (by simp; omega)
        obtain ⟨T3, e3, o3, k3⟩ := tw_dig hv (u := 1) (by omega) o2 (by simp; omega)
        refine ⟨T3, wh_inr (last 1000 (by omega) (by omega) T3 ((wh_inl e0).trans ((wh_inl e1).trans ((wh_inl e2).trans ((wh_inl e3).trans (wh_inr tw_end)))))), ?_, ((k0.trans k1).trans k2).trans k3⟩
        rw [Nat.mod_eq_of_lt (show v / 1000 < 10 by omega), Nat.div_one, List.append_assoc, List.append_assoc, List.append_assoc] at o3
        exact o3
/-- one arc of a path, written -/
def wrA1 (ρ : Nat → Nat) (a : Nat) : List Nat := (if 0 < aTl ρ a then 61 :: dgs (aTl ρ a) else []) ++ 62 :: dgs (aTo ρ a)
def wrP (ρ : Nat → Nat) (t : Nat) (p : List Nat) : Nat → List Nat
  | 0 => dgs (pFr ρ t)
  | k + 1 => wrP ρ t p k ++ wrA1 ρ (p.getD k 0)
theorem wrA1_len (ρ : Nat → Nat) (a : Nat) : (wrA1 ρ a).length ≤ 10 := by
  have h1 := dgs_len (aTl ρ a)
  have h2 := dgs_len (aTo ρ a)
  unfold wrA1
  rw [List.length_append, List.length_cons]
  split
  · rw [List.length_cons]; omega
  · simp; omega
theorem wrP_len (ρ : Nat → Nat) (t : Nat) (p : List Nat) : ∀ k, (wrP ρ t p k).length ≤ 4 + 10 * k
  | 0 => by have := dgs_len (pFr ρ t); unfold wrP; omega
  | k + 1 => by
    have h1 := wrP_len ρ t p k
    have h2 := wrA1_len ρ (p.getD k 0)
    unfold wrP
    rw [List.length_append]
    omega
theorem tw_wrP (hR : RowT T ρ) (hI : Inv ρ) {p : List Nat} (hp : ∀ a ∈ p, a < ρ 1) (hl : p.length < 10) (h21 : tI T 21 = zN p.length) (h8 : Arr (tA T 8) p) (hO : OutT T (dgs (pFr ρ t))) :
    ∃ T', fX5_writePath_l52 0 T = some (zN (wrP ρ t p p.length).length, T') ∧ OutT T' (wrP ρ t p p.length) ∧ KO T T' := by
  have H : ∃ r, fX5_writePath_l52 0 T = some r ∧ ∃ T', r = (zN (wrP ρ t p p.length).length, T') ∧ OutT T' (wrP ρ t p p.length) ∧ KO T T' := by
    refine wh_up (P := fun i s => i ≤ p.length ∧ ∃ T', s = (zN i, T') ∧ OutT T' (wrP ρ t p i) ∧ KP T T') p.length ?_ ?_ p.length 0 _ (by omega) ⟨by omega, T, rfl, hO, KP.refl T⟩
    · rintro i s hi ⟨-, T', rfl, hO', hK⟩
      have n1 : ¬ (p.length ≤ i) := by omega
      have g := hp _ (getD_mem hi)
      have b := hI.ha g
      have hlen := wrP_len ρ t p i
      have hR' : ∀ T2, KP T T2 → RowT T2 ρ := fun T2 hK2 j hj => by rw [hK2.1.2 1 (by omega) (by omega)]; exact hR j hj
      have h21' : ∀ T2, KP T T2 → tI T2 21 = zN p.length := fun T2 hK2 => by rw [hK2.2.1]; exact h21
      have h8' : ∀ T2, KP T T2 → tA T2 8 i = zN (p.getD i 0) := fun T2 hK2 => by rw [hK2.2.2]; exact h8 i hi
      -- the end of one arc
      have fin : ∀ T2 o2, KP T T2 → OutT T2 o2 → o2.length ≤ 240 → ∃ T3, fX5_writePath_b95 (zN i) T2 = some (.inl (zN (i + 1), T3)) ∧ OutT T3 (o2 ++ 62 :: dgs (aTo ρ (p.getD i 0))) ∧ KP T T3 := by
        intro T2 o2 hK2 hO2 hl2
        obtain ⟨T3, e3, o3, k3⟩ := tw_puts hO2 (by omega) (c := 62) (by omega)
        obtain ⟨T4, e4, o4, k4⟩ := tw_num (v := aTo ρ (p.getD i 0)) (by omega) o3 (by simp; omega)
        refine ⟨T4, ?_, by rw [List.append_assoc] at o4; exact o4, (hK2.trans k3).trans k4⟩
        simp (disch := omega) only [b2_some, bd_some, nm_eq, Option.map_some, zN_lit, zN_add, zN_mul, zN_neg1, if_true, if_false, reduceIte, eq_self, Nat.reduceEqDiff, Nat.reduceAdd, Nat.reduceMul, Nat.reduceSub, Nat.reduceLeDiff, Nat.one_ne_zero, not_false_eq_true, Bool.false_eq_true, zN_eq, zN_lt, zN_le,  fX5_writePath_b95, e3, rd_N, h8' T3 (hK2.trans k3), ta1 (hR' T3 (hK2.trans k3)), e4]
      left
      by_cases ht : 0 < aTl ρ (p.getD i 0)
      · obtain ⟨T2, e2, o2, k2⟩ := tw_puts hO' (by omega) (c := 61) (by omega)
        obtain ⟨T3, e3, o3, k3⟩ := tw_num (v := aTl ρ (p.getD i 0)) (by omega) o2 (by simp; omega)
        have hd := dgs_len (aTl ρ (p.getD i 0))
        obtain ⟨T4, e4, o4, k4⟩ := fin T3 _ ((hK.trans k2).trans k3) o3 (by rw [List.length_append, List.length_append, List.length_singleton]; omega)
        refine ⟨_, ?_, by omega, T4, rfl, ?_, k4⟩
        · have n2 : ¬ (aTl ρ (p.getD i 0) ≤ 0) := by omega
          simp (disch := omega) only [b2_some, bd_some, nm_eq, Option.map_some, zN_lit, zN_add, zN_mul, zN_neg1, if_true, if_false, reduceIte, eq_self, Nat.reduceEqDiff, Nat.reduceAdd, Nat.reduceMul, Nat.reduceSub, Nat.reduceLeDiff, Nat.one_ne_zero, not_false_eq_true, Bool.false_eq_true, zN_eq, zN_lt, zN_le,  fX5_writePath_b52, h21' T' hK, n1, rd_N, h8' T' hK, ta4 (hR' T' hK), n2, e2, h8' T2 (hK.trans k2), ta4 (hR' T2 (hK.trans k2)), e3, e4]
        · rw [wrP, wrA1, if_pos ht]
          simp only [List.append_assoc, List.cons_append, List.nil_append] at o4 ⊢
          exact o4
      · obtain ⟨T4, e4, o4, k4⟩ := fin T' _ hK hO' (by omega)
        refine ⟨_, ?_, by omega, T4, rfl, ?_, k4⟩
        · have n2 : aTl ρ (p.getD i 0) ≤ 0 := by omega
          simp (disch := omega) only [b2_some, bd_some, nm_eq, Option.map_some, zN_lit, zN_add, zN_mul, zN_neg1, if_true, if_false, reduceIte, eq_self, Nat.reduceEqDiff, Nat.reduceAdd, Nat.reduceMul, Nat.reduceSub, Nat.reduceLeDiff, Nat.one_ne_zero, not_false_eq_true, Bool.false_eq_true, zN_eq, zN_lt, zN_le,  fX5_writePath_b52, h21' T' hK, n1, rd_N, h8' T' hK, ta4 (hR' T' hK), n2, e4]
        · rw [wrP, wrA1, if_neg ht]
          exact o4
    · rintro s ⟨-, T', rfl, hO', hK⟩
      refine ⟨_, ?_, T', rfl, hO', hK.1⟩
      have h21' : tI T' 21 = zN p.length := by rw [hK.2.1]; exact h21
      simp (disch := omega) only [b2_some, bd_some, nm_eq, Option.map_some, zN_lit, zN_add, zN_mul, zN_neg1, if_true, if_false, reduceIte, eq_self, Nat.reduceEqDiff, Nat.reduceAdd, Nat.reduceMul, Nat.reduceSub, Nat.reduceLeDiff, Nat.one_ne_zero, not_false_eq_true, Bool.false_eq_true, zN_eq, zN_lt, zN_le,  fX5_writePath_b52, h21', Nat.le_refl, fX5_writePath_b122, hO'.1]
  obtain ⟨r, e, T', rfl, h⟩ := H
  exact ⟨T', e, h⟩
/-- the tolls, written -/
def wrT (ρ : Nat → Nat) : Nat → List Nat
  | 0 => []
  | k + 1 => if 0 < aTl ρ k then wrT ρ k ++ (if 0 < (wrT ρ k).length then [59] else []) ++ dgs k ++ 58 :: dgs (aTl ρ k) else wrT ρ k
theorem wrT_len (ρ : Nat → Nat) : ∀ k, (wrT ρ k).length ≤ 10 * k
  | 0 => Nat.le_refl _
  | k + 1 => by
    have h := wrT_len ρ k
    have h1 := dgs_len k
    have h2 := dgs_len (aTl ρ k)
    unfold wrT
    split
    · simp only [List.length_append, List.length_cons]
      split <;> simp <;> omega
    · omega
theorem tw_wrT (hR : RowT T ρ) (hI : Inv ρ) (hO : OutT T []) : ∃ T', fX5_writeTolls_l12 0 T = some (zN (wrT ρ (ρ 1)).length, T') ∧ OutT T' (wrT ρ (ρ 1)) ∧ KO T T' := by
  have h1 := hI.h1
  have H : ∃ r, fX5_writeTolls_l12 0 T = some r ∧ ∃ T', r = (zN (wrT ρ (ρ 1)).length, T') ∧ OutT T' (wrT ρ (ρ 1)) ∧ KO T T' := by
    refine wh_up (P := fun i s => i ≤ ρ 1 ∧ ∃ T', s = (zN i, T') ∧ OutT T' (wrT ρ i) ∧ KP T T') (ρ 1) ?_ ?_ (ρ 1) 0 _ (by omega) ⟨by omega, T, rfl, hO, KP.refl T⟩
    · rintro i s hi ⟨-, T', rfl, hO', hK⟩
      have n1 : ¬ (ρ 1 ≤ i) := by omega
      have b := hI.ha hi
      have hlen := wrT_len ρ i
      have hR' : ∀ T2, KP T T2 → RowT T2 ρ := fun T2 hK2 j hj => by rw [hK2.1.2 1 (by omega) (by omega)]; exact hR j hj
      have hd := dgs_len i
      have hd2 := dgs_len (aTl ρ i)
      have fin : ∀ T2 o2, KP T T2 → OutT T2 o2 → o2.length ≤ 241 → ∃ T3, fX5_writeTolls_b44 (zN i) T2 = some (.inl (zN (i + 1), T3)) ∧ OutT T3 (o2 ++ dgs i ++ 58 :: dgs (aTl ρ i)) ∧ KP T T3 := by
        intro T2 o2 hK2 hO2 hl2
        obtain ⟨T3, e3, o3, k3⟩ := tw_num (v := i) (by omega) hO2 (by omega)
        obtain ⟨T4, e4, o4, k4⟩ := tw_puts o3 (by simp; omega) (c := 58) (by omega)
        obtain ⟨T5, e5, o5, k5⟩ := tw_num (v := aTl ρ i) (by omega) o4 (by simp; omega)
        refine ⟨T5, ?_, by rw [List.append_assoc (o2 ++ dgs i)] at o5; exact o5, ((hK2.trans k3).trans k4).trans k5⟩
        simp (disch := omega) only [b2_some, bd_some, nm_eq, Option.map_some, zN_lit, zN_add, zN_mul, zN_neg1, if_true, if_false, reduceIte, eq_self, Nat.reduceEqDiff, Nat.reduceAdd, Nat.reduceMul, Nat.reduceSub, Nat.reduceLeDiff, Nat.one_ne_zero, not_false_eq_true, Bool.false_eq_true, zN_eq, zN_lt, zN_le,  fX5_writeTolls_b44, e3, e4, ta4 (hR' T4 ((hK2.trans k3).trans k4)), e5, fX5_writeTolls_b65]
      left
      by_cases ht : 0 < aTl ρ i
      · have n2 : ¬ (aTl ρ i ≤ 0) := by omega
        by_cases hw : 0 < (wrT ρ i).length
        · obtain ⟨T2, e2, o2, k2⟩ := tw_puts hO' (by omega) (c := 59) (by omega)
          obtain ⟨T4, e4, o4, k4⟩ := fin T2 _ (hK.trans k2) o2 (by simp; omega)
          refine ⟨_, ?_, by omega, T4, rfl, ?_, k4⟩
          · have n3 : ¬ ((wrT ρ i).length ≤ 0) := by omega
            simp (disch := omega) only [b2_some, bd_some, nm_eq, Option.map_some, zN_lit, zN_add, zN_mul, zN_neg1, if_true, if_false, reduceIte, eq_self, Nat.reduceEqDiff, Nat.reduceAdd, Nat.reduceMul, Nat.reduceSub, Nat.reduceLeDiff, Nat.one_ne_zero, not_false_eq_true, Bool.false_eq_true, zN_eq, zN_lt, zN_le,  fX5_writeTolls_b12, tw_rd (hR' T' hK), n1, ta4 (hR' T' hK), n2, hO'.1, n3, e2, e4]
          · rw [wrT, if_pos ht, if_pos hw]
            exact o4
        · obtain ⟨T4, e4, o4, k4⟩ := fin T' _ hK hO' (by omega)
          refine ⟨_, ?_, by omega, T4, rfl, ?_, k4⟩
          · have n3 : (wrT ρ i).length ≤ 0 := by omega
            simp (disch := omega) only [b2_some, bd_some, nm_eq, Option.map_some, zN_lit, zN_add, zN_mul, zN_neg1, if_true, if_false, reduceIte, eq_self, Nat.reduceEqDiff, Nat.reduceAdd, Nat.reduceMul, Nat.reduceSub, Nat.reduceLeDiff, Nat.one_ne_zero, not_false_eq_true, Bool.false_eq_true, zN_eq, zN_lt, zN_le,  fX5_writeTolls_b12, tw_rd (hR' T' hK), n1, ta4 (hR' T' hK), n2, hO'.1, n3, e4]
          · rw [wrT, if_pos ht, if_neg hw, List.append_nil]
            exact o4
      · have n2 : aTl ρ i ≤ 0 := by omega
        refine ⟨_, ?_, by omega, T', rfl, ?_, hK⟩
        · simp (disch := omega) only [b2_some, bd_some, nm_eq, Option.map_some, zN_lit, zN_add, zN_mul, zN_neg1, if_true, if_false, reduceIte, eq_self, Nat.reduceEqDiff, Nat.reduceAdd, Nat.reduceMul, Nat.reduceSub, Nat.reduceLeDiff, Nat.one_ne_zero, not_false_eq_true, Bool.false_eq_true, zN_eq, zN_lt, zN_le,  fX5_writeTolls_b12, tw_rd (hR' T' hK), n1, ta4 (hR' T' hK), n2, fX5_writeTolls_b65]
        · rw [wrT, if_neg ht]
          exact hO'
    · rintro s ⟨-, T', rfl, hO', hK⟩
      refine ⟨_, ?_, T', rfl, hO', hK.1⟩
      have hR' : RowT T' ρ := fun j hj => by rw [hK.1.2 1 (by omega) (by omega)]; exact hR j hj
      simp (disch := omega) only [b2_some, bd_some, nm_eq, Option.map_some, zN_lit, zN_add, zN_mul, zN_neg1, if_true, if_false, reduceIte, eq_self, Nat.reduceEqDiff, Nat.reduceAdd, Nat.reduceMul, Nat.reduceSub, Nat.reduceLeDiff, Nat.one_ne_zero, not_false_eq_true, Bool.false_eq_true, zN_eq, zN_lt, zN_le,  fX5_writeTolls_b12, tw_rd hR', Nat.le_refl, fX5_writeTolls_b71, hO'.1]
  obtain ⟨r, e, T', rfl, h⟩ := H
  exact ⟨T', e, h⟩
theorem tw_none (hO : OutT T []) : ∃ T', fX5_putsWord 4 T = some T' ∧ OutT T' [110, 111, 110, 101] ∧ KP T T' := by
  obtain ⟨T1, e1, o1, k1⟩ := tw_puts hO (by decide) (c := 110) (by omega)
  obtain ⟨T2, e2, o2, k2⟩ := tw_puts o1 (by decide) (c := 111) (by omega)
  obtain ⟨T3, e3, o3, k3⟩ := tw_puts o2 (by decide) (c := 110) (by omega)
  obtain ⟨T4, e4, o4, k4⟩ := tw_puts o3 (by decide) (c := 101) (by omega)
  refine ⟨T4, ?_, o4, ((k1.trans k2).trans k3).trans k4⟩
  have hl : sLen 4 = zN 4 := by decide
  have c0 : sChr 4 (zN 0) = some (zN 110) := by decide +kernel
  have c1 : sChr 4 (zN 1) = some (zN 111) := by decide +kernel
  have c2 : sChr 4 (zN 2) = some (zN 110) := by decide +kernel
  have c3 : sChr 4 (zN 3) = some (zN 101) := by decide +kernel
  have s0 : fX5_putsWord_b2 4 (zN 0) T = some (.inl (zN 1, T1)) := by simp (disch := omega) only [b2_some, bd_some, nm_eq, Option.map_some, zN_lit, zN_add, zN_mul, zN_neg1, if_true, if_false, reduceIte, eq_self, Nat.reduceEqDiff, Nat.reduceAdd, Nat.reduceMul, Nat.reduceSub, Nat.reduceLeDiff, Nat.one_ne_zero, not_false_eq_true, Bool.false_eq_true, zN_eq, zN_lt, zN_le,  fX5_putsWord_b2, hl, c0, e1]
  have s1 : fX5_putsWord_b2 4 (zN 1) T1 = some (.inl (zN 2, T2)) := by simp (disch := omega) only [b2_some, bd_some, nm_eq, Option.map_some, zN_lit, zN_add, zN_mul, zN_neg1, if_true, if_false, reduceIte, eq_self, Nat.reduceEqDiff, Nat.reduceAdd, Nat.reduceMul, Nat.reduceSub, Nat.reduceLeDiff, Nat.one_ne_zero, not_false_eq_true, Bool.false_eq_true, zN_eq, zN_lt, zN_le,  fX5_putsWord_b2, hl, c1, e2]
  have s2 : fX5_putsWord_b2 4 (zN 2) T2 = some (.inl (zN 3, T3)) := by simp (disch := omega) only [b2_some, bd_some, nm_eq, Option.map_some, zN_lit, zN_add, zN_mul, zN_neg1, if_true, if_false, reduceIte, eq_self, Nat.reduceEqDiff, Nat.reduceAdd, Nat.reduceMul, Nat.reduceSub, Nat.reduceLeDiff, Nat.one_ne_zero, not_false_eq_true, Bool.false_eq_true, zN_eq, zN_lt, zN_le,  fX5_putsWord_b2, hl, c2, e3]
  have s3 : fX5_putsWord_b2 4 (zN 3) T3 = some (.inl (zN 4, T4)) := by simp (disch := omega) only [b2_some, bd_some, nm_eq, Option.map_some, zN_lit, zN_add, zN_mul, zN_neg1, if_true, if_false, reduceIte, eq_self, Nat.reduceEqDiff, Nat.reduceAdd, Nat.reduceMul, Nat.reduceSub, Nat.reduceLeDiff, Nat.one_ne_zero, not_false_eq_true, Bool.false_eq_true, zN_eq, zN_lt, zN_le,  fX5_putsWord_b2, hl, c3, e4]
  have s4 : fX5_putsWord_b2 4 (zN 4) T4 = some (.inr T4) := by simp (disch := omega) only [b2_some, bd_some, nm_eq, Option.map_some, zN_lit, zN_add, zN_mul, zN_neg1, if_true, if_false, reduceIte, eq_self, Nat.reduceEqDiff, Nat.reduceAdd, Nat.reduceMul, Nat.reduceSub, Nat.reduceLeDiff, Nat.one_ne_zero, not_false_eq_true, Bool.false_eq_true, zN_eq, zN_lt, zN_le,  fX5_putsWord_b2, hl, Nat.le_refl]
  exact (wh_inl s0).trans ((wh_inl s1).trans ((wh_inl s2).trans ((wh_inl s3).trans (wh_inr s4))))
end
