/-! Plain law: one word of bits; open arcs, weights on the component's side -/
theorem zJ_gb (m : Nat) {i : Nat} (hi : i < 64) : (zJ m).toBitVec.getLsbD i = m.testBit i := by
  show (BitVec.ofInt 64 (m : Int)).getLsbD i = _
  rw [BitVec.ofInt_natCast, BitVec.getLsbD_ofNat]
  simp [hi]
theorem zJ_ext {x y : Int64} (h : ∀ i, i < 64 → x.toBitVec.getLsbD i = y.toBitVec.getLsbD i) : x = y := Int64.toBitVec_inj.mp (BitVec.eq_of_getLsbD_eq (fun i hi => h i hi))
theorem zJ_and (a b : Nat) : zJ a &&& zJ b = zJ ((a &&& b : Nat) : Int) := zJ_ext fun i hi => by
  rw [Int64.toBitVec_and, BitVec.getLsbD_and, zJ_gb a hi, zJ_gb b hi, zJ_gb _ hi, Nat.testBit_and]
theorem zJ_or (a b : Nat) : zJ a ||| zJ b = zJ ((a ||| b : Nat) : Int) := zJ_ext fun i hi => by
  rw [Int64.toBitVec_or, BitVec.getLsbD_or, zJ_gb a hi, zJ_gb b hi, zJ_gb _ hi, Nat.testBit_or]
theorem zJ_sh : ∀ k, k < 64 → (((zN k).toInt64 &&& 63).toBitVec.smod 64).toNat = k := by decide +kernel
theorem zJ_shl1 {k : Nat} (hk : k < 64) : (1 : Int64) <<< ((zN k).toInt64 &&& 63) = zJ ((2 ^ k : Nat) : Int) := zJ_ext fun i hi => by
  rw [Int64.toBitVec_shiftLeft]
  show ((1 : Int64).toBitVec <<< (((zN k).toInt64 &&& 63).toBitVec.smod 64).toNat).getLsbD i = _
  rw [zJ_sh k hk, BitVec.getLsbD_shiftLeft, zJ_gb _ hi, show (1 : Int64) = zJ (1 : Nat) from rfl, zJ_gb 1 (by omega), Nat.testBit_two_pow]
  rcases Nat.lt_trichotomy i k with h | h | h
  · simp [h, show ¬ k = i by omega]
  · subst h; simp [hi]
  · rw [show (1 : Nat).testBit (i - k) = false from by
      rw [show (1 : Nat) = 2 ^ 0 from rfl, Nat.testBit_two_pow]; exact decide_eq_false (by omega)]
    simp [show ¬ k = i by omega]
theorem and_two_pow (m k : Nat) : m &&& 2 ^ k = if m.testBit k then 2 ^ k else 0 := by
  apply Nat.eq_of_testBit_eq
  intro i
  rw [Nat.testBit_and, Nat.testBit_two_pow]
  by_cases e : k = i
  · subst e
    cases h : m.testBit k with
    | true => simp [Nat.testBit_two_pow]
    | false => simp
  · rw [decide_eq_false e, Bool.and_false]
    split
    · rw [Nat.testBit_two_pow, decide_eq_false e]
    · exact (Nat.zero_testBit _).symm
theorem wix_0 : ∀ k, k < 64 → zN k >>> (zN 6 &&& zN 31) = zN 0 := by decide +kernel
/-- a set of bits in one word -/
def BS1 (w : WH) (b ws m : Nat) (st : Int32) (nw : Nat) : Prop := (w.1 b = some (.inr (0, [.ref ws, .int (zN (if m = 0 then 0 else 1)), .int st])) ∧ (∃ g, w.1 ws = some (.inl (1, nw, .inr (.inl g))) ∧ g 0 = zJ m)) ∧ m < 2 ^ 63 ∧ 1 ≤ nw ∧ nw ≤ 65536
theorem c_inv {w : WH} {b ws m : Nat} {st : Int32} {nw : Nat} : fJ17_checkInvariants b w = some w := by
  have n1 : ¬ ((1 : Int32) = 0) := by decide
  simp only [fJ17_checkInvariants, fJ17_checkInvariants_b37, fJ17_checkInvariants_b70, n1, if_false]
theorem c_get {w : WH} {b ws m : Nat} {st : Int32} {nw : Nat} (h : BS1 w b ws m st nw) {k : Nat} (hk : k < 63) : fJ17_get b (zN k) w = some (zN (if m.testBit k then 1 else 0), w) := by
  obtain ⟨⟨h1, g, h2, h3⟩, h4, h5, h6⟩ := h
  have i1 : fJ17_checkInvariants b w = some w := c_inv (ws := 0) (m := 0) (st := 0) (nw := 0)
  have n0 : (zN 0 ≤ zN k) = True := by rw [zN_le (by omega) (by omega)]; exact eq_true (Nat.zero_le _)
  have e1 : (1 : Int64) <<< ((zN k).toInt64 &&& 63) = zJ ((2 ^ k : Nat) : Int) := zJ_shl1 (by omega)
  have eI : (gI w b 0 1) = some (zN (if m = 0 then 0 else 1)) := c_I h1 1
  have eR : gR w b 0 0 = some (some ws) := c_R h1 0
  by_cases hm : m = 0
  · have e2 : (zN (if m = 0 then 0 else 1) ≤ zN 0) = True := by rw [if_pos hm]; exact eq_true (by decide)
    rw [hm, Nat.zero_testBit]
    simp (disch := omega) only [b2_some, bd_some, nm_eq, Option.map_some, zN_lit, zN_add, zN_mul, zN_neg1, if_true, if_false, reduceIte, eq_self, Nat.reduceEqDiff, Nat.reduceAdd, Nat.reduceMul, Nat.reduceSub, Nat.reduceLeDiff, Nat.one_ne_zero, not_false_eq_true, Bool.false_eq_true, zN_eq, zN_lt, zN_le,  fJ17_get, n0, c_C h1, i1, fJ17_wordIndex, wix_0, eI, e2]
  · have e2 : (zN (if m = 0 then 0 else 1) ≤ zN 0) = False := by rw [if_neg hm]; exact eq_false (by decide)
    have hp : (2 : Nat) ^ k < 2 ^ 63 := Nat.pow_lt_pow_right (by omega) hk
    have e3 : (lg_cmp (zJ ((m &&& 2 ^ k : Nat) : Int)) (zJ 0) = zN 0) = (m.testBit k = false) := by
      rw [and_two_pow]
      have hpos := Nat.two_pow_pos k
      generalize 2 ^ k = P at hp hpos ⊢
      rw [lgc_eq (by unfold bJ; split <;> omega) (by unfold bJ; omega)]
      cases m.testBit k with
      | true => simp; omega
      | false => simp
    have e4 : ldJ w ws (zN 0) = some (zJ m) := by rw [c_ldJ h2 (by omega) h6, h3]
    have e5 : ∀ (x : Int64), lg_cmp x 0 = lg_cmp x (zJ 0) := fun _ => rfl
    cases ht : m.testBit k with
    | true =>
      rw [ht] at e3
      simp (disch := omega) only [b2_some, bd_some, nm_eq, Option.map_some, zN_lit, zN_add, zN_mul, zN_neg1, if_true, if_false, reduceIte, eq_self, Nat.reduceEqDiff, Nat.reduceAdd, Nat.reduceMul, Nat.reduceSub, Nat.reduceLeDiff, Nat.one_ne_zero, not_false_eq_true, Bool.false_eq_true, zN_eq, zN_lt, zN_le,  fJ17_get, n0, c_C h1, i1, fJ17_wordIndex, wix_0, eI, e2, eR, e4, e1, zJ_and, e5, e3, Bool.true_eq_false, fJ17_get_b63]
    | false =>
      rw [ht] at e3
      simp (disch := omega) only [b2_some, bd_some, nm_eq, Option.map_some, zN_lit, zN_add, zN_mul, zN_neg1, if_true, if_false, reduceIte, eq_self, Nat.reduceEqDiff, Nat.reduceAdd, Nat.reduceMul, Nat.reduceSub, Nat.reduceLeDiff, Nat.one_ne_zero, not_false_eq_true, Bool.false_eq_true, zN_eq, zN_lt, zN_le,  fJ17_get, n0, c_C h1, i1, fJ17_wordIndex, wix_0, eI, e2, eR, e4, e1, zJ_and, e5, e3, fJ17_get_b67]
theorem clm_lt (ρ : Nat → Nat) : clm ρ < 2 ^ 63 := Nat.lt_of_lt_of_le (msk_lt _ 24) (by decide)
theorem StC.bs {w : WH} {s q n : Nat} {ρ : Nat → Nat} (h : StC w s q n ρ) : BS1 w (q + 2) (q + 3) (clm ρ) 1 1 := by
  obtain ⟨h1, h2, h3, h4, g, h5, h6⟩ := h
  exact ⟨⟨h4, g, h5, h6⟩, clm_lt ρ, by omega, by omega⟩
section
variable {w : WH} {s q n : Nat} {ρ : Nat → Nat} {ν : NH}
theorem c_num (hN : NtC w ν ρ) {a : Nat} (ha : a < ρ 1) : fX8_number (nAr ν a) w = some (zN a, w) := by
  have e : gI w (nAr ν a) 27 0 = some (zN a) := c_I (hN.2.2.2.1 a ha) 0
  simp (disch := omega) only [b2_some, bd_some, nm_eq, Option.map_some, zN_lit, zN_add, zN_mul, zN_neg1, if_true, if_false, reduceIte, eq_self, Nat.reduceEqDiff, Nat.reduceAdd, Nat.reduceMul, Nat.reduceSub, Nat.reduceLeDiff, Nat.one_ne_zero, not_false_eq_true, Bool.false_eq_true, zN_eq, zN_lt, zN_le,  fX8_number, e]
theorem c_from (hN : NtC w ν ρ) {a : Nat} (ha : a < ρ 1) : fX8_from (nAr ν a) w = some (zN (aFr ρ a), w) := by
  have e : gI w (nAr ν a) 27 1 = some (zN (aFr ρ a)) := c_I (hN.2.2.2.1 a ha) 1
  simp (disch := omega) only [b2_some, bd_some, nm_eq, Option.map_some, zN_lit, zN_add, zN_mul, zN_neg1, if_true, if_false, reduceIte, eq_self, Nat.reduceEqDiff, Nat.reduceAdd, Nat.reduceMul, Nat.reduceSub, Nat.reduceLeDiff, Nat.one_ne_zero, not_false_eq_true, Bool.false_eq_true, zN_eq, zN_lt, zN_le,  fX8_from, e]
theorem c_to (hN : NtC w ν ρ) {a : Nat} (ha : a < ρ 1) : fX8_to (nAr ν a) w = some (zN (aTo ρ a), w) := by
  have e : gI w (nAr ν a) 27 2 = some (zN (aTo ρ a)) := c_I (hN.2.2.2.1 a ha) 2
  simp (disch := omega) only [b2_some, bd_some, nm_eq, Option.map_some, zN_lit, zN_add, zN_mul, zN_neg1, if_true, if_false, reduceIte, eq_self, Nat.reduceEqDiff, Nat.reduceAdd, Nat.reduceMul, Nat.reduceSub, Nat.reduceLeDiff, Nat.one_ne_zero, not_false_eq_true, Bool.false_eq_true, zN_eq, zN_lt, zN_le,  fX8_to, e]
theorem c_cost (hN : NtC w ν ρ) {a : Nat} (ha : a < ρ 1) : fX8_cost (nAr ν a) w = some (zN (aCo ρ a), w) := by
  have e : gI w (nAr ν a) 27 3 = some (zN (aCo ρ a)) := c_I (hN.2.2.2.1 a ha) 3
  simp (disch := omega) only [b2_some, bd_some, nm_eq, Option.map_some, zN_lit, zN_add, zN_mul, zN_neg1, if_true, if_false, reduceIte, eq_self, Nat.reduceEqDiff, Nat.reduceAdd, Nat.reduceMul, Nat.reduceSub, Nat.reduceLeDiff, Nat.one_ne_zero, not_false_eq_true, Bool.false_eq_true, zN_eq, zN_lt, zN_le,  fX8_cost, e]
theorem c_most (hN : NtC w ν ρ) {a : Nat} (ha : a < ρ 1) : fX8_most (nAr ν a) w = some (zN (aMx ρ a), w) := by
  have e : gI w (nAr ν a) 27 4 = some (zN (aMx ρ a)) := c_I (hN.2.2.2.1 a ha) 4
  simp (disch := omega) only [b2_some, bd_some, nm_eq, Option.map_some, zN_lit, zN_add, zN_mul, zN_neg1, if_true, if_false, reduceIte, eq_self, Nat.reduceEqDiff, Nat.reduceAdd, Nat.reduceMul, Nat.reduceSub, Nat.reduceLeDiff, Nat.one_ne_zero, not_false_eq_true, Bool.false_eq_true, zN_eq, zN_lt, zN_le,  fX8_most, e]
theorem c_aI (hN : NtC w ν ρ) {a : Nat} (ha : a < ρ 1) : hIs w (nAr ν a) 27 = some () := c_C (hN.2.2.2.1 a ha)
theorem c_tfrom (hN : NtC w ν ρ) {t : Nat} (ht : t < ρ 2) : fX9_from (nTr ν t) w = some (zN (pFr ρ t), w) := by
  have e : gI w (nTr ν t) 28 0 = some (zN (pFr ρ t)) := c_I (hN.2.2.2.2.2.2 t ht) 0
  simp (disch := omega) only [b2_some, bd_some, nm_eq, Option.map_some, zN_lit, zN_add, zN_mul, zN_neg1, if_true, if_false, reduceIte, eq_self, Nat.reduceEqDiff, Nat.reduceAdd, Nat.reduceMul, Nat.reduceSub, Nat.reduceLeDiff, Nat.one_ne_zero, not_false_eq_true, Bool.false_eq_true, zN_eq, zN_lt, zN_le,  fX9_from, e]
theorem c_tto (hN : NtC w ν ρ) {t : Nat} (ht : t < ρ 2) : fX9_to (nTr ν t) w = some (zN (pTo ρ t), w) := by
  have e : gI w (nTr ν t) 28 1 = some (zN (pTo ρ t)) := c_I (hN.2.2.2.2.2.2 t ht) 1
  simp (disch := omega) only [b2_some, bd_some, nm_eq, Option.map_some, zN_lit, zN_add, zN_mul, zN_neg1, if_true, if_false, reduceIte, eq_self, Nat.reduceEqDiff, Nat.reduceAdd, Nat.reduceMul, Nat.reduceSub, Nat.reduceLeDiff, Nat.one_ne_zero, not_false_eq_true, Bool.false_eq_true, zN_eq, zN_lt, zN_le,  fX9_to, e]
theorem c_tval (hN : NtC w ν ρ) {t : Nat} (ht : t < ρ 2) : fX9_value (nTr ν t) w = some (zN (pVa ρ t), w) := by
  have e : gI w (nTr ν t) 28 2 = some (zN (pVa ρ t)) := c_I (hN.2.2.2.2.2.2 t ht) 2
  simp (disch := omega) only [b2_some, bd_some, nm_eq, Option.map_some, zN_lit, zN_add, zN_mul, zN_neg1, if_true, if_false, reduceIte, eq_self, Nat.reduceEqDiff, Nat.reduceAdd, Nat.reduceMul, Nat.reduceSub, Nat.reduceLeDiff, Nat.one_ne_zero, not_false_eq_true, Bool.false_eq_true, zN_eq, zN_lt, zN_le,  fX9_value, e]
theorem c_tI (hN : NtC w ν ρ) {t : Nat} (ht : t < ρ 2) : hIs w (nTr ν t) 28 = some () := c_C (hN.2.2.2.2.2.2 t ht)
theorem c_sI (hS : StC w s q n ρ) : hIs w s 21 = some () := c_C hS.1
theorem c_toll (hS : StC w s q n ρ) (hN : NtC w ν ρ) (hI : Inv ρ) {a : Nat} (ha : a < ρ 1) : fX2_toll s (nAr ν a) w = some (zN (aTl ρ a), w) := by
  have b := hI.ha ha
  have e : gR w s 21 1 = some (some q) := c_R hS.1 1
  obtain ⟨f, h1, h2⟩ := hS.2.1
  have e2 : ldI w q 0 (zN a) = some (zN (aTl ρ a)) := by rw [c_ldI h1 (by omega) (by omega), h2 a (by omega)]
  simp (disch := omega) only [b2_some, bd_some, nm_eq, Option.map_some, zN_lit, zN_add, zN_mul, zN_neg1, if_true, if_false, reduceIte, eq_self, Nat.reduceEqDiff, Nat.reduceAdd, Nat.reduceMul, Nat.reduceSub, Nat.reduceLeDiff, Nat.one_ne_zero, not_false_eq_true, Bool.false_eq_true, zN_eq, zN_lt, zN_le,  fX2_toll, e, c_aI hN ha, c_num hN ha, e2]
theorem clm_bit (ρ : Nat → Nat) {a : Nat} (ha : a < 24) : (clm ρ).testBit a = (aCl ρ a == 1) := by
  unfold clm
  rw [msk_bit, decide_eq_true ha, Bool.true_and]
theorem c_open (hS : StC w s q n ρ) (hN : NtC w ν ρ) (hI : Inv ρ) {a : Nat} (ha : a < ρ 1) : fX2_isOpen s (nAr ν a) w = some (zN (if aCl ρ a = 0 then 1 else 0), w) := by
  have b := hI.ha ha
  have e : gR w s 21 3 = some (some (q + 2)) := c_R hS.1 3
  have e2 : hIs w (q + 2) 0 = some () := c_C hS.2.2.2.1
  have g := c_get hS.bs (k := a) (by omega)
  rw [clm_bit ρ (by omega)] at g
  by_cases c : aCl ρ a = 0
  · rw [if_pos c]
    rw [c] at g
    simp (disch := omega) only [b2_some, bd_some, nm_eq, Option.map_some, zN_lit, zN_add, zN_mul, zN_neg1, if_true, if_false, reduceIte, eq_self, Nat.reduceEqDiff, Nat.reduceAdd, Nat.reduceMul, Nat.reduceSub, Nat.reduceLeDiff, Nat.one_ne_zero, not_false_eq_true, Bool.false_eq_true, zN_eq, zN_lt, zN_le,  fX2_isOpen, e, c_aI hN ha, c_num hN ha, e2, g, show ((0 : Nat) == 1) = false from rfl]
  · rw [if_neg c]
    rw [show aCl ρ a = 1 by omega] at g
    simp (disch := omega) only [b2_some, bd_some, nm_eq, Option.map_some, zN_lit, zN_add, zN_mul, zN_neg1, if_true, if_false, reduceIte, eq_self, Nat.reduceEqDiff, Nat.reduceAdd, Nat.reduceMul, Nat.reduceSub, Nat.reduceLeDiff, Nat.one_ne_zero, not_false_eq_true, Bool.false_eq_true, zN_eq, zN_lt, zN_le,  fX2_isOpen, e, c_aI hN ha, c_num hN ha, e2, g, beq_self_eq_true]
theorem c_felt (hS : StC w s q n ρ) (hN : NtC w ν ρ) (hI : Inv ρ) {a t : Nat} (ha : a < ρ 1) (ht : t < ρ 2) : fX10_felt s (nAr ν a) (nTr ν t) w = some (zJ (feI ρ (pVa ρ t) a), w) := by
  have b := hI.ha ha
  have c := hI.ht ht
  have e : zJ (pVa ρ t) * zJ (aCo ρ a) + zJ (aTl ρ a) = zJ (feI ρ (pVa ρ t) a) := by
    rw [zJ_mul, zJ_add]
    unfold feI feN
    congr 1
  simp (disch := omega) only [b2_some, bd_some, nm_eq, Option.map_some, zN_lit, zN_add, zN_mul, zN_neg1, if_true, if_false, reduceIte, eq_self, Nat.reduceEqDiff, Nat.reduceAdd, Nat.reduceMul, Nat.reduceSub, Nat.reduceLeDiff, Nat.one_ne_zero, not_false_eq_true, Bool.false_eq_true, zN_eq, zN_lt, zN_le,  fX10_felt, c_tI hN ht, c_tval hN ht, c_aI hN ha, c_cost hN ha, c_sI hS, c_toll hS hN hI ha, zN_J, e]
theorem uT_c {a : Nat} : uT ρ 0 (-1) 0 a ↔ a < ρ 1 ∧ aCl ρ a = 0 := by
  unfold uT
  simp only [Nat.zero_testBit]
  constructor
  · rintro ⟨h1, -, -, -, h5, -⟩; exact ⟨h1, h5⟩
  · rintro ⟨h1, h5⟩; exact ⟨h1, by omega, trivial, trivial, h5, by omega⟩
theorem uT_cf {a : Nat} : uT ρ 0 (-1) 1 a ↔ a < ρ 1 ∧ aCl ρ a = 0 ∧ aMx ρ a = 0 := by
  unfold uT
  simp only [Nat.zero_testBit]
  constructor
  · rintro ⟨h1, -, -, -, h5, h6⟩; exact ⟨h1, h5, Nat.eq_zero_of_not_pos (fun h => h6 ⟨trivial, h⟩)⟩
  · rintro ⟨h1, h5, h6⟩; exact ⟨h1, by omega, trivial, trivial, h5, by omega⟩
/-- the weights, as the component's numbers -/
noncomputable def wgt (ρ : Nat → Nat) (t k a : Nat) : Option Int :=
  if k = 5 then wcd (uT ρ 0 (-1) 0) (feI ρ (pVa ρ t)) (tlI ρ) 10000000 (16 * sgn ρ) 1 a
  else if k = 6 then wcd (uT ρ 0 (-1) 0) (feI ρ (pVa ρ t)) (tlI ρ) 1 0 0 a
  else if k = 7 then wcd (uT ρ 0 (-1) 1) (feI (ztl ρ) (pVa ρ t)) (tlI (ztl ρ)) 1 0 0 a
  else wcd (uT ρ 0 (-1) 0) (feI (ztl ρ) (pVa ρ t)) (tlI (ztl ρ)) 1 0 0 a
/-- the four weight objects differ -/
def KD (K : Nat → Nat) : Prop := K 5 ≠ K 6 ∧ K 5 ≠ K 7 ∧ K 5 ≠ K 8 ∧ K 6 ≠ K 7 ∧ K 6 ≠ K 8 ∧ K 7 ≠ K 8
theorem c_w5 (hK : KD (wK w)) (hS : StC w s q n ρ) (hN : NtC w ν ρ) (hI : Inv ρ) {a t : Nat} (ha : a < ρ 1) (ht : t < ρ 2) : fWt (wK w 5) s (nAr ν a) (nTr ν t) w = some (zJ ((wgt ρ t 5 a).getD (-1)), w) := by
  have b := hI.ha ha
  have h3 := hI.h3
  have eo := c_open hS hN hI ha
  have e4 : gI w s 21 4 = some (zN (ρ 3)) := c_I hS.1 4
  unfold fWt wgt
  rw [if_pos rfl, if_pos rfl]
  by_cases c : aCl ρ a = 0
  · rw [if_pos c] at eo
    rw [wcd_pos (uT_c.mpr ⟨ha, c⟩), Option.getD_some]
    have m1 : (10000000 : Int64) * zJ (feI ρ (pVa ρ t) a) = zJ (10000000 * feI ρ (pVa ρ t) a) := by rw [show (10000000 : Int64) = zJ 10000000 from rfl, zJ_mul]
    by_cases h31 : ρ 3 = 1
    · have e5 : zJ (10000000 * feI ρ (pVa ρ t) a) + (16 : Int64) * (-(zN (aTl ρ a))).toInt64 + 1 = zJ (10000000 * feI ρ (pVa ρ t) a + 16 * sgn ρ * tlI ρ a + 1) := by
        have z1 : -(zN (aTl ρ a)) = zI (-(aTl ρ a : Int)) := zI_neg _
        rw [z1, zI_J (by omega), show (16 : Int64) = zJ 16 from rfl, show (1 : Int64) = zJ 1 from rfl, zJ_mul, zJ_add, zJ_add]
        unfold sgn tlI
        rw [if_pos h31]
        congr 1
        omega
      simp (disch := omega) only [b2_some, bd_some, nm_eq, Option.map_some, zN_lit, zN_add, zN_mul, zN_neg1, if_true, if_false, reduceIte, eq_self, Nat.reduceEqDiff, Nat.reduceAdd, Nat.reduceMul, Nat.reduceSub, Nat.reduceLeDiff, Nat.one_ne_zero, not_false_eq_true, Bool.false_eq_true, zN_eq, zN_lt, zN_le,  fX14_of, c_sI hS, eo, c_felt hS hN hI ha ht, e4, h31, c_toll hS hN hI ha, fX14_of_b46, m1, e5]
    · have h30 : ρ 3 = 0 := by omega
      have e5 : zJ (10000000 * feI ρ (pVa ρ t) a) + (16 : Int64) * (zN (aTl ρ a)).toInt64 + 1 = zJ (10000000 * feI ρ (pVa ρ t) a + 16 * sgn ρ * tlI ρ a + 1) := by
        rw [zN_J (by omega), show (16 : Int64) = zJ 16 from rfl, show (1 : Int64) = zJ 1 from rfl, zJ_mul, zJ_add, zJ_add]
        unfold sgn tlI
        rw [if_neg h31]
        congr 1
      simp (disch := omega) only [b2_some, bd_some, nm_eq, Option.map_some, zN_lit, zN_add, zN_mul, zN_neg1, if_true, if_false, reduceIte, eq_self, Nat.reduceEqDiff, Nat.reduceAdd, Nat.reduceMul, Nat.reduceSub, Nat.reduceLeDiff, Nat.one_ne_zero, not_false_eq_true, Bool.false_eq_true, zN_eq, zN_lt, zN_le,  fX14_of, c_sI hS, eo, c_felt hS hN hI ha ht, e4, h30, c_toll hS hN hI ha, fX14_of_b46, m1, e5]
  · rw [if_neg c] at eo
    rw [wcd_neg (fun h => c (uT_c.mp h).2), Option.getD_none]
    simp (disch := omega) only [b2_some, bd_some, nm_eq, Option.map_some, zN_lit, zN_add, zN_mul, zN_neg1, if_true, if_false, reduceIte, eq_self, Nat.reduceEqDiff, Nat.reduceAdd, Nat.reduceMul, Nat.reduceSub, Nat.reduceLeDiff, Nat.one_ne_zero, not_false_eq_true, Bool.false_eq_true, zN_eq, zN_lt, zN_le,  fX14_of, c_sI hS, eo]
    rfl
theorem c_w6 (hK : KD (wK w)) (hS : StC w s q n ρ) (hN : NtC w ν ρ) (hI : Inv ρ) {a t : Nat} (ha : a < ρ 1) (ht : t < ρ 2) : fWt (wK w 6) s (nAr ν a) (nTr ν t) w = some (zJ ((wgt ρ t 6 a).getD (-1)), w) := by
  have eo := c_open hS hN hI ha
  unfold fWt wgt
  rw [if_neg (Ne.symm hK.1), if_pos rfl, if_neg (by omega), if_pos rfl]
  by_cases c : aCl ρ a = 0
  · rw [if_pos c] at eo
    rw [wcd_pos (uT_c.mpr ⟨ha, c⟩), Option.getD_some]
    have e5 : 1 * feI ρ (pVa ρ t) a + 0 * tlI ρ a + 0 = feI ρ (pVa ρ t) a := by omega
    rw [e5]
    simp (disch := omega) only [b2_some, bd_some, nm_eq, Option.map_some, zN_lit, zN_add, zN_mul, zN_neg1, if_true, if_false, reduceIte, eq_self, Nat.reduceEqDiff, Nat.reduceAdd, Nat.reduceMul, Nat.reduceSub, Nat.reduceLeDiff, Nat.one_ne_zero, not_false_eq_true, Bool.false_eq_true, zN_eq, zN_lt, zN_le,  fX15_of, c_sI hS, eo, c_felt hS hN hI ha ht]
  · rw [if_neg c] at eo
    rw [wcd_neg (fun h => c (uT_c.mp h).2), Option.getD_none]
    simp (disch := omega) only [b2_some, bd_some, nm_eq, Option.map_some, zN_lit, zN_add, zN_mul, zN_neg1, if_true, if_false, reduceIte, eq_self, Nat.reduceEqDiff, Nat.reduceAdd, Nat.reduceMul, Nat.reduceSub, Nat.reduceLeDiff, Nat.one_ne_zero, not_false_eq_true, Bool.false_eq_true, zN_eq, zN_lt, zN_le,  fX15_of, c_sI hS, eo]
    rfl
theorem c_w26 (hN : NtC w ν ρ) (hI : Inv ρ) {a t : Nat} (ha : a < ρ 1) (ht : t < ρ 2) : fX16_of_b26 (nAr ν a) (nTr ν t) w = some (zJ (1 * feI (ztl ρ) (pVa ρ t) a + 0 * tlI (ztl ρ) a + 0), w) := by
  have b := hI.ha ha
  have c := hI.ht ht
  have e : zJ (pVa ρ t) * zJ (aCo ρ a) = zJ (1 * feI (ztl ρ) (pVa ρ t) a + 0 * tlI (ztl ρ) a + 0) := by
    rw [zJ_mul]
    unfold feI feN
    rw [ztl_C, ztl_L ρ a (by omega)]
    congr 1
    simp
  simp (disch := omega) only [b2_some, bd_some, nm_eq, Option.map_some, zN_lit, zN_add, zN_mul, zN_neg1, if_true, if_false, reduceIte, eq_self, Nat.reduceEqDiff, Nat.reduceAdd, Nat.reduceMul, Nat.reduceSub, Nat.reduceLeDiff, Nat.one_ne_zero, not_false_eq_true, Bool.false_eq_true, zN_eq, zN_lt, zN_le,  fX16_of_b26, c_tI hN ht, c_tval hN ht, c_aI hN ha, c_cost hN ha, zN_J, e]
theorem c_w7 (hK : KD (wK w)) (hS : StC w s q n ρ) (hN : NtC w ν ρ) (hI : Inv ρ) {a t : Nat} (ha : a < ρ 1) (ht : t < ρ 2) : fWt (wK w 7) s (nAr ν a) (nTr ν t) w = some (zJ ((wgt ρ t 7 a).getD (-1)), w) := by
  have b := hI.ha ha
  have eo := c_open hS hN hI ha
  have ew : wTo (wK w) (wK w 7) = some (zN 0) := if_pos rfl
  unfold fWt wgt
  rw [if_neg (Ne.symm hK.2.1), if_neg (Ne.symm hK.2.2.2.1), if_pos rfl, if_neg (by omega), if_neg (by omega), if_pos rfl]
  by_cases c : aCl ρ a = 0
  · rw [if_pos c] at eo
    by_cases c2 : aMx ρ a = 0
    · rw [wcd_pos (uT_cf.mpr ⟨ha, c, c2⟩), Option.getD_some]
      simp (disch := omega) only [b2_some, bd_some, nm_eq, Option.map_some, zN_lit, zN_add, zN_mul, zN_neg1, if_true, if_false, reduceIte, eq_self, Nat.reduceEqDiff, Nat.reduceAdd, Nat.reduceMul, Nat.reduceSub, Nat.reduceLeDiff, Nat.one_ne_zero, not_false_eq_true, Bool.false_eq_true, zN_eq, zN_lt, zN_le,  fX16_of, c_sI hS, eo, ew, c_aI hN ha, c_most hN ha, c2, Nat.le_refl, c_w26 hN hI ha ht]
    · rw [wcd_neg (fun h => c2 (uT_cf.mp h).2.2), Option.getD_none]
      have n2 : ¬ (aMx ρ a ≤ 0) := by omega
      simp (disch := omega) only [b2_some, bd_some, nm_eq, Option.map_some, zN_lit, zN_add, zN_mul, zN_neg1, if_true, if_false, reduceIte, eq_self, Nat.reduceEqDiff, Nat.reduceAdd, Nat.reduceMul, Nat.reduceSub, Nat.reduceLeDiff, Nat.one_ne_zero, not_false_eq_true, Bool.false_eq_true, zN_eq, zN_lt, zN_le,  fX16_of, c_sI hS, eo, ew, c_aI hN ha, c_most hN ha, n2, fX16_of_b22]
      rfl
  · rw [if_neg c] at eo
    rw [wcd_neg (fun h => c (uT_cf.mp h).2.1), Option.getD_none]
    simp (disch := omega) only [b2_some, bd_some, nm_eq, Option.map_some, zN_lit, zN_add, zN_mul, zN_neg1, if_true, if_false, reduceIte, eq_self, Nat.reduceEqDiff, Nat.reduceAdd, Nat.reduceMul, Nat.reduceSub, Nat.reduceLeDiff, Nat.one_ne_zero, not_false_eq_true, Bool.false_eq_true, zN_eq, zN_lt, zN_le,  fX16_of, c_sI hS, eo, fX16_of_b22]
    rfl
theorem c_w8 (hK : KD (wK w)) (hS : StC w s q n ρ) (hN : NtC w ν ρ) (hI : Inv ρ) {a t : Nat} (ha : a < ρ 1) (ht : t < ρ 2) : fWt (wK w 8) s (nAr ν a) (nTr ν t) w = some (zJ ((wgt ρ t 8 a).getD (-1)), w) := by
  have eo := c_open hS hN hI ha
  have ew : wTo (wK w) (wK w 8) = some (zN 1) := by
    unfold wTo
    rw [if_neg (Ne.symm hK.2.2.2.2.2), if_pos rfl]
    rfl
  unfold fWt wgt
  rw [if_neg (Ne.symm hK.2.2.1), if_neg (Ne.symm hK.2.2.2.2.1), if_neg (Ne.symm hK.2.2.2.2.2), if_pos rfl, if_neg (by omega), if_neg (by omega), if_neg (by omega)]
  by_cases c : aCl ρ a = 0
  · rw [if_pos c] at eo
    rw [wcd_pos (uT_c.mpr ⟨ha, c⟩), Option.getD_some]
    simp (disch := omega) only [b2_some, bd_some, nm_eq, Option.map_some, zN_lit, zN_add, zN_mul, zN_neg1, if_true, if_false, reduceIte, eq_self, Nat.reduceEqDiff, Nat.reduceAdd, Nat.reduceMul, Nat.reduceSub, Nat.reduceLeDiff, Nat.one_ne_zero, not_false_eq_true, Bool.false_eq_true, zN_eq, zN_lt, zN_le,  fX16_of, c_sI hS, eo, ew, c_w26 hN hI ha ht]
  · rw [if_neg c] at eo
    rw [wcd_neg (fun h => c (uT_c.mp h).2), Option.getD_none]
    simp (disch := omega) only [b2_some, bd_some, nm_eq, Option.map_some, zN_lit, zN_add, zN_mul, zN_neg1, if_true, if_false, reduceIte, eq_self, Nat.reduceEqDiff, Nat.reduceAdd, Nat.reduceMul, Nat.reduceSub, Nat.reduceLeDiff, Nat.one_ne_zero, not_false_eq_true, Bool.false_eq_true, zN_eq, zN_lt, zN_le,  fX16_of, c_sI hS, eo, fX16_of_b22]
    rfl
end
