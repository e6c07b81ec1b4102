/-! Plain law: BitSets -/
theorem zN_shr6 {m : Nat} (hm : m < 2147483648) : zN m >>> ((6 : Int32) &&& 31) = zN (m / 64) := zN_ext fun i hi => by
  have hge : ∀ j, 31 ≤ j → m.testBit j = false := fun j hj => Nat.testBit_lt_two_pow (Nat.lt_of_lt_of_le hm (Nat.pow_le_pow_right (by omega) hj : 2 ^ 31 ≤ 2 ^ j))
  rw [Int32.toBitVec_shiftRight]
  show ((zN m).toBitVec.sshiftRight ((zN 6 &&& 31).toBitVec.smod 32).toNat).getLsbD i = _
  rw [zN_sh 6 (by omega), BitVec.getLsbD_sshiftRight, BitVec.msb_eq_getLsbD_last, zN_gb _ hi, zN_gb m (i := 32 - 1) (by omega), show (64 : Nat) = 2 ^ 6 from rfl, Nat.testBit_div_two_pow]
  rw [decide_eq_false (show ¬ 32 ≤ i by omega), Bool.not_false, Bool.true_and]
  by_cases h : 6 + i < 32
  · rw [if_pos h, zN_gb m h, Nat.add_comm]
  · rw [if_neg h, hge _ (by omega), hge _ (by omega)]
theorem zJ_m63 : ∀ k, k < 64 → ((zJ ((k : Nat) : Int)).toBitVec.smod 64).toNat = k := by decide +kernel
theorem zJ_amt {f : Nat} (hf : f < 2147483648) : (((zN f).toInt64 &&& 63).toBitVec.smod 64).toNat = f % 64 := by
  rw [zN_J hf, show (63 : Int64) = zJ ((63 : Nat) : Int) from rfl, zJ_and, show (63 : Nat) = 2 ^ 6 - 1 from rfl, Nat.and_two_pow_sub_one_eq_mod, zJ_m63 _ (by omega)]
theorem zJ_shlm {f v : Nat} (hf : f < 2147483648) (hv : v < 2 ^ 64) : zJ v &&& ((-1 : Int64) <<< ((zN f).toInt64 &&& 63)) = zJ ((2 ^ (f % 64) * (v / 2 ^ (f % 64)) : Nat) : Int) := zJ_ext fun i hi => by
  rw [Int64.toBitVec_and, BitVec.getLsbD_and, zJ_gb _ hi, zJ_gb _ hi, Int64.toBitVec_shiftLeft]
  show (_ && ((-1 : Int64).toBitVec <<< (((zN f).toInt64 &&& 63).toBitVec.smod 64).toNat).getLsbD i) = _
  rw [zJ_amt hf, BitVec.getLsbD_shiftLeft, show (-1 : Int64).toBitVec = BitVec.allOnes 64 from by decide, BitVec.getLsbD_allOnes, Nat.testBit_two_pow_mul, Nat.testBit_div_two_pow, decide_eq_true hi, Bool.true_and]
  by_cases h : i < f % 64
  · rw [decide_eq_true h, decide_eq_false (show ¬ i ≥ f % 64 by omega)]
    simp
  · rw [decide_eq_false h, decide_eq_true (show i ≥ f % 64 by omega), decide_eq_true (show i - f % 64 < 64 by omega), show i - f % 64 + f % 64 = i by omega]
    simp
theorem toJ_rng (v : Int64) : bJ v.toInt := ⟨Int64.le_toInt v, Int64.toInt_lt v⟩
theorem zJ_of (v : Int64) : v = zJ v.toInt := (Int64.ofInt_toInt v).symm
theorem zJ_z {v : Nat} (hv : v < 2 ^ 64) : (zJ v = 0) = (v = 0) := by
  apply propext
  constructor
  · intro e
    apply Nat.eq_of_testBit_eq
    intro i
    rw [Nat.zero_testBit]
    by_cases hi : i < 64
    · have := congrArg (fun z => z.toBitVec.getLsbD i) e
      rw [zJ_gb v hi, show (0 : Int64) = zJ ((0 : Nat) : Int) from rfl, zJ_gb 0 hi, Nat.zero_testBit] at this
      exact this
    · exact Nat.testBit_lt_two_pow (Nat.lt_of_lt_of_le hv (Nat.pow_le_pow_right (by omega) (by omega)))
  · rintro rfl
    rfl
theorem lgc_z {v : Nat} (hv : v < 2 ^ 64) : (lg_cmp (zJ v) 0 = zN 0) = (v = 0) := by
  rw [zJ_of (zJ v), show (0 : Int64) = zJ 0 from rfl, lgc_eq (toJ_rng _) ⟨by decide, by decide⟩, ← zJ_z hv]
  apply propext
  constructor
  · intro e
    rw [zJ_of (zJ v), e]
    rfl
  · intro e
    rw [e]
    rfl
def bsC (ws u : Nat) (st : Int32) : hE := .inr (0, [.ref ws, .int (zN u), .int st])
def lngC (n : Nat) (g : Nat → Int64) : hE := .inl (1, n, .inr (.inl g))
def BSn (w : WH) (b ws nw u : Nat) (W : Nat → Nat) (st : Int32) : Prop := w.1 b = some (bsC ws u st) ∧ (∃ g, w.1 ws = some (lngC nw g) ∧ ∀ k, k < nw → g k = zJ (W k)) ∧ u ≤ nw ∧ nw ≤ 1024 ∧ (∀ k, u ≤ k → W k = 0) ∧ (0 < u → W (u - 1) ≠ 0) ∧ ∀ k, W k < 2 ^ 64
def bit (W : Nat → Nat) (i : Nat) : Bool := (W (i / 64)).testBit (i % 64)
/-- the next bit -/
def NxB (P : Nat → Bool) (f : Nat) (r : Int) : Prop := (r = -1 ∧ ∀ i, f ≤ i → P i = false) ∨ ∃ i : Nat, r = i ∧ f ≤ i ∧ P i = true ∧ ∀ j, f ≤ j → j < i → P j = false
theorem NxB.uniq {P : Nat → Bool} {f : Nat} {r r' : Int} (h : NxB P f r) (h' : NxB P f r') : r = r' := by
  rcases h with ⟨h1, h2⟩ | ⟨i, h1, h2, h3, h4⟩
  · rcases h' with ⟨g1, g2⟩ | ⟨j, g1, g2, g3, g4⟩
    · omega
    · rw [h2 j g2] at g3; cases g3
  · rcases h' with ⟨g1, g2⟩ | ⟨j, g1, g2, g3, g4⟩
    · rw [g2 i h2] at h3; cases h3
    · rcases Nat.lt_trichotomy i j with e | e | e
      · rw [g4 i h2 e] at h3; cases h3
      · omega
      · rw [h4 j g2 e] at g3; cases g3
section
variable {w : WH} {b ws nw u : Nat} {W : Nat → Nat} {st : Int32}
theorem BSn.ld (h : BSn w b ws nw u W st) {k : Nat} (hk : k < nw) : ldJ w ws (zN k) = some (zJ (W k)) := by
  obtain ⟨h1, ⟨g, h2, h3⟩, h4, h5, -⟩ := h
  rw [c_ldJ h2 hk (by omega), h3 k hk]
theorem bs_inv (w : WH) (b : Nat) : fJ17_checkInvariants b w = some w := c_inv (ws := 0) (m := 0) (st := 0) (nw := 0)
theorem BSn.hi (h : BSn w b ws nw u W st) {i : Nat} (hi : 64 * u ≤ i) : bit W i = false := by
  unfold bit
  rw [h.2.2.2.2.1 (i / 64) (by omega), Nat.zero_testBit]
theorem c_nsb (h : BSn w b ws nw u W st) {f : Nat} (hf : f < 1000000) : ∃ r : Int, fJ17_nextSetBit b (zN f) w = some (zI r, w) ∧ NxB (bit W) f r ∧ (r = -1 ∨ ∃ i : Nat, r = i ∧ i < 64 * u) := by
  have hu : u ≤ 1024 := Nat.le_trans h.2.2.1 h.2.2.2.1
  have hn : nw ≤ 1024 := h.2.2.2.1
  have hle := h.2.2.1
  have hW := h.2.2.2.2.2.2
  have r1 : hIs w b 0 = some () := c_C h.1
  have r2 : gI w b 0 1 = some (zN u) := c_I h.1 1
  have r3 : gR w b 0 0 = some (some ws) := c_R h.1 0
  have n0 : zN 0 ≤ zN f := by rw [zN_le (by omega) (by omega)]; omega
  have s6 : zN f >>> (zN 6 &&& zN 31) = zN (f / 64) := zN_shr6 (by omega)
  have n1 : (zN (f / 64) < zN u) = (f / 64 < u) := zN_lt (by omega) (by omega)
  by_cases c : f / 64 < u
  · have hld := h.ld (k := f / 64) (by omega)
    have hsh := zJ_shlm (f := f) (by omega) (hW (f / 64))
    have H : ∃ x, fJ17_nextSetBit_l63 b (zN (f / 64)) (zJ ((2 ^ (f % 64) * (W (f / 64) / 2 ^ (f % 64)) : Nat) : Int)) w = some x ∧ ∃ r : Int, x = (zI r, w) ∧ NxB (bit W) f r ∧ (r = -1 ∨ ∃ i : Nat, r = i ∧ i < 64 * u) := by
      refine wh_dn (P := fun m y => ∃ k v, y = (zN k, zJ ((v : Nat) : Int), w) ∧ m = u - k ∧ (k < u ∧ f / 64 ≤ k) ∧ v < 2 ^ 64 ∧ (∀ j, j < 64 → v.testBit j = (decide (f ≤ 64 * k + j) && bit W (64 * k + j))) ∧ ∀ j, f ≤ j → j < 64 * k → bit W j = false) ?_ (u - f / 64) _ ⟨f / 64, _, rfl, rfl, ⟨c, Nat.le_refl _⟩, ?_, ?_, fun j h1 h2 => by omega⟩
      · rintro m y ⟨k, v, rfl, rfl, ⟨hk, hfk⟩, hv, hb, hlow⟩
        have hz := lgc_z hv
        have n2 : (zN (k + 1) = zN u) = (k + 1 = u) := zN_eq (by omega) (by omega)
        by_cases hv0 : v = 0
        · have hnone : ∀ j, f ≤ j → j < 64 * (k + 1) → bit W j = false := fun j h1 h2 => by
            by_cases hj : j < 64 * k
            · exact hlow j h1 hj
            · have := hb (j - 64 * k) (by omega)
              rw [hv0, Nat.zero_testBit, show 64 * k + (j - 64 * k) = j by omega, decide_eq_true h1, Bool.true_and] at this
              exact this.symm
          rw [eq_true hv0] at hz
          by_cases he : k + 1 = u
          · right
            refine ⟨_, ?_, -1, rfl, .inl ⟨rfl, fun i hi => ?_⟩, .inl rfl⟩
            · simp (disch := omega) only [b2_some, bd_some, nm_eq, Option.map_some, zN_lit, zN_add, zN_mul, zN_neg1, if_true, if_false, reduceIte, eq_self, Nat.reduceEqDiff, Nat.reduceAdd, Nat.reduceMul, Nat.reduceSub, Nat.reduceLeDiff, Nat.one_ne_zero, not_false_eq_true, Bool.false_eq_true, zN_eq, zN_lt, zN_le,  fJ17_nextSetBit_b63, hz, r2, he]
            · by_cases hj : i < 64 * (k + 1)
              · exact hnone i hi hj
              · exact h.hi (by omega)
          · left
            refine ⟨(zN (k + 1), zJ ((W (k + 1) : Nat) : Int), w), u - (k + 1), by omega, ?_, k + 1, _, rfl, rfl, ⟨by omega, by omega⟩, hW _, fun j hj => ?_, hnone⟩
            · simp (disch := omega) only [b2_some, bd_some, nm_eq, Option.map_some, zN_lit, zN_add, zN_mul, zN_neg1, if_true, if_false, reduceIte, eq_self, Nat.reduceEqDiff, Nat.reduceAdd, Nat.reduceMul, Nat.reduceSub, Nat.reduceLeDiff, Nat.one_ne_zero, not_false_eq_true, Bool.false_eq_true, zN_eq, zN_lt, zN_le,  fJ17_nextSetBit_b63, hz, r2, he, r3, h.ld (k := k + 1) (by omega)]
            · unfold bit
              rw [show (64 * (k + 1) + j) / 64 = k + 1 by omega, show (64 * (k + 1) + j) % 64 = j by omega, decide_eq_true (show f ≤ 64 * (k + 1) + j by omega), Bool.true_and]
        · right
          rw [eq_false hv0] at hz
          obtain ⟨p, c', hp, hvp⟩ := low_bit 64 v hv hv0
          have ht := low_tb (k := p) (c := c')
          rw [← hvp] at ht
          have hnt := c_ntz (w := w) (k := p) (c := c') hp (by rw [← hvp]; exact hv)
          rw [← hvp] at hnt
          have hbp := hb p hp
          rw [ht.1] at hbp
          have hbp' := (Bool.and_eq_true _ _).mp hbp.symm
          refine ⟨_, ?_, ((64 * k + p : Nat) : Int), rfl, .inr ⟨64 * k + p, rfl, of_decide_eq_true hbp'.1, hbp'.2, fun j h1 h2 => ?_⟩, .inr ⟨64 * k + p, rfl, by omega⟩⟩
          · simp (disch := omega) only [b2_some, bd_some, nm_eq, Option.map_some, zN_lit, zN_add, zN_mul, zN_neg1, if_true, if_false, reduceIte, eq_self, Nat.reduceEqDiff, Nat.reduceAdd, Nat.reduceMul, Nat.reduceSub, Nat.reduceLeDiff, Nat.one_ne_zero, not_false_eq_true, Bool.false_eq_true, zN_eq, zN_lt, zN_le,  fJ17_nextSetBit_b63, hz, fJ17_nextSetBit_b69, hnt, Option.map]
            rw [Nat.mul_comm]
            rfl
          · by_cases hj : j < 64 * k
            · exact hlow j h1 hj
            · have := hb (j - 64 * k) (by omega)
              rw [ht.2 _ (by omega), show 64 * k + (j - 64 * k) = j by omega, decide_eq_true h1, Bool.true_and] at this
              exact this.symm
      · have := hW (f / 64)
        exact Nat.lt_of_le_of_lt (Nat.mul_div_le _ _) this
      · intro j hj
        unfold bit
        rw [Nat.testBit_two_pow_mul, Nat.testBit_div_two_pow, show (64 * (f / 64) + j) / 64 = f / 64 by omega, show (64 * (f / 64) + j) % 64 = j by omega]
        by_cases e : j ≥ f % 64
        · rw [decide_eq_true e, decide_eq_true (show f ≤ 64 * (f / 64) + j by omega), show j - f % 64 + f % 64 = j by omega]
        · rw [decide_eq_false e, decide_eq_false (show ¬ f ≤ 64 * (f / 64) + j by omega)]
          rfl
    obtain ⟨x, e, r, rfl, H⟩ := H
    refine ⟨r, ?_, H⟩
    have m1 : (-1 : Int64) = -1 := rfl
    unfold fJ17_nextSetBit
    simp only [show (0 : Int32) = zN 0 from rfl, if_pos n0, r1, bd_some, bs_inv, fJ17_wordIndex, b2_some, show (6 : Int32) = zN 6 from rfl, show (31 : Int32) = zN 31 from rfl, s6, r2, eq_true (n1.mpr c), if_true, r3, hld, nm_eq, hsh]
    exact e
  · refine ⟨-1, ?_, .inl ⟨rfl, fun i hi => h.hi (by omega)⟩, .inl rfl⟩
    unfold fJ17_nextSetBit
    simp only [show (0 : Int32) = zN 0 from rfl, if_pos n0, r1, bd_some, bs_inv, fJ17_wordIndex, b2_some, show (6 : Int32) = zN 6 from rfl, show (31 : Int32) = zN 31 from rfl, s6, r2, eq_false (fun e => c (n1.mp e)), if_false]
    rfl
theorem c_card (h : BSn w b ws nw u W st) : fJ17_cardinality b w = some (zN (cnB (bit W) (64 * u)), w) := by
  have hu : u ≤ 1024 := Nat.le_trans h.2.2.1 h.2.2.2.1
  have hle := h.2.2.1
  have hW := h.2.2.2.2.2.2
  have r2 : gI w b 0 1 = some (zN u) := c_I h.1 1
  have r3 : gR w b 0 0 = some (some ws) := c_R h.1 0
  have hcn : ∀ n P, cnB P n ≤ n := fun n P => by
    induction n with
    | zero => exact Nat.le_refl _
    | succ n ih => unfold cnB; split <;> omega
  refine wh_run (fun i => (zN (cnB (bit W) (64 * i)), zN i, w)) u _ (fun i hi => ?_) ?_ u 0 (by omega)
  · have n1 : ¬ (u ≤ i) := by omega
    have e : cnB (bit W) (64 * (i + 1)) = cnB (bit W) (64 * i) + cnB (W i).testBit 64 := by
      rw [show 64 * (i + 1) = 64 * i + 64 by omega, cnB_add]
      congr 1
      refine cnB_congr 64 fun j hj => ?_
      unfold bit
      rw [show (64 * i + j) / 64 = i by omega, show (64 * i + j) % 64 = j by omega]
    rw [e]
    simp (disch := omega) only [b2_some, bd_some, nm_eq, Option.map_some, zN_lit, zN_add, zN_mul, zN_neg1, if_true, if_false, reduceIte, eq_self, Nat.reduceEqDiff, Nat.reduceAdd, Nat.reduceMul, Nat.reduceSub, Nat.reduceLeDiff, Nat.one_ne_zero, not_false_eq_true, Bool.false_eq_true, zN_eq, zN_lt, zN_le,  fJ17_cardinality_b4, r2, n1, r3, h.ld (k := i) (by omega), c_bitc (hW i)]
  · simp (disch := omega) only [b2_some, bd_some, nm_eq, Option.map_some, zN_lit, zN_add, zN_mul, zN_neg1, if_true, if_false, reduceIte, eq_self, Nat.reduceEqDiff, Nat.reduceAdd, Nat.reduceMul, Nat.reduceSub, Nat.reduceLeDiff, Nat.one_ne_zero, not_false_eq_true, Bool.false_eq_true, zN_eq, zN_lt, zN_le,  fJ17_cardinality_b4, r2, Nat.le_refl]
end
