/-! Plain law: BitSets of one word -/
theorem hUp_comm (w : WH) {a b : Nat} (h : a ≠ b) (x y : hE) : hUp (hUp w a x) b y = hUp (hUp w b y) a x := by
  unfold hUp va_up
  congr 1
  funext j
  dsimp only
  by_cases e : j = a
  · rw [if_pos e, if_neg (by omega), if_pos e]
  · rw [if_neg e, if_neg e]
theorem vpL_0 (g : Nat → Int64) (k : Nat) (x : Int64) : vp_updL g k x k = x := if_pos rfl
theorem vpL_vpL (g : Nat → Int64) (k : Nat) (x y : Int64) : vp_updL (vp_updL g k x) k y = vp_updL g k y := by
  funext j
  unfold vp_updL
  by_cases e : j = k
  · rw [if_pos e, if_pos e]
  · rw [if_neg e, if_neg e, if_neg e]
theorem vpL_self {g : Nat → Int64} {k : Nat} {x : Int64} (h : g k = x) : vp_updL g k x = g := by
  funext j
  unfold vp_updL
  by_cases e : j = k
  · rw [if_pos e, e, h]
  · rw [if_neg e]
def uM (m : Nat) : Nat := if m = 0 then 0 else 1
def bU (w : WH) (b ws : Nat) (g : Nat → Int64) (m : Nat) (st : Int32) : WH := hUp (hUp w b (bsC ws (uM m) st)) ws (lngC 1 (vp_updL g 0 (zJ m)))
def Bs (w : WH) (b ws : Nat) (g : Nat → Int64) (m : Nat) (st : Int32) : Prop := w.1 b = some (bsC ws (uM m) st) ∧ w.1 ws = some (lngC 1 g) ∧ g 0 = zJ m ∧ m < 2 ^ 63
def clr (m k : Nat) : Nat := m ^^^ (m &&& 2 ^ k)
theorem clr_bit (m k i : Nat) : (clr m k).testBit i = (m.testBit i && !(i == k)) := by
  unfold clr
  rw [Nat.testBit_xor, Nat.testBit_and, Nat.testBit_two_pow]
  by_cases e : k = i
  · subst e
    cases m.testBit k <;> simp
  · rw [decide_eq_false e, show (i == k) = false from beq_false_of_ne (fun h => e h.symm)]
    cases m.testBit i <;> rfl
theorem lt_bits {m n : Nat} (h : ∀ i, n ≤ i → m.testBit i = false) : m < 2 ^ n := Nat.lt_pow_two_of_testBit m h
theorem clr_lt {m n : Nat} (h : m < 2 ^ n) (k : Nat) : clr m k < 2 ^ n := lt_bits fun i hi => by
  rw [clr_bit, Nat.testBit_lt_two_pow (Nat.lt_of_lt_of_le h (Nat.pow_le_pow_right (by omega) hi)), Bool.false_and]
theorem orb_lt {m n k : Nat} (h : m < 2 ^ n) (hk : k < n) : m ||| 2 ^ k < 2 ^ n := Nat.or_lt_two_pow h (Nat.pow_lt_pow_right (by omega) hk)
theorem or_ne (m k : Nat) : m ||| 2 ^ k ≠ 0 := fun h => by
  have := congrArg (fun z => z.testBit k) h
  rw [Nat.testBit_or, Nat.testBit_two_pow_self, Bool.or_true, Nat.zero_testBit] at this
  cases this
section
variable {w : WH} {b ws m m' k : Nat} {g : Nat → Int64} {st : Int32}
theorem Bs.ne (h : Bs w b ws g m st) : b ≠ ws := fun e => by
  have h1 := h.1
  rw [e, h.2.1] at h1
  cases h1
theorem bs_bU (h : Bs w b ws g m st) (hm : m' < 2 ^ 63) : Bs (bU w b ws g m' st) b ws (vp_updL g 0 (zJ m')) m' st := by
  refine ⟨?_, hUp_eq _ _ _, vpL_0 _ _ _, hm⟩
  unfold bU
  rw [hUp_ne _ _ h.ne, hUp_eq]
theorem Bs.bU (h : Bs w b ws g m st) (hm : m' < 2 ^ 63) : Bs (bU w b ws g m' st) b ws (vp_updL g 0 (zJ m')) m' st := bs_bU h hm
theorem bU_bU (h : b ≠ ws) (m1 m2 : Nat) : bU (bU w b ws g m1 st) b ws (vp_updL g 0 (zJ m1)) m2 st = bU w b ws g m2 st := by
  unfold bU
  rw [vpL_vpL, hUp_comm (hUp w b (bsC ws (uM m1) st)) (Ne.symm h), hUp_hUp, hUp_hUp]
theorem bU_self (h : Bs w b ws g m st) : bU w b ws g m st = w := by
  unfold bU
  rw [hUp_self h.1, vpL_self h.2.2.1, hUp_self h.2.1]
theorem Bs.n (h : Bs w b ws g m st) : BSn w b ws 1 (uM m) (fun k => if k = 0 then m else 0) st := by
  refine ⟨h.1, ⟨g, h.2.1, fun k hk => ?_⟩, ?_, by omega, fun k hk => ?_, fun hk => ?_, fun k => ?_⟩
  · have : k = 0 := by omega
    subst this
    exact h.2.2.1
  · unfold uM; split <;> omega
  · unfold uM at hk
    dsimp only
    by_cases e : m = 0
    · rw [e]; split <;> rfl
    · rw [if_neg e] at hk
      rw [if_neg (by omega)]
  · unfold uM at hk ⊢
    by_cases e : m = 0
    · rw [if_pos e] at hk; omega
    · rw [if_neg e]; exact e
  · dsimp only
    have := h.2.2.2
    split
    · exact Nat.lt_of_lt_of_le this (by decide)
    · decide
theorem bit_1 (hm : m < 2 ^ 63) (i : Nat) : bit (fun k => if k = 0 then m else 0) i = m.testBit i := by
  unfold bit
  dsimp only
  by_cases e : i / 64 = 0
  · rw [if_pos e, show i % 64 = i by omega]
  · rw [if_neg e, Nat.zero_testBit, Nat.testBit_lt_two_pow (Nat.lt_of_lt_of_le hm (Nat.pow_le_pow_right (by omega) (by omega)))]
theorem Bs.ld (h : Bs w b ws g m st) : ldJ w ws (zN 0) = some (zJ m) := by rw [c_ldJ h.2.1 (by omega) (by omega), h.2.2.1]
theorem c_set1 (h : Bs w b ws g m st) (hk : k < 63) : fJ17_set_3 b (zN k) w = some (bU w b ws g (m ||| 2 ^ k) st) := by
  have hne := h.ne
  have n0 : zN 0 ≤ zN k := by rw [zN_le (by omega) (by omega)]; omega
  have s6 : zN k >>> (zN 6 &&& zN 31) = zN (k / 64) := zN_shr6 (by omega)
  rw [show k / 64 = 0 by omega] at s6
  have r1 : hIs w b 0 = some () := c_C h.1
  have r2 : gI w b 0 1 = some (zN (uM m)) := c_I h.1 1
  have r3 : gR w b 0 0 = some (some ws) := c_R h.1 0
  have r4 : aLn w ws = some (zN 1) := c_len h.2.1 (show 1 < 6 by decide)
  have p1 : hPut w b 0 1 (.int (zN 1)) = some (hUp w b (bsC ws 1 st)) := c_P h.1 (show 1 < 3 by decide) _
  have x1 : fJ17_expandTo b (zN 0) w = some (hUp w b (bsC ws 1 st)) := by
    by_cases e : m = 0
    · have eu : uM m = 0 := if_pos e
      rw [eu] at r2
      simp (disch := omega) only [b2_some, bd_some, nm_eq, Option.map_some, zN_lit, zN_add, zN_mul, zN_neg1, if_true, if_false, reduceIte, eq_self, Nat.reduceEqDiff, Nat.reduceAdd, Nat.reduceMul, Nat.reduceSub, Nat.reduceLeDiff, Nat.one_ne_zero, not_false_eq_true, Bool.false_eq_true, zN_eq, zN_lt, zN_le,  fJ17_expandTo, fJ17_ensureCapacity, r1, r2, r3, r4, p1, Nat.le_refl]
    · have eu : uM m = 1 := if_neg e
      have hs : hUp w b (bsC ws 1 st) = w := hUp_self (by rw [h.1, eu])
      rw [eu] at r2
      rw [hs]
      simp (disch := omega) only [b2_some, bd_some, nm_eq, Option.map_some, zN_lit, zN_add, zN_mul, zN_neg1, if_true, if_false, reduceIte, eq_self, Nat.reduceEqDiff, Nat.reduceAdd, Nat.reduceMul, Nat.reduceSub, Nat.reduceLeDiff, Nat.one_ne_zero, not_false_eq_true, Bool.false_eq_true, zN_eq, zN_lt, zN_le,  fJ17_expandTo, r2, Nat.le_refl]
  have l5 : ldJ (hUp w b (bsC ws 1 st)) ws (zN 0) = some (zJ m) := by
    rw [c_ldJ (n := 1) (f := g) (by rw [hUp_ne _ _ hne.symm]; exact h.2.1) (by omega) (by omega), h.2.2.1]
  have r5 : gR (hUp w b (bsC ws 1 st)) b 0 0 = some (some ws) := c_R (hUp_eq _ _ _) 0
  have t5 : ∀ y, stJ (hUp w b (bsC ws 1 st)) ws (zN 0) y = some (hUp (hUp w b (bsC ws 1 st)) ws (lngC 1 (vp_updL g 0 y))) := fun y => c_stJ (n := 1) (f := g) (by rw [hUp_ne _ _ hne.symm]; exact h.2.1) (by omega) (by omega) y
  have e1 := zJ_shl1 (k := k) (by omega)
  have e2 := zJ_or m (2 ^ k)
  have r6 : ∀ l, hIs (hUp (hUp w b (bsC ws 1 st)) ws l) b 0 = some () := fun l => c_C (fs := [.ref ws, .int 1, .int st]) (by rw [hUp_ne _ _ hne, hUp_eq]; rfl)
  have eu : uM (m ||| 2 ^ k) = 1 := if_neg (or_ne m k)
  unfold bU
  rw [eu]
  unfold fJ17_set_3
  simp only [show (0 : Int32) = zN 0 from rfl, if_pos n0, fJ17_wordIndex, b2_some, show (6 : Int32) = zN 6 from rfl, show (31 : Int32) = zN 31 from rfl, s6, r1, bd_some, x1, r5, l5, e1, e2, t5, r6, bs_inv]
theorem c_clr1 (h : Bs w b ws g m st) (hk : k < 63) : fJ17_clear b (zN k) w = some (bU w b ws g (clr m k) st) := by
  have hne := h.ne
  have n0 : zN 0 ≤ zN k := by rw [zN_le (by omega) (by omega)]; omega
  have s6 : zN k >>> (zN 6 &&& zN 31) = zN (k / 64) := zN_shr6 (by omega)
  rw [show k / 64 = 0 by omega] at s6
  have r2 : gI w b 0 1 = some (zN (uM m)) := c_I h.1 1
  have r3 : gR w b 0 0 = some (some ws) := c_R h.1 0
  by_cases e : m = 0
  · have ec : clr m k = m := by rw [e]; unfold clr; simp
    rw [ec, bU_self h]
    have eu : uM m = 0 := if_pos e
    rw [eu] at r2
    have n1 : (zN 0 < zN 0) = False := eq_false (by decide)
    unfold fJ17_clear fJ17_clear_b44
    simp only [show (0 : Int32) = zN 0 from rfl, if_pos n0, fJ17_wordIndex, b2_some, show (6 : Int32) = zN 6 from rfl, show (31 : Int32) = zN 31 from rfl, s6, r2, bd_some, n1, if_false]
  · have eu : uM m = 1 := if_neg e
    rw [eu] at r2
    have n1 : (zN 0 < zN 1) = True := eq_true (by decide)
    have t5 : ∀ y, stJ w ws (zN 0) y = some (hUp w ws (lngC 1 (vp_updL g 0 y))) := fun y => c_stJ (n := 1) (f := g) h.2.1 (by omega) (by omega) y
    have e2 : zJ m &&& (((1 : Int64) <<< ((zN k).toInt64 &&& 63)) ^^^ (-1)) = zJ ((clr m k : Nat) : Int) := zJ_ext fun i hi => by
      rw [zJ_shl1 (by omega), Int64.toBitVec_and, BitVec.getLsbD_and, Int64.toBitVec_xor, BitVec.getLsbD_xor, zJ_gb _ hi, zJ_gb _ hi, zJ_gb _ hi, show (-1 : Int64).toBitVec = BitVec.allOnes 64 from by decide, BitVec.getLsbD_allOnes, decide_eq_true hi, clr_bit, Nat.testBit_two_pow]
      by_cases e : k = i
      · rw [decide_eq_true e, show (i == k) = true from beq_iff_eq.mpr e.symm]
        rfl
      · rw [decide_eq_false e, show (i == k) = false from beq_false_of_ne (fun h => e h.symm)]
        rfl
    obtain ⟨w1, hw1⟩ : ∃ w1, w1 = hUp w ws (lngC 1 (vp_updL g 0 (zJ ((clr m k : Nat) : Int)))) := ⟨_, rfl⟩
    have c1 : w1.1 b = some (bsC ws 1 st) := by rw [hw1, hUp_ne _ _ hne, h.1, eu]
    have c2 : w1.1 ws = some (lngC 1 (vp_updL g 0 (zJ ((clr m k : Nat) : Int)))) := by rw [hw1, hUp_eq]
    have r6 : hIs w1 b 0 = some () := c_C c1
    have r7 : gI w1 b 0 1 = some (zN 1) := c_I c1 1
    have r8 : gR w1 b 0 0 = some (some ws) := c_R c1 0
    have l8 : ldJ w1 ws (zN 0) = some (zJ ((clr m k : Nat) : Int)) := by rw [c_ldJ c2 (by omega) (by omega), vpL_0]
    have hc := clr_lt h.2.2.2 k
    have hz := lgc_z (v := clr m k) (Nat.lt_trans hc (by decide))
    have pu : ∀ u : Nat, hPut w1 b 0 1 (.int (zN u)) = some (hUp w1 b (bsC ws u st)) := fun u => c_P c1 (show 1 < 3 by decide) _
    have hrec : fJ17_recalculateWordsInUse_l7 b (zN 0) w1 = some (hUp w1 b (bsC ws (uM (clr m k)) st)) := by
      by_cases z : clr m k = 0
      · rw [eq_true z] at hz
        have b1 : fJ17_recalculateWordsInUse_b7 b (zN 0) w1 = some (.inl (zI (-1), w1)) := by
          simp (disch := omega) only [b2_some, bd_some, nm_eq, Option.map_some, zN_lit, zN_add, zN_mul, zN_neg1, if_true, if_false, reduceIte, eq_self, Nat.reduceEqDiff, Nat.reduceAdd, Nat.reduceMul, Nat.reduceSub, Nat.reduceLeDiff, Nat.one_ne_zero, not_false_eq_true, Bool.false_eq_true, zN_eq, zN_lt, zN_le,  fJ17_recalculateWordsInUse_b7, r8, l8, hz, Nat.lt_irrefl]
          rfl
        have b2 : fJ17_recalculateWordsInUse_b7 b (zI (-1)) w1 = some (.inr (hUp w1 b (bsC ws 0 st))) := by
          unfold fJ17_recalculateWordsInUse_b7 fJ17_recalculateWordsInUse_b31
          rw [if_pos (by decide), show zI (-1) + 1 = zN 0 from rfl, pu 0]
          rfl
        unfold uM
        rw [if_pos z]
        exact (wh_inl b1).trans (wh_inr b2)
      · rw [eq_false z] at hz
        have b1 : fJ17_recalculateWordsInUse_b7 b (zN 0) w1 = some (.inr (hUp w1 b (bsC ws 1 st))) := by
          simp (disch := omega) only [b2_some, bd_some, nm_eq, Option.map_some, zN_lit, zN_add, zN_mul, zN_neg1, if_true, if_false, reduceIte, eq_self, Nat.reduceEqDiff, Nat.reduceAdd, Nat.reduceMul, Nat.reduceSub, Nat.reduceLeDiff, Nat.one_ne_zero, not_false_eq_true, Bool.false_eq_true, zN_eq, zN_lt, zN_le,  fJ17_recalculateWordsInUse_b7, r8, l8, hz, Nat.lt_irrefl, fJ17_recalculateWordsInUse_b22, fJ17_recalculateWordsInUse_b31, pu, Option.map]
        unfold uM
        rw [if_neg z]
        exact wh_inr b1
    have r9 : ∀ y, hIs (hUp w1 b (bsC ws y st)) b 0 = some () := fun y => c_C (hUp_eq _ _ _)
    have efin : hUp w1 b (bsC ws (uM (clr m k)) st) = bU w b ws g (clr m k) st := by
      rw [hw1, hUp_comm _ hne.symm]
      rfl
    unfold fJ17_clear
    simp only [show (0 : Int32) = zN 0 from rfl, if_pos n0, fJ17_wordIndex, b2_some, show (6 : Int32) = zN 6 from rfl, show (31 : Int32) = zN 31 from rfl, s6, r2, bd_some, n1, if_true, r3, h.ld, e2, t5]
    rw [← hw1]
    unfold fJ17_recalculateWordsInUse
    simp only [r6, bd_some, r7, nm_eq]
    rw [show zN 1 - 1 = zN 0 from rfl, hrec, bd_some]
    unfold fJ17_clear_b65
    rw [r9, bd_some, bs_inv, bd_some, efin]
theorem c_setb (h : Bs w b ws g m st) (hk : k < 63) (v : Nat) (hv : v ≤ 1) : fJ17_set_2 b (zN k) (zN v) w = some (bU w b ws g (if v = 0 then clr m k else m ||| 2 ^ k) st) := by
  have r1 : hIs w b 0 = some () := c_C h.1
  have hvv : v = 0 ∨ v = 1 := by omega
  rcases hvv with rfl | rfl
  · have e := c_clr1 h hk
    simp (disch := omega) only [b2_some, bd_some, nm_eq, Option.map_some, zN_lit, zN_add, zN_mul, zN_neg1, if_true, if_false, reduceIte, eq_self, Nat.reduceEqDiff, Nat.reduceAdd, Nat.reduceMul, Nat.reduceSub, Nat.reduceLeDiff, Nat.one_ne_zero, not_false_eq_true, Bool.false_eq_true, zN_eq, zN_lt, zN_le,  fJ17_set_2, r1, e]
  · have e := c_set1 h hk
    simp (disch := omega) only [b2_some, bd_some, nm_eq, Option.map_some, zN_lit, zN_add, zN_mul, zN_neg1, if_true, if_false, reduceIte, eq_self, Nat.reduceEqDiff, Nat.reduceAdd, Nat.reduceMul, Nat.reduceSub, Nat.reduceLeDiff, Nat.one_ne_zero, not_false_eq_true, Bool.false_eq_true, zN_eq, zN_lt, zN_le,  fJ17_set_2, r1, e]
theorem c_get1 (h : Bs w b ws g m st) (hk : k < 63) : fJ17_get b (zN k) w = some (zN (if m.testBit k then 1 else 0), w) :=
  c_get (st := st) (nw := 1) ⟨⟨h.1, g, h.2.1, h.2.2.1⟩, h.2.2.2, by omega, by omega⟩ hk
theorem c_nsb1 (h : Bs w b ws g m st) {f : Nat} (hf : f < 1000000) : ∃ r : Int, fJ17_nextSetBit b (zN f) w = some (zI r, w) ∧ NxB m.testBit f r ∧ (r = -1 ∨ ∃ i : Nat, r = i ∧ i < 64) := by
  obtain ⟨r, h1, h2, h3⟩ := c_nsb h.n hf
  rw [show bit (fun k => if k = 0 then m else 0) = m.testBit from funext (bit_1 h.2.2.2)] at h2
  refine ⟨r, h1, h2, h3.imp id fun ⟨i, e1, e2⟩ => ⟨i, e1, ?_⟩⟩
  have : uM m ≤ 1 := by unfold uM; split <;> omega
  omega
end
