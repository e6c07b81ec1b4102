/-! Plain law: small naturals in Int32, the twin's reads and writes, loops -/
def zN (n : Nat) : Int32 := zI n
theorem zN_lit (n : Nat) : (OfNat.ofNat n : Int32) = zN (OfNat.ofNat n) := rfl
theorem zN_add (a b : Nat) : zN a + zN b = zN (a + b) := by
  unfold zN
  rw [zI_add]
  congr 1
theorem zN_mul (a b : Nat) : zN a * zN b = zN (a * b) := by
  unfold zN
  rw [zI_mul]
  congr 1
theorem zN_sub {a b : Nat} (h : b ≤ a) : zN a - zN b = zN (a - b) := by
  unfold zN
  rw [zI_sub]
  congr 1
  omega
theorem zN_lt {a b : Nat} (ha : a < 2147483648) (hb : b < 2147483648) : (zN a < zN b) = (a < b) := by
  unfold zN
  rw [zI_lt (by omega) (by omega)]
  exact propext (by omega)
theorem zN_le {a b : Nat} (ha : a < 2147483648) (hb : b < 2147483648) : (zN a ≤ zN b) = (a ≤ b) := by
  unfold zN
  rw [zI_le (by omega) (by omega)]
  exact propext (by omega)
theorem zN_eq {a b : Nat} (ha : a < 2147483648) (hb : b < 2147483648) : (zN a = zN b) = (a = b) := by
  unfold zN
  rw [zI_eq (by omega) (by omega)]
  exact propext (by omega)
theorem zI_cast (n : Nat) : zI n = zN n := rfl
theorem zI_nn {x : Int} (h : 0 ≤ x) : zI x = zN x.toNat := by
  unfold zN
  congr 1
  omega
theorem zI_neg (a : Int) : -zI a = zI (-a) := by
  have h := zI_sub 0 a
  rw [Int.zero_sub] at h
  rw [← h]
  show -zI a = 0 - zI a
  exact (Int32.zero_sub _).symm
theorem zN_m1 : (-1 : Int32) = zI (-1) := rfl
theorem zN_ne_m1 {n : Nat} (h : n < 2147483648) : (zN n = zI (-1)) = False := by
  unfold zN
  rw [zI_eq (by omega) (by omega)]
  exact eq_false (by omega)
theorem zN_cl {n : Nat} (h : n < 2147483648) : (zN n).toNatClampNeg = n := by
  unfold zN
  rw [zI_clamp (by omega)]
  omega
theorem zN_ofR {v : Int32} {n : Nat} (h1 : ¬ v < 0) (h2 : v < zN n) (hn : n < 2147483648) : ∃ a, a < n ∧ v = zN a := by
  refine ⟨v.toInt.toNat, ?_, ?_⟩
  · rw [Int32.lt_iff_toInt_lt] at h1 h2
    rw [show (zN n).toInt = n from zI_toInt (by omega)] at h2
    rw [show (0 : Int32).toInt = 0 from rfl] at h1
    omega
  · rw [Int32.lt_iff_toInt_lt, show (0 : Int32).toInt = 0 from rfl] at h1
    unfold zN
    rw [show ((v.toInt.toNat : Nat) : Int) = v.toInt by omega]
    exact zI_of v
theorem zJ_lit (n : Nat) : (OfNat.ofNat n : Int64) = zJ (OfNat.ofNat n) := rfl
theorem zJ_neg (a : Int) : -zJ a = zJ (-a) := by
  have h := zJ_sub 0 a
  rw [Int.zero_sub] at h
  rw [← h]
  show -zJ a = 0 - zJ a
  exact (Int64.zero_sub _).symm
def bJ (a : Int) : Prop := -9223372036854775808 ≤ a ∧ a < 9223372036854775808
theorem zJ_lt {a b : Int} (ha : bJ a) (hb : bJ b) : (zJ a < zJ b) = (a < b) := by
  rw [Int64.lt_iff_toInt_lt, zJ_toInt ha, zJ_toInt hb]
theorem zJ_le {a b : Int} (ha : bJ a) (hb : bJ b) : (zJ a ≤ zJ b) = (a ≤ b) := by
  rw [Int64.le_iff_toInt_le, zJ_toInt ha, zJ_toInt hb]
theorem zJ_eq {a b : Int} (ha : bJ a) (hb : bJ b) : (zJ a = zJ b) = (a = b) := by
  refine propext ⟨fun h => ?_, fun h => by rw [h]⟩
  rw [← zJ_toInt ha, ← zJ_toInt hb, h]
theorem lgc_lt {a b : Int} (ha : bJ a) (hb : bJ b) : (lg_cmp (zJ a) (zJ b) < zN 0) = (a < b) := by
  show (lg_cmp (zJ a) (zJ b) < 0) = (a < b)
  unfold lg_cmp
  simp only [gt_iff_lt, zJ_lt hb ha, zJ_eq ha hb]
  split
  · exact propext ⟨fun h => by simp at h, fun h => by omega⟩
  · split
    · exact propext ⟨fun h => by simp at h, fun h => by omega⟩
    · exact propext ⟨fun _ => by omega, fun _ => by decide⟩
theorem lgc_eq {a b : Int} (ha : bJ a) (hb : bJ b) : (lg_cmp (zJ a) (zJ b) = zN 0) = (a = b) := by
  show (lg_cmp (zJ a) (zJ b) = 0) = (a = b)
  unfold lg_cmp
  simp only [gt_iff_lt, zJ_lt hb ha, zJ_eq ha hb]
  split
  · exact propext ⟨fun h => by simp at h, fun h => by omega⟩
  · split
    · exact propext ⟨fun _ => by omega, fun _ => rfl⟩
    · exact propext ⟨fun h => by simp at h, fun h => by omega⟩
theorem lgc_gt {a b : Int} (ha : bJ a) (hb : bJ b) : (zN 0 < lg_cmp (zJ a) (zJ b)) = (b < a) := by
  show (0 < lg_cmp (zJ a) (zJ b)) = (b < a)
  unfold lg_cmp
  simp only [gt_iff_lt, zJ_lt hb ha, zJ_eq ha hb]
  split
  · exact propext ⟨fun h => by omega, fun h => by decide⟩
  · split
    · exact propext ⟨fun h => by simp at h, fun h => by omega⟩
    · exact propext ⟨fun h => by simp at h, fun h => by omega⟩
theorem lgc_le {a b : Int} (ha : bJ a) (hb : bJ b) : (lg_cmp (zJ a) (zJ b) ≤ zN 0) = (a ≤ b) := by
  rw [show (lg_cmp (zJ a) (zJ b) ≤ zN 0) = ¬ (zN 0 < lg_cmp (zJ a) (zJ b)) from propext Int32.not_lt.symm, lgc_gt ha hb]
  exact propext (by omega)
theorem lgc_ge {a b : Int} (ha : bJ a) (hb : bJ b) : (zN 0 ≤ lg_cmp (zJ a) (zJ b)) = (b ≤ a) := by
  rw [show (zN 0 ≤ lg_cmp (zJ a) (zJ b)) = ¬ (lg_cmp (zJ a) (zJ b) < zN 0) from propext Int32.not_lt.symm, lgc_lt ha hb]
  exact propext (by omega)
section
variable {α β γ σ ρ : Type}
theorem b2_some (x : α) (y : β) (f : α → β → Option γ) : b2_ (some (x, y)) f = f x y := rfl
theorem bd_some (x : α) (f : α → Option β) : (some x).bind f = f x := rfl
theorem nm_eq (a : α) (f : α → β) : nm_ a f = f a := rfl
theorem wh_run {body : σ → Option (Sum σ ρ)} (st : Nat → σ) (n : Nat) (r : ρ) (h : ∀ i, i < n → body (st i) = some (.inl (st (i + 1)))) (he : body (st n) = some (.inr r)) : ∀ k i, i + k = n → whileO body (st i) = some r
  | 0, i, e => by subst e; exact wh_inr he
  | k + 1, i, e => by rw [wh_inl (h i (by omega))]; exact wh_run st n r h he k (i + 1) (by omega)
theorem wh_up {body : σ → Option (Sum σ ρ)} {P : Nat → σ → Prop} {Q : ρ → Prop} (n : Nat) (h : ∀ i s, i < n → P i s → (∃ s', body s = some (.inl s') ∧ P (i + 1) s') ∨ (∃ r, body s = some (.inr r) ∧ Q r)) (he : ∀ s, P n s → ∃ r, body s = some (.inr r) ∧ Q r) :
    ∀ k i s, i + k = n → P i s → ∃ r, whileO body s = some r ∧ Q r
  | 0, i, s, e, hp => by
    rw [Nat.add_zero] at e
    subst e
    obtain ⟨r, h1, h2⟩ := he s hp
    exact ⟨r, wh_inr h1, h2⟩
  | k + 1, i, s, e, hp => by
    rcases h i s (by omega) hp with ⟨s', h1, h2⟩ | ⟨r, h1, h2⟩
    · rw [wh_inl h1]
      exact wh_up n h he k (i + 1) s' (by omega) h2
    · exact ⟨r, wh_inr h1, h2⟩
theorem wh_dn {body : σ → Option (Sum σ ρ)} {P : Nat → σ → Prop} {Q : ρ → Prop} (h : ∀ m s, P m s → (∃ s' m', m' < m ∧ body s = some (.inl s') ∧ P m' s') ∨ (∃ r, body s = some (.inr r) ∧ Q r)) :
    ∀ m s, P m s → ∃ r, whileO body s = some r ∧ Q r := by
  intro m
  induction m using Nat.strongRecOn with
  | _ m ih =>
    intro s hp
    rcases h m s hp with ⟨s', m', hm, h1, h2⟩ | ⟨r, h1, h2⟩
    · rw [wh_inl h1]
      exact ih m' hm s' h2
    · exact ⟨r, wh_inr h1, h2⟩
end
theorem rd_N {α : Type} {f : Nat → α} {n k : Nat} (h : k < n) (hn : n ≤ 65536) : rd_ f n (zN k) = some (f k) := by
  unfold rd_
  rw [zN_cl (by omega), if_neg]
  rintro (h1 | h1)
  · rw [show (0 : Int32) = zN 0 from rfl, zN_lt (by omega) (by omega)] at h1; omega
  · omega
theorem wrA_N {T : TW} {p n k : Nat} {x : Int32} (h : k < n) (hn : n ≤ 65536) : wrA T p n (zN k) x = some (tsA T p (upd (tA T p) k x)) := by
  unfold wrA
  rw [zN_cl (by omega), if_neg]
  rintro (h1 | h1)
  · rw [show (0 : Int32) = zN 0 from rfl, zN_lt (by omega) (by omega)] at h1; omega
  · omega
theorem wrB_N {T : TW} {p n k : Nat} {x : Int64} (h : k < n) (hn : n ≤ 65536) : wrB T p n (zN k) x = some (tsB T p (vp_updL (tB T p) k x)) := by
  unfold wrB
  rw [zN_cl (by omega), if_neg]
  rintro (h1 | h1)
  · rw [show (0 : Int32) = zN 0 from rfl, zN_lt (by omega) (by omega)] at h1; omega
  · omega
theorem tI_s (T : TW) (k j : Nat) (x : Int32) : tI (tsI T k x) j = if j = k then x else tI T j := rfl
theorem tI_A (T : TW) (p j : Nat) (f : Nat → Int32) : tI (tsA T p f) j = tI T j := rfl
theorem tI_B (T : TW) (p j : Nat) (f : Nat → Int64) : tI (tsB T p f) j = tI T j := rfl
theorem tI_R (T : TW) (j : Nat) (x : Int64) : tI (tsR T x) j = tI T j := rfl
theorem tA_s (T : TW) (k j : Nat) (x : Int32) : tA (tsI T k x) j = tA T j := rfl
theorem tA_A (T : TW) (p j : Nat) (f : Nat → Int32) : tA (tsA T p f) j = if j = p then f else tA T j := rfl
theorem tA_B (T : TW) (p j : Nat) (f : Nat → Int64) : tA (tsB T p f) j = tA T j := rfl
theorem tA_R (T : TW) (j : Nat) (x : Int64) : tA (tsR T x) j = tA T j := rfl
theorem tB_s (T : TW) (k j : Nat) (x : Int32) : tB (tsI T k x) j = tB T j := rfl
theorem tB_A (T : TW) (p j : Nat) (f : Nat → Int32) : tB (tsA T p f) j = tB T j := rfl
theorem tB_B (T : TW) (p j : Nat) (f : Nat → Int64) : tB (tsB T p f) j = if j = p then f else tB T j := rfl
theorem tB_R (T : TW) (j : Nat) (x : Int64) : tB (tsR T x) j = tB T j := rfl
theorem tR_s (T : TW) (k : Nat) (x : Int32) : tR (tsI T k x) = tR T := rfl
theorem tR_A (T : TW) (p : Nat) (f : Nat → Int32) : tR (tsA T p f) = tR T := rfl
theorem tR_B (T : TW) (p : Nat) (f : Nat → Int64) : tR (tsB T p f) = tR T := rfl
theorem tR_R (T : TW) (x : Int64) : tR (tsR T x) = x := rfl
theorem bz_0 : bz_ 0 = some 0 := by decide
theorem bz_1 : bz_ 1 = some 1 := by decide
/-- bits -/
theorem zN_gb (m : Nat) {i : Nat} (hi : i < 32) : (zN m).toBitVec.getLsbD i = m.testBit i := by
  show (BitVec.ofInt 32 (m : Int)).getLsbD i = _
  rw [BitVec.ofInt_natCast, BitVec.getLsbD_ofNat]
  simp [hi]
theorem zN_ext {x y : Int32} (h : ∀ i, i < 32 → x.toBitVec.getLsbD i = y.toBitVec.getLsbD i) : x = y := Int32.toBitVec_inj.mp (BitVec.eq_of_getLsbD_eq (fun i hi => h i hi))
theorem zN_or (a b : Nat) : zN a ||| zN b = zN (a ||| b) := zN_ext fun i hi => by
  rw [Int32.toBitVec_or, BitVec.getLsbD_or, zN_gb a hi, zN_gb b hi, zN_gb _ hi, Nat.testBit_or]
theorem zN_and (a b : Nat) : zN a &&& zN b = zN (a &&& b) := zN_ext fun i hi => by
  rw [Int32.toBitVec_and, BitVec.getLsbD_and, zN_gb a hi, zN_gb b hi, zN_gb _ hi, Nat.testBit_and]
theorem zN_sh : ∀ n, n < 32 → ((zN n &&& 31).toBitVec.smod 32).toNat = n := by decide +kernel
theorem zN_shl1 {k : Nat} (hk : k < 32) : (1 : Int32) <<< (zN k &&& 31) = zN (2 ^ k) := zN_ext fun i hi => by
  rw [Int32.toBitVec_shiftLeft]
  show ((1 : Int32).toBitVec <<< ((zN k &&& 31).toBitVec.smod 32).toNat).getLsbD i = _
  rw [zN_sh k hk, BitVec.getLsbD_shiftLeft, zN_gb _ hi, show (1 : Int32) = zN 1 from rfl, zN_gb 1 (by omega), Nat.testBit_two_pow]
  rcases Nat.lt_trichotomy i k with h | h | h
  · simp [h, show ¬ k = i by omega]
  · subst h; simp [hi]
  · rw [show (1 : Nat).testBit (i - k) = false from by
      rw [show (1 : Nat) = 2 ^ 0 from rfl, Nat.testBit_two_pow]; exact decide_eq_false (by omega)]
    simp [show ¬ k = i by omega]
theorem zN_bit {m k : Nat} (hm : m < 2147483648) (hk : k < 32) : ((zN m >>> (zN k &&& 31)) &&& 1) = zN (if m.testBit k then 1 else 0) := zN_ext fun i hi => by
  have h31 : m.testBit 31 = false := Nat.testBit_lt_two_pow (by omega)
  rw [Int32.toBitVec_and, BitVec.getLsbD_and, Int32.toBitVec_shiftRight]
  show (((zN m).toBitVec.sshiftRight ((zN k &&& 31).toBitVec.smod 32).toNat).getLsbD i && _) = _
  rw [zN_sh k hk, BitVec.getLsbD_sshiftRight, BitVec.msb_eq_getLsbD_last, zN_gb _ hi, zN_gb m (i := 32 - 1) (by omega), show (1 : Int32) = zN 1 from rfl, zN_gb 1 hi]
  cases i with
  | zero =>
    by_cases h : k < 32
    · simp only [Nat.add_zero, h, if_true, zN_gb m h]
      cases m.testBit k <;> simp
    · omega
  | succ i =>
    have e1 : (1 : Nat).testBit (i + 1) = false := by
      rw [show (1 : Nat) = 2 ^ 0 from rfl, Nat.testBit_two_pow]; exact decide_eq_false (by omega)
    rw [e1, Bool.and_false]
    split
    · exact e1.symm
    · exact (Nat.zero_testBit _).symm
