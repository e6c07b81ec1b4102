/-! Plain law: bits counted, the lowest bit -/
theorem zJ_ush : ∀ s, s < 64 → ((zN s).toInt64.toUInt64 &&& Int64.toUInt64 63).toBitVec.umod 64 = BitVec.ofNat 64 s := by decide +kernel
theorem zJ_shr {v s : Nat} (hv : v < 2 ^ 64) (hs : s < 64) : ((zJ v).toUInt64 >>> ((zN s).toInt64.toUInt64 &&& Int64.toUInt64 63)).toInt64 = zJ ((v / 2 ^ s : Nat) : Int) := zJ_ext fun i hi => by
  show ((zJ v).toBitVec >>> (((zN s).toInt64.toUInt64 &&& Int64.toUInt64 63).toBitVec.umod 64)).getLsbD i = _
  rw [zJ_ush s hs, BitVec.ushiftRight_eq', BitVec.getLsbD_ushiftRight, BitVec.toNat_ofNat, Nat.mod_eq_of_lt (by omega), zJ_gb _ hi, Nat.testBit_div_two_pow]
  by_cases h : s + i < 64
  · rw [zJ_gb _ h, Nat.add_comm]
  · have h64 : (2 : Nat) ^ 64 ≤ 2 ^ (i + s) := Nat.pow_le_pow_right (by omega) (by omega)
    rw [Nat.testBit_lt_two_pow (x := v) (i := i + s) (by omega)]
    exact BitVec.getLsbD_of_ge _ _ (by omega)
theorem and_dig (x y k : Nat) : x &&& y = 2 ^ k * ((x / 2 ^ k) &&& (y / 2 ^ k)) + ((x % 2 ^ k) &&& (y % 2 ^ k)) := by
  rw [← Nat.and_div_two_pow, ← Nat.and_mod_two_pow]
  exact (Nat.div_add_mod _ _).symm
def cnB (P : Nat → Bool) : Nat → Nat
  | 0 => 0
  | n + 1 => cnB P n + if P n then 1 else 0
def pc8 (b : Nat) : Nat := cnB b.testBit 8
def sm5 : Nat → Nat
  | 0 => 0
  | n + 1 => 256 * sm5 n + 0x55
def sm3 : Nat → Nat
  | 0 => 0
  | n + 1 => 256 * sm3 n + 0x33
def smF : Nat → Nat
  | 0 => 0
  | n + 1 => 256 * smF n + 0x0f
def ps1 (n v : Nat) : Nat := v - (v / 2 &&& sm5 n)
def ps2 (n v : Nat) : Nat := (v &&& sm3 n) + (v / 4 &&& sm3 n)
def ps3 (n v : Nat) : Nat := (v + v / 16) &&& smF n
theorem ps_t1 : ∀ b, b < 256 → ∀ c, c < 2 → (b / 2 + 128 * c) &&& 0x55 = b / 2 &&& 0x55 ∧ b / 2 &&& 0x55 ≤ b := by decide +kernel
theorem ps_t2 : ∀ b, b < 256 → ∀ c, c < 4 → (b / 4 + 64 * c) &&& 0x33 = b / 4 &&& 0x33 := by decide +kernel
theorem ps_t4 : ∀ b, b < 256 → ps3 1 (ps2 1 (ps1 1 b)) = pc8 b ∧ ps2 1 (ps1 1 b) < 256 ∧ ps2 1 (ps1 1 b) % 16 ≤ 4 ∧ ps2 1 (ps1 1 b) / 16 ≤ 4 ∧ ps1 1 b < 256 ∧ pc8 b ≤ 8 := by decide +kernel
theorem and_dig8 (x m s : Nat) (hs : s < 256) : x &&& (256 * m + s) = 256 * ((x / 256) &&& m) + ((x % 256) &&& s) := by
  rw [and_dig x (256 * m + s) 8, show (2 : Nat) ^ 8 = 256 from rfl, show (256 * m + s) / 256 = m by omega, show (256 * m + s) % 256 = s by omega]
theorem ps1_s (n v : Nat) : ps1 (n + 1) v = 256 * ps1 n (v / 256) + ps1 1 (v % 256) ∧ v / 2 &&& sm5 (n + 1) ≤ v := by
  have e : v / 2 &&& sm5 (n + 1) = 256 * ((v / 256) / 2 &&& sm5 n) + ((v % 256) / 2 &&& 0x55) := by
    rw [sm5, and_dig8 _ _ _ (by omega), show v / 2 / 256 = v / 256 / 2 by omega, show v / 2 % 256 = v % 256 / 2 + 128 * (v / 256 % 2) by omega, (ps_t1 (v % 256) (by omega) (v / 256 % 2) (by omega)).1]
  have e1 : (v % 256) / 2 &&& sm5 1 = (v % 256) / 2 &&& 0x55 := rfl
  have h1 := (ps_t1 (v % 256) (by omega) 0 (by omega)).2
  have h2 : (v / 256) / 2 &&& sm5 n ≤ v / 256 / 2 := Nat.and_le_left
  unfold ps1
  rw [e, e1]
  omega
theorem ps2_s (n v : Nat) : ps2 (n + 1) v = 256 * ps2 n (v / 256) + ps2 1 (v % 256) := by
  have e : v / 4 &&& sm3 (n + 1) = 256 * ((v / 256) / 4 &&& sm3 n) + ((v % 256) / 4 &&& 0x33) := by
    rw [sm3, and_dig8 _ _ _ (by omega), show v / 4 / 256 = v / 256 / 4 by omega, show v / 4 % 256 = v % 256 / 4 + 64 * (v / 256 % 4) by omega, ps_t2 (v % 256) (by omega) (v / 256 % 4) (by omega)]
  have e2 : v &&& sm3 (n + 1) = 256 * ((v / 256) &&& sm3 n) + ((v % 256) &&& 0x33) := by rw [sm3, and_dig8 _ _ _ (by omega)]
  have e1 : (v % 256) / 4 &&& sm3 1 = (v % 256) / 4 &&& 0x33 := rfl
  have e3 : (v % 256) &&& sm3 1 = (v % 256) &&& 0x33 := rfl
  unfold ps2
  rw [e, e2, e1, e3]
  omega
theorem ps3_s (n v : Nat) (h1 : v % 16 ≤ 4) (h2 : v % 256 / 16 ≤ 4) (h3 : v / 256 % 16 ≤ 4) : ps3 (n + 1) v = 256 * ps3 n (v / 256) + ps3 1 (v % 256) := by
  have e1 : (v % 256 + v % 256 / 16) &&& smF 1 = (v % 256 + v % 256 / 16) % 16 := by
    show (v % 256 + v % 256 / 16) &&& (2 ^ 4 - 1) = _
    rw [Nat.and_two_pow_sub_one_eq_mod]
  have e2 : ((v + v / 16) % 256) &&& 0x0f = (v + v / 16) % 256 % 16 := by
    show ((v + v / 16) % 256) &&& (2 ^ 4 - 1) = _
    rw [Nat.and_two_pow_sub_one_eq_mod]
  have e3 : (v + v / 16) / 256 = v / 256 + v / 256 / 16 := by
    have r1 : v = 256 * (v / 256) + v % 256 := (Nat.div_add_mod _ _).symm
    have r2 : v % 256 < 256 := Nat.mod_lt _ (by decide)
    generalize v / 256 = a at *
    generalize v % 256 = r at *
    subst r1
    have r3 : (256 * a + r) / 16 = 16 * a + r / 16 := by omega
    have r4 : (256 * a + r) % 16 = r % 16 := by omega
    have r5 : r ≤ 68 := by omega
    have r6 : a = 16 * (a / 16) + a % 16 := (Nat.div_add_mod _ _).symm
    omega
  have e4 : (v + v / 16) % 256 % 16 = (v % 256 + v % 256 / 16) % 16 := by
    have r1 : v = 256 * (v / 256) + v % 256 := (Nat.div_add_mod _ _).symm
    have r2 : v % 256 < 256 := Nat.mod_lt _ (by decide)
    generalize v / 256 = a at *
    generalize v % 256 = r at *
    subst r1
    have r3 : (256 * a + r) / 16 = 16 * a + r / 16 := by omega
    rw [r3]
    omega
  unfold ps3
  rw [e1, smF, and_dig8 _ _ _ (by omega), e2, e3, e4]
def psG : Nat → Nat → Nat
  | 0, _ => 0
  | n + 1, v => 256 * psG n (v / 256) + pc8 (v % 256)
theorem psG_eq : ∀ (n v : Nat), v < 256 ^ n → ps3 n (ps2 n (ps1 n v)) = psG n v ∧ ps2 n (ps1 n v) % 16 ≤ 4
  | 0, v, h => by
    have : v = 0 := by omega
    subst this
    decide
  | n + 1, v, h => by
    have hv : v / 256 < 256 ^ n := by
      rw [Nat.pow_succ] at h
      omega
    obtain ⟨i1, i2⟩ := psG_eq n (v / 256) hv
    obtain ⟨t1, t2, t3, t4, t5, -⟩ := ps_t4 (v % 256) (by omega)
    have e1 := (ps1_s n v).1
    have e2 := ps2_s n (ps1 (n + 1) v)
    rw [e1, show (256 * ps1 n (v / 256) + ps1 1 (v % 256)) / 256 = ps1 n (v / 256) by omega, show (256 * ps1 n (v / 256) + ps1 1 (v % 256)) % 256 = ps1 1 (v % 256) by omega] at e2
    have e3 := ps3_s n (256 * ps2 n (ps1 n (v / 256)) + ps2 1 (ps1 1 (v % 256))) (by omega) (by omega) (by omega)
    rw [show (256 * ps2 n (ps1 n (v / 256)) + ps2 1 (ps1 1 (v % 256))) / 256 = ps2 n (ps1 n (v / 256)) by omega, show (256 * ps2 n (ps1 n (v / 256)) + ps2 1 (ps1 1 (v % 256))) % 256 = ps2 1 (ps1 1 (v % 256)) by omega] at e3
    rw [e1, e2, e3, i1, t1]
    exact ⟨rfl, by omega⟩
theorem cnB_add (P : Nat → Bool) (m : Nat) : ∀ n, cnB P (m + n) = cnB P m + cnB (fun i => P (m + i)) n
  | 0 => rfl
  | n + 1 => by
    show cnB P (m + n) + _ = _
    rw [cnB_add P m n]
    exact Nat.add_assoc _ _ _
theorem cnB_congr {P Q : Nat → Bool} : ∀ n, (∀ i, i < n → P i = Q i) → cnB P n = cnB Q n
  | 0, _ => rfl
  | n + 1, h => by
    unfold cnB
    rw [cnB_congr n (fun i hi => h i (by omega)), h n (by omega)]
def psS : Nat → Nat → Nat
  | 0, _ => 0
  | n + 1, v => pc8 (v % 256) + psS n (v / 256)
theorem psS_eq : ∀ n v, psS n v = cnB v.testBit (8 * n)
  | 0, v => rfl
  | n + 1, v => by
    rw [psS, psS_eq n, show 8 * (n + 1) = 8 + 8 * n by omega, cnB_add]
    congr 1
    · exact cnB_congr 8 fun i hi => by
        rw [show (256 : Nat) = 2 ^ 8 from rfl, Nat.testBit_mod_two_pow, decide_eq_true hi, Bool.true_and]
    · exact cnB_congr _ fun i hi => by
        rw [show (256 : Nat) = 2 ^ 8 from rfl, Nat.testBit_div_two_pow, Nat.add_comm]
theorem pc8_le (b : Nat) (h : b < 256) : pc8 b ≤ 8 := (ps_t4 b h).2.2.2.2.2
theorem psG_8 (v : Nat) : psG 8 v < 2 ^ 60 ∧ psG 8 v + psG 8 v / 256 < 2 ^ 61 ∧ ∀ a b : Nat, a = psG 8 v + psG 8 v / 256 → b = a + a / 65536 → b < 2 ^ 62 ∧ (b + b / 4294967296) % 128 = psS 8 v := by
  have h0 := pc8_le (v % 256) (by omega)
  have h1 := pc8_le (v / 256 % 256) (by omega)
  have h2 := pc8_le (v / 256 / 256 % 256) (by omega)
  have h3 := pc8_le (v / 256 / 256 / 256 % 256) (by omega)
  have h4 := pc8_le (v / 256 / 256 / 256 / 256 % 256) (by omega)
  have h5 := pc8_le (v / 256 / 256 / 256 / 256 / 256 % 256) (by omega)
  have h6 := pc8_le (v / 256 / 256 / 256 / 256 / 256 / 256 % 256) (by omega)
  have h7 := pc8_le (v / 256 / 256 / 256 / 256 / 256 / 256 / 256 % 256) (by omega)
  simp only [psG, psS]
  generalize pc8 (v % 256) = p0 at *
  generalize pc8 (v / 256 % 256) = p1 at *
  generalize pc8 (v / 256 / 256 % 256) = p2 at *
  generalize pc8 (v / 256 / 256 / 256 % 256) = p3 at *
  generalize pc8 (v / 256 / 256 / 256 / 256 % 256) = p4 at *
  generalize pc8 (v / 256 / 256 / 256 / 256 / 256 % 256) = p5 at *
  generalize pc8 (v / 256 / 256 / 256 / 256 / 256 / 256 % 256) = p6 at *
  generalize pc8 (v / 256 / 256 / 256 / 256 / 256 / 256 / 256 % 256) = p7 at *
  obtain ⟨X7, e7⟩ : ∃ X, X = 256 * 0 + p7 := ⟨_, rfl⟩
  rw [← e7]
  obtain ⟨X6, e6⟩ : ∃ X, X = 256 * X7 + p6 := ⟨_, rfl⟩
  rw [← e6]
  obtain ⟨X5, e5⟩ : ∃ X, X = 256 * X6 + p5 := ⟨_, rfl⟩
  rw [← e5]
  obtain ⟨X4, e4⟩ : ∃ X, X = 256 * X5 + p4 := ⟨_, rfl⟩
  rw [← e4]
  obtain ⟨X3, e3⟩ : ∃ X, X = 256 * X4 + p3 := ⟨_, rfl⟩
  rw [← e3]
  obtain ⟨X2, e2⟩ : ∃ X, X = 256 * X3 + p2 := ⟨_, rfl⟩
  rw [← e2]
  obtain ⟨X1, e1⟩ : ∃ X, X = 256 * X2 + p1 := ⟨_, rfl⟩
  rw [← e1]
  have x7 : X7 < 2 ^ 4 := by omega
  have x6 : X6 < 2 ^ 12 := by omega
  have x5 : X5 < 2 ^ 20 := by omega
  have x4 : X4 < 2 ^ 28 := by omega
  have x3 : X3 < 2 ^ 36 := by omega
  have x2 : X2 < 2 ^ 44 := by omega
  have x1 : X1 < 2 ^ 52 := by omega
  have d1 : (256 * X1 + p0) / 256 = X1 := by omega
  refine ⟨by omega, by rw [d1]; omega, fun a b ha hb => ?_⟩
  rw [d1] at ha
  have f0 : 256 * X1 + p0 = 65536 * X2 + (256 * p1 + p0) := by omega
  have f1 : X1 = 65536 * X3 + (256 * p2 + p1) := by omega
  have f2 : X2 = 65536 * X4 + (256 * p3 + p2) := by omega
  have f3 : X3 = 65536 * X5 + (256 * p4 + p3) := by omega
  have d2 : a / 65536 = X2 + X3 := by omega
  rw [d2, ha] at hb
  have k0 : 256 * X1 + p0 = 4294967296 * X4 + (65536 * (256 * p3 + p2) + (256 * p1 + p0)) := by omega
  have k1 : X1 = 4294967296 * X5 + (65536 * (256 * p4 + p3) + (256 * p2 + p1)) := by omega
  have k2 : X2 = 4294967296 * X6 + (65536 * (256 * p5 + p4) + (256 * p3 + p2)) := by omega
  have k3 : X3 = 4294967296 * X7 + (65536 * (256 * p6 + p5) + (256 * p4 + p3)) := by omega
  obtain ⟨s, hs⟩ : ∃ s, s = (65536 * (256 * p3 + p2) + (256 * p1 + p0)) + (65536 * (256 * p4 + p3) + (256 * p2 + p1)) + (65536 * (256 * p5 + p4) + (256 * p3 + p2)) + (65536 * (256 * p6 + p5) + (256 * p4 + p3)) := ⟨_, rfl⟩
  have hs1 : s < 4294967296 := by omega
  have hb1 : b = 4294967296 * (X4 + X5 + X6 + X7) + s := by omega
  have d3 : b / 4294967296 = X4 + X5 + X6 + X7 := by
    clear hs hb k0 k1 k2 k3 f0 f1 f2 f3 d2 ha
    omega
  rw [d3]
  have l1 : X1 = 128 * (2 * X2) + p1 := by omega
  have l2 : X2 = 128 * (2 * X3) + p2 := by omega
  have l3 : X3 = 128 * (2 * X4) + p3 := by omega
  have l4 : X4 = 128 * (2 * X5) + p4 := by omega
  have l5 : X5 = 128 * (2 * X6) + p5 := by omega
  have l6 : X6 = 128 * (2 * X7) + p6 := by omega
  have l7 : X7 = p7 := by omega
  refine ⟨by omega, ?_⟩
  have hT : b + (X4 + X5 + X6 + X7) = 128 * (2 * X1 + 2 * X2 + 2 * X3 + 2 * X4 + 2 * X5 + 2 * X6 + 2 * X7) + (p0 + p1 + p2 + p3 + p4 + p5 + p6 + p7) := by
    clear hs hs1 hb1 k0 k1 k2 k3 f0 f1 f2 f3 d2 d3
    omega
  rw [hT, Nat.mul_add_mod, Nat.mod_eq_of_lt (by omega)]
  omega
theorem c_bitc {w : WH} {v : Nat} (hv : v < 2 ^ 64) : fJ28_bitCount (zJ v) w = some (zN (cnB v.testBit 64), w) := by
  have g := (psG_eq 8 v (by rw [show (256 : Nat) ^ 8 = 2 ^ 64 from rfl]; exact hv)).1
  have hle : v / 2 &&& sm5 8 ≤ v := (ps1_s 7 v).2
  obtain ⟨gb, c3, gf⟩ := psG_8 v
  obtain ⟨c2, c4⟩ := gf _ _ rfl rfl
  have m5 : (6148914691236517205 : Int64) = zJ ((sm5 8 : Nat) : Int) := by decide +kernel
  have m3 : (3689348814741910323 : Int64) = zJ ((sm3 8 : Nat) : Int) := by decide +kernel
  have mF : (1085102592571150095 : Int64) = zJ ((smF 8 : Nat) : Int) := by decide +kernel
  have k3 : sm3 8 < 2 ^ 62 := by decide +kernel
  have b1 : ps1 8 v < 2 ^ 64 := Nat.lt_of_le_of_lt (Nat.sub_le _ _) hv
  have b2 : ps2 8 (ps1 8 v) < 2 ^ 63 := by
    have x1 : ps1 8 v &&& sm3 8 ≤ sm3 8 := Nat.and_le_right
    have x2 : ps1 8 v / 4 &&& sm3 8 ≤ sm3 8 := Nat.and_le_right
    unfold ps2
    omega
  have e1 : zJ v - (zJ ((v / 2 : Nat) : Int) &&& zJ ((sm5 8 : Nat) : Int)) = zJ ((ps1 8 v : Nat) : Int) := by
    rw [zJ_and, zJ_sub]
    congr 1
    unfold ps1
    omega
  have e2 : (zJ ((ps1 8 v : Nat) : Int) &&& zJ ((sm3 8 : Nat) : Int)) + (zJ ((ps1 8 v / 4 : Nat) : Int) &&& zJ ((sm3 8 : Nat) : Int)) = zJ ((ps2 8 (ps1 8 v) : Nat) : Int) := by
    rw [zJ_and, zJ_and, zJ_add]
    rfl
  have e3 : (zJ ((ps2 8 (ps1 8 v) : Nat) : Int) + zJ ((ps2 8 (ps1 8 v) / 16 : Nat) : Int)) &&& zJ ((smF 8 : Nat) : Int) = zJ ((psG 8 v : Nat) : Int) := by
    rw [zJ_add, ← g]
    exact zJ_and (ps2 8 (ps1 8 v) + ps2 8 (ps1 8 v) / 16) (smF 8)
  have s1 := zJ_shr (v := v) (s := 1) hv (by omega)
  have s2 := zJ_shr (v := ps1 8 v) (s := 2) b1 (by omega)
  have s3 := zJ_shr (v := ps2 8 (ps1 8 v)) (s := 4) (by omega) (by omega)
  have s4 := zJ_shr (v := psG 8 v) (s := 8) (by omega) (by omega)
  have s5 := zJ_shr (v := psG 8 v + psG 8 v / 256) (s := 16) (by omega) (by omega)
  have s6 := zJ_shr (v := psG 8 v + psG 8 v / 256 + (psG 8 v + psG 8 v / 256) / 65536) (s := 32) (by omega) (by omega)
  rw [show 2 ^ 1 = 2 from rfl] at s1
  rw [show 2 ^ 2 = 4 from rfl] at s2
  rw [show 2 ^ 4 = 16 from rfl] at s3
  rw [show 2 ^ 8 = 256 from rfl] at s4
  rw [show 2 ^ 16 = 65536 from rfl] at s5
  rw [show 2 ^ 32 = 4294967296 from rfl] at s6
  have a4 : zJ ((psG 8 v : Nat) : Int) + zJ ((psG 8 v / 256 : Nat) : Int) = zJ ((psG 8 v + psG 8 v / 256 : Nat) : Int) := zJ_add _ _
  rw [psS_eq] at c4
  generalize psG 8 v + psG 8 v / 256 = A at *
  have a5 : zJ (A : Int) + zJ ((A / 65536 : Nat) : Int) = zJ ((A + A / 65536 : Nat) : Int) := zJ_add _ _
  generalize A + A / 65536 = B at *
  have a6 : zJ (B : Int) + zJ ((B / 4294967296 : Nat) : Int) = zJ ((B + B / 4294967296 : Nat) : Int) := zJ_add _ _
  generalize B + B / 4294967296 = C at *
  have e7 : (zJ (C : Int)).toInt32 &&& 127 = zN (C % 128) := by
    rw [zJ_I]
    show zN C &&& zN 127 = _
    rw [zN_and]
    congr 1
    show C &&& (2 ^ 7 - 1) = _
    rw [Nat.and_two_pow_sub_one_eq_mod]
  unfold fJ28_bitCount fJ28_bitCount_b34
  simp only [nm_eq, zN_lit 1, zN_lit 2, zN_lit 4, zN_lit 8, zN_lit 16, zN_lit 32, s1, m5, e1, s2, m3, e2, s3, e3, mF, s4, a4, s5, a5, s6, a6, e7, c4]
theorem low_bit : ∀ n y : Nat, y < 2 ^ n → y ≠ 0 → ∃ k c, k < n ∧ y = 2 ^ k * (2 * c + 1)
  | 0, y, h, h0 => by omega
  | n + 1, y, h, h0 => by
    by_cases e : y % 2 = 1
    · exact ⟨0, y / 2, by omega, by omega⟩
    · obtain ⟨k, c, h1, h2⟩ := low_bit n (y / 2) (by rw [Nat.pow_succ] at h; omega) (by omega)
      refine ⟨k + 1, c, by omega, ?_⟩
      rw [Nat.pow_succ, Nat.mul_comm (2 ^ k) 2, Nat.mul_assoc, ← h2]
      omega
theorem low_tb {k c : Nat} : (2 ^ k * (2 * c + 1)).testBit k = true ∧ ∀ j, j < k → (2 ^ k * (2 * c + 1)).testBit j = false := by
  refine ⟨?_, fun j hj => ?_⟩
  · rw [Nat.testBit_two_pow_mul, Nat.sub_self]
    simp
  · rw [Nat.testBit_two_pow_mul, decide_eq_false (by omega), Bool.false_and]
def ntz1 (v0 v1 : Int32) : Int32 := v1 + ((v0.toUInt32 >>> ((1 : Int32).toUInt32 &&& Int32.toUInt32 31)).toInt32)
def ntz2 (v0 v1 : Int32) : Int32 := if v0 ≤ 4 then ntz1 v0 v1 else ntz1 ((v0.toUInt32 >>> ((2 : Int32).toUInt32 &&& Int32.toUInt32 31)).toInt32) (v1 + 2)
def ntz4 (v0 v1 : Int32) : Int32 := if v0 ≤ 16 then ntz2 v0 v1 else ntz2 ((v0.toUInt32 >>> ((4 : Int32).toUInt32 &&& Int32.toUInt32 31)).toInt32) (v1 + 4)
def ntz8 (v0 v1 : Int32) : Int32 := if v0 ≤ 256 then ntz4 v0 v1 else ntz4 ((v0.toUInt32 >>> ((8 : Int32).toUInt32 &&& Int32.toUInt32 31)).toInt32) (v1 + 8)
def ntzP (x1 : Int32) : Int32 := if 0 < x1 then (if x1 ≤ 65536 then ntz8 x1 1 else ntz8 ((x1.toUInt32 >>> ((16 : Int32).toUInt32 &&& Int32.toUInt32 31)).toInt32) (1 + 16)) else x1 &&& 32
theorem ntz_t : ∀ k, k < 32 → ntzP (zN (2 ^ k - 1)) = zN k := by decide +kernel
theorem c_ntz1 (v0 v1 : Int32) (w : WH) : fJ16_numberOfTrailingZeros_b74 v0 v1 w = some (ntz1 v0 v1, w) := rfl
theorem c_ntz2 (v0 v1 : Int32) (w : WH) : fJ16_numberOfTrailingZeros_b62 v0 v1 w = some (ntz2 v0 v1, w) := by
  unfold fJ16_numberOfTrailingZeros_b62 ntz2
  split
  · rfl
  · rfl
theorem c_ntz4 (v0 v1 : Int32) (w : WH) : fJ16_numberOfTrailingZeros_b49 v0 v1 w = some (ntz4 v0 v1, w) := by
  unfold fJ16_numberOfTrailingZeros_b49 ntz4
  split
  · exact c_ntz2 _ _ _
  · exact c_ntz2 _ _ _
theorem c_ntz8 (v0 v1 : Int32) (w : WH) : fJ16_numberOfTrailingZeros_b34 v0 v1 w = some (ntz8 v0 v1, w) := by
  unfold fJ16_numberOfTrailingZeros_b34 ntz8
  split
  · exact c_ntz4 _ _ _
  · exact c_ntz4 _ _ _
theorem c_ntzP (x : Int32) (w : WH) : fJ16_numberOfTrailingZeros x w = some (ntzP ((x ^^^ (-1)) &&& (x - 1)), w) := by
  unfold fJ16_numberOfTrailingZeros ntzP
  rw [nm_eq]
  split
  · split
    · exact c_ntz8 _ _ _
    · exact c_ntz8 _ _ _
  · rfl
theorem c_ntz32 {w : WH} {k c : Nat} (hk : k < 32) : fJ16_numberOfTrailingZeros (zN (2 ^ k * (2 * c + 1))) w = some (zN k, w) := by
  rw [c_ntzP]
  have e : (zN (2 ^ k * (2 * c + 1)) ^^^ (-1)) &&& (zN (2 ^ k * (2 * c + 1)) - 1) = zN (2 ^ k - 1) := by
    have hp := Nat.two_pow_pos k
    rw [show zN (2 ^ k * (2 * c + 1)) - 1 = zN (2 ^ k * (2 * c + 1) - 1) from zN_sub (a := 2 ^ k * (2 * c + 1)) (b := 1) (by have := Nat.mul_pos hp (show 0 < 2 * c + 1 by omega); omega)]
    refine zN_ext fun i hi => ?_
    have ex : (2 : Nat) ^ k * (2 * c + 1) - 1 = 2 ^ k * (2 * c) + (2 ^ k - 1) := by rw [Nat.mul_add]; omega
    rw [Int32.toBitVec_and, Int32.toBitVec_xor, BitVec.getLsbD_and, BitVec.getLsbD_xor, zN_gb _ hi, zN_gb _ hi, zN_gb _ hi, show (-1 : Int32).toBitVec = BitVec.allOnes 32 from by decide, BitVec.getLsbD_allOnes, decide_eq_true hi, ex, Nat.testBit_two_pow_mul, Nat.testBit_two_pow_mul_add _ (by omega), Nat.testBit_two_pow_sub_one]
    by_cases h : i < k
    · rw [if_pos h, decide_eq_false (show ¬ i ≥ k by omega), decide_eq_true h]
      rfl
    · rw [if_neg h, decide_eq_true (show i ≥ k by omega), decide_eq_false h, Bool.true_and]
      cases e : i - k with
      | zero => simp
      | succ j =>
        rw [Nat.testBit_succ, Nat.testBit_succ, show (2 * c + 1) / 2 = c by omega, show 2 * c / 2 = c by omega]
        cases c.testBit j <;> rfl
  rw [e, ntz_t k hk]
theorem c_ntz {w : WH} {k c : Nat} (hk : k < 64) (hv : 2 ^ k * (2 * c + 1) < 2 ^ 64) : fJ28_numberOfTrailingZeros (zJ ((2 ^ k * (2 * c + 1) : Nat) : Int)) w = some (zN k, w) := by
  have s1 := zJ_shr (s := 32) hv (by omega)
  unfold fJ28_numberOfTrailingZeros
  rw [nm_eq, zJ_I, zI_cast]
  by_cases h : k < 32
  · have n0 : ¬ (zN (2 ^ k * (2 * c + 1)) = 0) := by
      intro e
      have g := congrArg (fun z => z.toBitVec.getLsbD k) e
      rw [zN_gb _ h, low_tb.1, show (0 : Int32) = zN 0 from rfl, zN_gb _ h, Nat.zero_testBit] at g
      cases g
    rw [if_neg n0, c_ntz32 h]
    rfl
  · have hp : (2 : Nat) ^ k = 2 ^ (k - 32) * 2 ^ 32 := by rw [← Nat.pow_add]; congr 1; omega
    have e0 : zN (2 ^ k * (2 * c + 1)) = 0 := zN_ext fun i hi => by
      rw [zN_gb _ hi, low_tb.2 i (by omega), show (0 : Int32) = zN 0 from rfl, zN_gb _ hi, Nat.zero_testBit]
    have ed : 2 ^ k * (2 * c + 1) / 2 ^ 32 = 2 ^ (k - 32) * (2 * c + 1) := by
      rw [hp, Nat.mul_right_comm, Nat.mul_div_cancel _ (by decide)]
    rw [if_pos e0, show (32 : Int32) = zN 32 from rfl, s1, zJ_I, zI_cast, ed, c_ntz32 (by omega), b2_some, zN_add, show 32 + (k - 32) = k by omega]
