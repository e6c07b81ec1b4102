/-! Plain law: whole numbers in Int32 and Int64 -/
def zI (x : Int) : Int32 := Int32.ofInt x
def zJ (x : Int) : Int64 := Int64.ofInt x
theorem zI_add (a b : Int) : zI a + zI b = zI (a + b) := (Int32.ofInt_add ..).symm
theorem zI_sub (a b : Int) : zI a - zI b = zI (a - b) := (Int32.ofInt_sub ..).symm
theorem zI_mul (a b : Int) : zI a * zI b = zI (a * b) := (Int32.ofInt_mul ..).symm
theorem zJ_add (a b : Int) : zJ a + zJ b = zJ (a + b) := (Int64.ofInt_add ..).symm
theorem zJ_sub (a b : Int) : zJ a - zJ b = zJ (a - b) := (Int64.ofInt_sub ..).symm
theorem zJ_mul (a b : Int) : zJ a * zJ b = zJ (a * b) := (Int64.ofInt_mul ..).symm
theorem zI_toInt {a : Int} (h : -2147483648 ≤ a ∧ a < 2147483648) : (zI a).toInt = a := Int32.toInt_ofInt_of_le h.1 h.2
theorem zJ_toInt {a : Int} (h : -9223372036854775808 ≤ a ∧ a < 9223372036854775808) : (zJ a).toInt = a := Int64.toInt_ofInt_of_le h.1 h.2
theorem zI_lt {a b : Int} (ha : -2147483648 ≤ a ∧ a < 2147483648) (hb : -2147483648 ≤ b ∧ b < 2147483648) : (zI a < zI b) = (a < b) := by
  rw [Int32.lt_iff_toInt_lt, zI_toInt ha, zI_toInt hb]
theorem zI_le {a b : Int} (ha : -2147483648 ≤ a ∧ a < 2147483648) (hb : -2147483648 ≤ b ∧ b < 2147483648) : (zI a ≤ zI b) = (a ≤ b) := by
  rw [Int32.le_iff_toInt_le, zI_toInt ha, zI_toInt hb]
theorem zI_eq {a b : Int} (ha : -2147483648 ≤ a ∧ a < 2147483648) (hb : -2147483648 ≤ b ∧ b < 2147483648) : (zI a = zI b) = (a = b) := by
  refine propext ⟨fun h => ?_, fun h => by rw [h]⟩
  rw [← zI_toInt ha, ← zI_toInt hb, h]
theorem zI_of (x : Int32) : x = zI x.toInt := (Int32.ofInt_toInt x).symm
theorem zI_J {a : Int} (ha : -2147483648 ≤ a ∧ a < 2147483648) : (zI a).toInt64 = zJ a := by
  apply Int64.toInt_inj.mp
  rw [Int32.toInt_toInt64, zI_toInt ha, zJ_toInt ⟨by omega, by omega⟩]
theorem zI_clamp {a : Int} (h : 0 ≤ a ∧ a < 2147483648) : (zI a).toNatClampNeg = a.toNat := by
  rw [Int32.toNatClampNeg, zI_toInt ⟨by omega, h.2⟩]
example : (5 : Int32) = zI 5 := rfl
example : (-5 : Int32) = zI (-5) := rfl
