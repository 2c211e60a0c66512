/-! LAYER 2: whole numbers as Int32 -/
set_option maxRecDepth 100000
def i32 (z : Int) : Int32 := Int32.ofInt z
def i64 (z : Int) : Int64 := Int64.ofInt z
/-- within Int32 -/
def ok32 (z : Int) : Prop := -2147483648 ≤ z ∧ z < 2147483648
def ok64 (z : Int) : Prop := -9223372036854775808 ≤ z ∧ z < 9223372036854775808
theorem i32_toInt {z : Int} (h : ok32 z) : (i32 z).toInt = z := Int32.toInt_ofInt_of_le h.1 h.2
theorem i64_toInt {z : Int} (h : ok64 z) : (i64 z).toInt = z := Int64.toInt_ofInt_of_le h.1 h.2
theorem i32_of (v : Int32) : i32 v.toInt = v := Int32.ofInt_toInt v
theorem i32_ok (v : Int32) : ok32 v.toInt := ⟨Int32.le_toInt v, Int32.toInt_lt v⟩
theorem i32_add (a b : Int) : i32 a + i32 b = i32 (a + b) := (Int32.ofInt_add a b).symm
theorem i32_sub (a b : Int) : i32 a - i32 b = i32 (a - b) := (Int32.ofInt_sub a b).symm
theorem i32_mul (a b : Int) : i32 a * i32 b = i32 (a * b) := (Int32.ofInt_mul a b).symm
theorem i32_neg (a : Int) : -i32 a = i32 (-a) := (Int32.ofInt_neg a).symm
theorem i64_add (a b : Int) : i64 a + i64 b = i64 (a + b) := (Int64.ofInt_add a b).symm
theorem i64_sub (a b : Int) : i64 a - i64 b = i64 (a - b) := (Int64.ofInt_sub a b).symm
theorem i64_mul (a b : Int) : i64 a * i64 b = i64 (a * b) := (Int64.ofInt_mul a b).symm
theorem i32_lt {a b : Int} (ha : ok32 a) (hb : ok32 b) : i32 a < i32 b ↔ a < b := by rw [Int32.lt_iff_toInt_lt, i32_toInt ha, i32_toInt hb]
theorem i32_le {a b : Int} (ha : ok32 a) (hb : ok32 b) : i32 a ≤ i32 b ↔ a ≤ b := by rw [Int32.le_iff_toInt_le, i32_toInt ha, i32_toInt hb]
theorem i32_eq {a b : Int} (ha : ok32 a) (hb : ok32 b) : i32 a = i32 b ↔ a = b := by
  constructor
  · intro h
    have h1 := congrArg Int32.toInt h
    rwa [i32_toInt ha, i32_toInt hb] at h1
  · intro h
    rw [h]
theorem i64_lt {a b : Int} (ha : ok64 a) (hb : ok64 b) : i64 a < i64 b ↔ a < b := by rw [Int64.lt_iff_toInt_lt, i64_toInt ha, i64_toInt hb]
theorem i64_le {a b : Int} (ha : ok64 a) (hb : ok64 b) : i64 a ≤ i64 b ↔ a ≤ b := by rw [Int64.le_iff_toInt_le, i64_toInt ha, i64_toInt hb]
theorem i64_eq {a b : Int} (ha : ok64 a) (hb : ok64 b) : i64 a = i64 b ↔ a = b := by
  constructor
  · intro h
    have h1 := congrArg Int64.toInt h
    rwa [i64_toInt ha, i64_toInt hb] at h1
  · intro h
    rw [h]
theorem i32_clamp {z : Int} (h0 : 0 ≤ z) (h : ok32 z) : (i32 z).toNatClampNeg = z.toNat := by
  show (i32 z).toInt.toNat = z.toNat
  rw [i32_toInt h]
theorem i32_inb {z : Int} {n : Nat} (h : ok32 z) : inb (i32 z) n = decide (0 ≤ z ∧ z < n) := by
  unfold inb
  rw [i32_toInt h]
theorem i32_inb_t {z : Int} {n : Nat} (h0 : 0 ≤ z) (h1 : z < n) (hn : n ≤ 2147483648) : inb (i32 z) n = true := by
  rw [i32_inb ⟨by omega, by omega⟩]
  exact decide_eq_true ⟨h0, h1⟩
theorem i32_div {a b : Int} (ha : ok32 a) (hb : ok32 b) (h0 : 0 ≤ a) (hb0 : 0 < b) : i32 a / i32 b = i32 (a / b) := by
  apply Int32.toInt_inj.mp
  have hq : ok32 (a / b) := by
    have h1 : 0 ≤ a / b := Int.ediv_nonneg h0 (by omega)
    have h2 : a / b ≤ a := Int.ediv_le_self b h0
    exact ⟨by have := ha.1; omega, by have := ha.2; omega⟩
  rw [Int32.toInt_div, i32_toInt ha, i32_toInt hb, i32_toInt hq, Int.tdiv_eq_ediv_of_nonneg h0]
  exact Int.bmod_eq_of_le (by have := hq.1; omega) (by have := hq.2; omega)
theorem i32_rem {a b : Int} (ha : ok32 a) (hb : ok32 b) (h0 : 0 ≤ a) (hb0 : 0 < b) : rem32 (i32 a) (i32 b) = i32 (a % b) := by
  unfold rem32
  rw [i32_div ha hb h0 hb0, i32_mul, i32_sub]
  congr 1
  rw [Int.emod_def, Int.mul_comm]
