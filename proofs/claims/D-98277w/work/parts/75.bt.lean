/-! LAYER 2: sets as bits -/
set_option maxRecDepth 100000
def bN (f : Nat → Bool) : Nat → Nat
  | 0 => 0
  | n + 1 => 2 ^ n * (if f n = true then 1 else 0) + bN f n
theorem bN_lt (f : Nat → Bool) : ∀ n, bN f n < 2 ^ n := by
  intro n
  induction n with
  | zero => exact (show 0 < 1 by decide)
  | succ n ih =>
    show 2 ^ n * (if f n = true then 1 else 0) + bN f n < 2 ^ (n + 1)
    rw [Nat.pow_succ]
    split <;> omega
theorem bN_t (f : Nat → Bool) : ∀ n j, (bN f n).testBit j = (decide (j < n) && f j) := by
  intro n
  induction n with
  | zero => intro j; rw [show bN f 0 = 0 from rfl, Nat.zero_testBit, decide_eq_false (by omega)]; rfl
  | succ n ih =>
    intro j
    show (2 ^ n * (if f n = true then 1 else 0) + bN f n).testBit j = _
    rw [Nat.testBit_two_pow_mul_add _ (bN_lt f n)]
    by_cases h : j < n
    · rw [if_pos h, ih, decide_eq_true h, decide_eq_true (show j < n + 1 by omega)]
    · rw [if_neg h]
      by_cases e : j = n
      · rw [e, Nat.sub_self, decide_eq_true (show n < n + 1 by omega)]
        cases f n <;> rfl
      · rw [decide_eq_false (show ¬ j < n + 1 by omega), Bool.false_and]
        have : (if f n = true then 1 else 0) < 2 ^ (j - n) := by
          have : 2 ≤ 2 ^ (j - n) := by
            rw [show j - n = (j - n - 1) + 1 by omega, Nat.pow_succ]
            have := Nat.one_le_two_pow (n := j - n - 1)
            omega
          split <;> omega
        exact Nat.testBit_lt_two_pow this
theorem bN_e {f h : Nat → Bool} : ∀ n, (∀ j, j < n → f j = h j) → bN f n = bN h n := by
  intro n
  induction n with
  | zero => intro _; rfl
  | succ n ih =>
    intro k
    show 2 ^ n * (if f n = true then 1 else 0) + bN f n = 2 ^ n * (if h n = true then 1 else 0) + bN h n
    rw [k n (by omega), ih fun j hj => k j (by omega)]
theorem bN_or (f h : Nat → Bool) (n : Nat) : bN f n ||| bN h n = bN (fun j => f j || h j) n := by
  apply Nat.eq_of_testBit_eq
  intro j
  rw [Nat.testBit_or, bN_t, bN_t, bN_t]
  cases decide (j < n) <;> cases f j <;> cases h j <;> rfl
theorem bN_and (f h : Nat → Bool) (n : Nat) : bN f n &&& bN h n = bN (fun j => f j && h j) n := by
  apply Nat.eq_of_testBit_eq
  intro j
  rw [Nat.testBit_and, bN_t, bN_t, bN_t]
  cases decide (j < n) <;> cases f j <;> cases h j <;> rfl
theorem bN_one {n k : Nat} (hk : k < n) : bN (fun j => decide (j = k)) n = 2 ^ k := by
  apply Nat.eq_of_testBit_eq
  intro j
  rw [bN_t, Nat.testBit_two_pow]
  by_cases e : j = k
  · rw [e, decide_eq_true hk, Bool.true_and]
  · rw [decide_eq_false e, show decide (k = j) = false from decide_eq_false (fun z => e z.symm)]
    cases decide (j < n) <;> rfl
theorem bN_z : ∀ n, bN (fun _ => false) n = 0 := by
  intro n
  induction n with
  | zero => rfl
  | succ n ih =>
    show 2 ^ n * 0 + bN (fun _ => false) n = 0
    rw [ih, Nat.mul_zero]
/-- from bits to whole numbers of Java -/
theorem i32_bv (a : Nat) : (i32 (a : Int)).toBitVec = BitVec.ofNat 32 a := by
  unfold i32
  rw [Int32.toBitVec_ofInt]
  exact BitVec.ofInt_natCast ..
theorem i64_bv (a : Nat) : (i64 (a : Int)).toBitVec = BitVec.ofNat 64 a := by
  unfold i64
  rw [Int64.toBitVec_ofInt]
  exact BitVec.ofInt_natCast ..
theorem i32_or (a b : Nat) : i32 (a : Int) ||| i32 (b : Int) = i32 ((a ||| b : Nat) : Int) := by
  apply Int32.toBitVec_inj.mp
  rw [Int32.toBitVec_or, i32_bv, i32_bv, i32_bv]
  exact (BitVec.ofNat_or ..).symm
theorem i64_or (a b : Nat) : i64 (a : Int) ||| i64 (b : Int) = i64 ((a ||| b : Nat) : Int) := by
  apply Int64.toBitVec_inj.mp
  rw [Int64.toBitVec_or, i64_bv, i64_bv, i64_bv]
  exact (BitVec.ofNat_or ..).symm
theorem i64_and (a b : Nat) : i64 (a : Int) &&& i64 (b : Int) = i64 ((a &&& b : Nat) : Int) := by
  apply Int64.toBitVec_inj.mp
  rw [Int64.toBitVec_and, i64_bv, i64_bv, i64_bv]
  exact (BitVec.ofNat_and ..).symm
theorem i64_m1and (v : Int64) : (-1 : Int64) &&& v = v := by
  apply Int64.toBitVec_inj.mp
  rw [Int64.toBitVec_and]
  exact BitVec.allOnes_and
theorem shl32_1 : ∀ k, k < 31 → shl32 1 (i32 ((k : Nat) : Int)) = i32 ((2 ^ k : Nat) : Int) := by decide +kernel
theorem shl64_1 : ∀ k, k < 63 → shl64 1 (i32 ((k : Nat) : Int)) = i64 ((2 ^ k : Nat) : Int) := by decide +kernel
theorem sh_a : ∀ k, k < 64 → ((i32 ((k : Nat) : Int)).toInt64 &&& 63) = i64 ((k : Nat) : Int) := by decide +kernel
theorem sh_b : ∀ k, k < 64 → ((i64 ((k : Nat) : Int)).toBitVec.smod 64).toNat = k := by decide +kernel
theorem shr64_n {a k : Nat} (ha : a < 2 ^ 63) (hk : k < 63) : shr64 (i64 (a : Int)) (i32 (k : Int)) = i64 ((a >>> k : Nat) : Int) := by
  unfold shr64
  rw [sh_a k (by omega)]
  apply Int64.toBitVec_inj.mp
  rw [Int64.toBitVec_shiftRight, i64_bv a, i64_bv (a >>> k)]
  have e64 : a < 18446744073709551616 := by omega
  have hs : a >>> k ≤ a := by rw [Nat.shiftRight_eq_div_pow]; exact Nat.div_le_self _ _
  show (BitVec.ofNat 64 a).sshiftRight ((i64 (k : Int)).toBitVec.smod 64).toNat = _
  rw [sh_b k (by omega), BitVec.sshiftRight_eq_of_msb_false (BitVec.msb_eq_false_iff_two_mul_lt.mpr (by rw [BitVec.toNat_ofNat, Nat.mod_eq_of_lt e64]; omega))]
  apply BitVec.eq_of_toNat_eq
  rw [BitVec.toNat_ushiftRight, BitVec.toNat_ofNat, BitVec.toNat_ofNat, Nat.mod_eq_of_lt e64, Nat.mod_eq_of_lt (Nat.lt_of_le_of_lt hs e64)]
theorem sh_c : ∀ k, k < 64 → (((i32 ((k : Nat) : Int)).toInt64.toUInt64 &&& Int64.toUInt64 63).toBitVec % 64).toNat = k := by decide +kernel
theorem ushr64_n {a k : Nat} (ha : a < 2 ^ 64) (hk : k < 64) : ushr64 (i64 (a : Int)) (i32 (k : Int)) = i64 ((a >>> k : Nat) : Int) := by
  unfold ushr64
  apply Int64.toBitVec_inj.mp
  have e64 : a < 18446744073709551616 := by omega
  have hs : a >>> k ≤ a := by rw [Nat.shiftRight_eq_div_pow]; exact Nat.div_le_self _ _
  show ((i64 (a : Int)).toUInt64 >>> ((i32 (k : Int)).toInt64.toUInt64 &&& Int64.toUInt64 63)).toBitVec = _
  rw [UInt64.toBitVec_shiftRight, i64_bv (a >>> k)]
  show (i64 (a : Int)).toBitVec >>> _ = _
  rw [i64_bv a]
  apply BitVec.eq_of_toNat_eq
  show (BitVec.ofNat 64 a >>> (((i32 (k : Int)).toInt64.toUInt64 &&& Int64.toUInt64 63).toBitVec % 64).toNat).toNat = _
  rw [BitVec.toNat_ushiftRight, sh_c k hk, BitVec.toNat_ofNat, BitVec.toNat_ofNat, Nat.mod_eq_of_lt e64, Nat.mod_eq_of_lt (Nat.lt_of_le_of_lt hs e64)]
/-! how many bits: Java's way -/
theorem byte_t {a b : Nat} (ha : a < 256) (j : Nat) : (256 * b + a).testBit j = if j < 8 then a.testBit j else b.testBit (j - 8) := Nat.testBit_two_pow_mul_add b (i := 8) ha j
/-- a mask after a shift, byte by byte -/
theorem byte_m {a b c d k : Nat} (ha : a < 256) (hc : c < 2 ^ (8 - k)) (hk : k ≤ 8) : ((256 * b + a) >>> k) &&& (256 * d + c) = 256 * ((b >>> k) &&& d) + ((a >>> k) &&& c) := by
  have hc2 : c < 256 := by
    have : 2 ^ (8 - k) ≤ 2 ^ 8 := Nat.pow_le_pow_right (by omega) (by omega)
    omega
  have hac : (a >>> k) &&& c < 256 := Nat.lt_of_le_of_lt Nat.and_le_right hc2
  apply Nat.eq_of_testBit_eq
  intro j
  rw [Nat.testBit_and, Nat.testBit_shiftRight, byte_t ha, byte_t hc2, byte_t hac, Nat.testBit_and, Nat.testBit_and, Nat.testBit_shiftRight, Nat.testBit_shiftRight]
  by_cases h : j < 8
  · rw [if_pos h, if_pos h]
    by_cases h2 : k + j < 8
    · rw [if_pos h2]
    · have : c.testBit j = false := Nat.testBit_lt_two_pow (Nat.lt_of_lt_of_le hc (Nat.pow_le_pow_right (by omega) (by omega)))
      rw [this, Bool.and_false, Bool.and_false]
  · rw [if_neg h, if_neg h, if_neg (by omega), show k + j - 8 = k + (j - 8) by omega]
/-- eight bytes -/
def by8 (f : Nat → Nat) : Nat → Nat
  | 0 => 0
  | n + 1 => 256 * by8 (fun j => f (j + 1)) n + f 0
theorem by8_lt : ∀ (n : Nat) (f : Nat → Nat), (∀ j, f j < 256) → by8 f n < 256 ^ n := by
  intro n
  induction n with
  | zero => intro f _; exact (show 0 < 1 by decide)
  | succ n ih =>
    intro f hf
    have := ih (fun j => f (j + 1)) (fun j => hf _)
    have h0 := hf 0
    show 256 * by8 (fun j => f (j + 1)) n + f 0 < 256 ^ (n + 1)
    rw [Nat.pow_succ]
    omega
theorem by8_m {k c : Nat} (hk : k ≤ 8) (hc : c < 2 ^ (8 - k)) : ∀ (n : Nat) (f : Nat → Nat), (∀ j, f j < 256) → ((by8 f n) >>> k) &&& by8 (fun _ => c) n = by8 (fun j => (f j >>> k) &&& c) n := by
  intro n
  induction n with
  | zero => intro f _; show (0 >>> k) &&& 0 = 0; rw [Nat.and_zero]
  | succ n ih =>
    intro f hf
    show ((256 * by8 (fun j => f (j + 1)) n + f 0) >>> k) &&& (256 * by8 (fun _ => c) n + c) = 256 * by8 (fun j => (f (j + 1) >>> k) &&& c) n + ((f 0 >>> k) &&& c)
    rw [byte_m (hf 0) hc hk, ih _ fun j => hf _]
theorem by8_s : ∀ (n : Nat) (f h : Nat → Nat), (∀ j, h j ≤ f j) → by8 f n - by8 h n = by8 (fun j => f j - h j) n ∧ by8 h n ≤ by8 f n := by
  intro n
  induction n with
  | zero => intro f h _; exact ⟨rfl, Nat.le_refl _⟩
  | succ n ih =>
    intro f h hh
    have := ih (fun j => f (j + 1)) (fun j => h (j + 1)) fun j => hh _
    have h0 := hh 0
    show 256 * by8 (fun j => f (j + 1)) n + f 0 - (256 * by8 (fun j => h (j + 1)) n + h 0) = 256 * by8 (fun j => f (j + 1) - h (j + 1)) n + (f 0 - h 0) ∧ 256 * by8 (fun j => h (j + 1)) n + h 0 ≤ 256 * by8 (fun j => f (j + 1)) n + f 0
    omega
theorem by8_a : ∀ (n : Nat) (f h : Nat → Nat), by8 f n + by8 h n = by8 (fun j => f j + h j) n := by
  intro n
  induction n with
  | zero => intro f h; rfl
  | succ n ih =>
    intro f h
    have := ih (fun j => f (j + 1)) (fun j => h (j + 1))
    show 256 * by8 (fun j => f (j + 1)) n + f 0 + (256 * by8 (fun j => h (j + 1)) n + h 0) = 256 * by8 (fun j => f (j + 1) + h (j + 1)) n + (f 0 + h 0)
    omega
theorem by8_of : ∀ (n a : Nat), a < 256 ^ n → a = by8 (fun j => a / 256 ^ j % 256) n := by
  intro n
  induction n with
  | zero => intro a h; have : a < 1 := h; show a = 0; omega
  | succ n ih =>
    intro a h
    rw [Nat.pow_succ] at h
    have := ih (a / 256) (by omega)
    show a = 256 * by8 (fun j => a / 256 ^ (j + 1) % 256) n + a / 256 ^ 0 % 256
    have e : (fun j => a / 256 ^ (j + 1) % 256) = fun j => a / 256 / 256 ^ j % 256 := by
      funext j
      rw [Nat.div_div_eq_div_mul, Nat.pow_succ, Nat.mul_comm]
    rw [e, ← this, Nat.pow_zero, Nat.div_one]
    omega
/-- the ones of a byte -/
def pc8 (a : Nat) : Nat := a % 2 + a / 2 % 2 + a / 4 % 2 + a / 8 % 2 + a / 16 % 2 + a / 32 % 2 + a / 64 % 2 + a / 128 % 2
theorem b8_1 : ∀ a, a < 256 → ((a >>> 1) &&& 85) ≤ a ∧ ((((a - ((a >>> 1) &&& 85)) &&& 51) + (((a - ((a >>> 1) &&& 85)) >>> 2) &&& 51)) + ((((a - ((a >>> 1) &&& 85)) &&& 51) + (((a - ((a >>> 1) &&& 85)) >>> 2) &&& 51)) >>> 4)) &&& 15 = pc8 a ∧ ((a - ((a >>> 1) &&& 85)) &&& 51) + (((a - ((a >>> 1) &&& 85)) >>> 2) &&& 51) < 120 ∧ pc8 a ≤ 8 := by decide +kernel
