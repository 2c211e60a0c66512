/-! LAYER 2: how many bits: both ways -/
set_option maxRecDepth 100000
theorem b8_2 : ∀ a, a < 256 → ((((a - ((a >>> 1) &&& 85)) >>> 0) &&& 51) + (((a - ((a >>> 1) &&& 85)) >>> 2) &&& 51)) % 16 ≤ 4 ∧ ((((a - ((a >>> 1) &&& 85)) >>> 0) &&& 51) + (((a - ((a >>> 1) &&& 85)) >>> 2) &&& 51)) / 16 ≤ 4 ∧ ((((a - ((a >>> 1) &&& 85)) >>> 0) &&& 51) + (((a - ((a >>> 1) &&& 85)) >>> 2) &&& 51)) % 16 + ((((a - ((a >>> 1) &&& 85)) >>> 0) &&& 51) + (((a - ((a >>> 1) &&& 85)) >>> 2) &&& 51)) / 16 = pc8 a := by decide +kernel
theorem by8_4 : ∀ (n : Nat) (f : Nat → Nat), f n = 0 → (by8 f n) >>> 4 = by8 (fun j => f j / 16 + 16 * (f (j + 1) % 16)) n := by
  intro n
  induction n with
  | zero => intro f _; exact Nat.zero_shiftRight 4
  | succ n ih =>
    intro f hf
    have h := ih (fun j => f (j + 1)) hf
    have hB : by8 (fun j => f (j + 1)) n % 16 = f 1 % 16 := by
      cases n with
      | zero => rw [hf]; rfl
      | succ m =>
        show (256 * by8 (fun j => f (j + 1 + 1)) m + f 1) % 16 = f 1 % 16
        omega
    rw [Nat.shiftRight_eq_div_pow] at h ⊢
    show (256 * by8 (fun j => f (j + 1)) n + f 0) / 2 ^ 4 = 256 * by8 (fun j => f (j + 1) / 16 + 16 * (f (j + 1 + 1) % 16)) n + (f 0 / 16 + 16 * (f 1 % 16))
    have h : by8 (fun j => f (j + 1)) n / 2 ^ 4 = by8 (fun j => f (j + 1) / 16 + 16 * (f (j + 1 + 1) % 16)) n := h
    rw [← h]
    omega
theorem i32_and (a b : Nat) : i32 (a : Int) &&& i32 (b : Int) = i32 ((a &&& b : Nat) : Int) := by
  apply Int32.toBitVec_inj.mp
  rw [Int32.toBitVec_and, i32_bv, i32_bv, i32_bv]
  exact (BitVec.ofNat_and ..).symm
theorem i64_cut (a : Nat) : (i64 (a : Int)).toInt32 = i32 (a : Int) := by
  apply Int32.toBitVec_inj.mp
  rw [i32_bv]
  show (i64 (a : Int)).toBitVec.signExtend 32 = _
  rw [i64_bv]
  apply BitVec.eq_of_toNat_eq
  rw [BitVec.signExtend_eq_setWidth_of_le _ (by decide), BitVec.toNat_setWidth, BitVec.toNat_ofNat, BitVec.toNat_ofNat]
  omega
/-- the ones among the first -/
def onL : Nat → Nat → Nat
  | 0, _ => 0
  | n + 1, a => a % 2 + onL n (a / 2)
theorem onL_8 (n a : Nat) : onL (n + 8) a = pc8 (a % 256) + onL n (a / 256) := by
  have e : onL (n + 8) a = a % 2 + (a / 2 % 2 + (a / 2 / 2 % 2 + (a / 2 / 2 / 2 % 2 + (a / 2 / 2 / 2 / 2 % 2 + (a / 2 / 2 / 2 / 2 / 2 % 2 + (a / 2 / 2 / 2 / 2 / 2 / 2 % 2 + (a / 2 / 2 / 2 / 2 / 2 / 2 / 2 % 2 + onL n (a / 2 / 2 / 2 / 2 / 2 / 2 / 2 / 2)))))))) := rfl
  have e2 : a / 2 / 2 / 2 / 2 / 2 / 2 / 2 / 2 = a / 256 := by omega
  rw [e, e2]
  unfold pc8
  omega
theorem onL_z : ∀ n, onL n 0 = 0 := by
  intro n
  induction n with
  | zero => rfl
  | succ n ih => show 0 % 2 + onL n (0 / 2) = 0; rw [show 0 / 2 = 0 from rfl, ih]
theorem onL_le : ∀ n a, onL n a ≤ n := by
  intro n
  induction n with
  | zero => intro a; exact Nat.le_refl _
  | succ n ih => intro a; have := ih (a / 2); show a % 2 + onL n (a / 2) ≤ n + 1; omega
/-- more places are of no use -/
theorem onL_m : ∀ n a m, a < 2 ^ n → onL (n + m) a = onL n a := by
  intro n
  induction n with
  | zero => intro a m h; rw [show a = 0 by have : a < 1 := h; omega, onL_z]; rfl
  | succ n ih =>
    intro a m h
    rw [Nat.pow_succ] at h
    rw [show n + 1 + m = n + m + 1 by omega]
    show a % 2 + onL (n + m) (a / 2) = a % 2 + onL n (a / 2)
    rw [ih (a / 2) m (by omega)]
theorem by8_8 (p : Nat → Nat) : by8 p 8 = p 0 + 256 * p 1 + 65536 * p 2 + 16777216 * p 3 + 4294967296 * p 4 + 1099511627776 * p 5 + 281474976710656 * p 6 + 72057594037927936 * p 7 := by
  show 256 * (256 * (256 * (256 * (256 * (256 * (256 * (256 * 0 + p 7) + p 6) + p 5) + p 4) + p 3) + p 2) + p 1) + p 0 = _
  omega
