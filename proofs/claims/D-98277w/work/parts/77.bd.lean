/-! LAYER 2: how many bits: Java's way, joined -/
set_option maxRecDepth 100000
theorem bc_fin {x0 x1 x2 x3 x4 x5 x6 x7 v3 : Nat} (b0 : v3 = x0 + 256 * x1 + 65536 * x2 + 16777216 * x3 + 4294967296 * x4 + 1099511627776 * x5 + 281474976710656 * x6 + 72057594037927936 * x7) (p0 : x0 ≤ 8) (p1 : x1 ≤ 8) (p2 : x2 ≤ 8) (p3 : x3 ≤ 8) (p4 : x4 ≤ 8) (p5 : x5 ≤ 8) (p6 : x6 ≤ 8) (p7 : x7 ≤ 8) : v3 / 256 = x1 + 256 * x2 + 65536 * x3 + 16777216 * x4 + 4294967296 * x5 + 1099511627776 * x6 + 281474976710656 * x7 := by omega
theorem bc_fin2 {x0 x1 x2 x3 x4 x5 x6 x7 v4 : Nat} (b0 : v4 = (x0 + x1) + 256 * (x1 + x2) + 65536 * (x2 + x3) + 16777216 * (x3 + x4) + 4294967296 * (x4 + x5) + 1099511627776 * (x5 + x6) + 281474976710656 * (x6 + x7) + 72057594037927936 * x7) (p0 : x0 ≤ 8) (p1 : x1 ≤ 8) (p2 : x2 ≤ 8) (p3 : x3 ≤ 8) (p4 : x4 ≤ 8) (p5 : x5 ≤ 8) (p6 : x6 ≤ 8) (p7 : x7 ≤ 8) : v4 / 65536 = (x2 + x3) + 256 * (x3 + x4) + 65536 * (x4 + x5) + 16777216 * (x5 + x6) + 4294967296 * (x6 + x7) + 1099511627776 * x7 := by omega
/-- the last: the low byte holds the sum -/
theorem bc_fin3 {x0 x1 x2 x3 x4 x5 x6 x7 v5 : Nat} (b0 : v5 = (x0 + x1 + x2 + x3) + 256 * ((x1 + x2 + x3 + x4) + 256 * ((x2 + x3 + x4 + x5) + 256 * (x3 + x4 + x5 + x6))) + 4294967296 * ((x4 + x5 + x6 + x7) + 256 * ((x5 + x6 + x7) + 256 * ((x6 + x7) + 256 * x7)))) (p0 : x0 ≤ 8) (p1 : x1 ≤ 8) (p2 : x2 ≤ 8) (p3 : x3 ≤ 8) (p4 : x4 ≤ 8) (p5 : x5 ≤ 8) (p6 : x6 ≤ 8) (p7 : x7 ≤ 8) : (v5 + v5 / 4294967296) % 128 = x0 + x1 + x2 + x3 + x4 + x5 + x6 + x7 := by
  have h : v5 / 4294967296 = (x4 + x5 + x6 + x7) + 256 * ((x5 + x6 + x7) + 256 * ((x6 + x7) + 256 * x7)) := by omega
  rw [h, b0]
  omega
def sm8 (p : Nat → Nat) : Nat → Nat
  | 0 => 0
  | n + 1 => p 0 + sm8 (fun j => p (j + 1)) n
theorem onL_by : ∀ n a, onL (8 * n) a = sm8 (fun j => pc8 (a / 256 ^ j % 256)) n := by
  intro n
  induction n with
  | zero => intro a; rfl
  | succ n ih =>
    intro a
    have e : (fun j => pc8 (a / 256 ^ (j + 1) % 256)) = fun j => pc8 (a / 256 / 256 ^ j % 256) := by
      funext j
      rw [Nat.div_div_eq_div_mul, Nat.pow_succ, Nat.mul_comm (256 ^ j) 256]
    rw [show 8 * (n + 1) = 8 * n + 8 by omega, onL_8, ih]
    show _ = pc8 (a / 256 ^ 0 % 256) + sm8 (fun j => pc8 (a / 256 ^ (j + 1) % 256)) n
    rw [e, Nat.pow_zero, Nat.div_one]
theorem sm8_8 (p : Nat → Nat) : sm8 p 8 = p 0 + p 1 + p 2 + p 3 + p 4 + p 5 + p 6 + p 7 := by
  show p 0 + (p 1 + (p 2 + (p 3 + (p 4 + (p 5 + (p 6 + (p 7 + 0))))))) = _
  omega
theorem onL_60 {a : Nat} (ha : a < 2 ^ 60) : onL 60 a = sm8 (fun j => pc8 (a / 256 ^ j % 256)) 8 := by
  rw [← onL_by]
  have := onL_m 60 a 4 ha
  rw [← this]
theorem m85 : (6148914691236517205 : Int64) = i64 ((by8 (fun _ => 85) 8 : Nat) : Int) := by decide +kernel
theorem m51 : (3689348814741910323 : Int64) = i64 ((by8 (fun _ => 51) 8 : Nat) : Int) := by decide +kernel
theorem m15 : (1085102592571150095 : Int64) = i64 ((by8 (fun _ => 15) 8 : Nat) : Int) := by decide +kernel
theorem bc_s1 {f : Nat → Nat} (hf : ∀ j, f j < 256) : i64 ((by8 f 8 : Nat) : Int) - ((ushr64 (i64 ((by8 f 8 : Nat) : Int)) 1) &&& (6148914691236517205 : Int64)) = i64 ((by8 (fun j => f j - ((f j >>> 1) &&& 85)) 8 : Nat) : Int) := by
  have hsub := by8_s 8 f (fun j => (f j >>> 1) &&& 85) fun j => (b8_1 (f j) (hf j)).1
  have hlt : by8 f 8 < 2 ^ 64 := Nat.lt_of_lt_of_le (by8_lt 8 f hf) (by decide)
  have k0 := by8_m (k := 1) (c := 85) (by decide) (by decide) 8 f hf
  rw [show (1 : Int32) = i32 ((1 : Nat) : Int) from rfl, ushr64_n hlt (by decide), m85, i64_and, i64_sub, k0, ← Int.ofNat_sub hsub.2, hsub.1]
theorem bc_s2 {f : Nat → Nat} (hf : ∀ j, f j < 256) : (i64 ((by8 f 8 : Nat) : Int) &&& (3689348814741910323 : Int64)) + ((ushr64 (i64 ((by8 f 8 : Nat) : Int)) 2) &&& (3689348814741910323 : Int64)) = i64 ((by8 (fun j => ((f j >>> 0) &&& 51) + ((f j >>> 2) &&& 51)) 8 : Nat) : Int) := by
  have hlt : by8 f 8 < 2 ^ 64 := Nat.lt_of_lt_of_le (by8_lt 8 f hf) (by decide)
  have k0 := by8_m (k := 0) (c := 51) (by decide) (by decide) 8 f hf
  have k2 := by8_m (k := 2) (c := 51) (by decide) (by decide) 8 f hf
  rw [Nat.shiftRight_zero] at k0
  have ka := by8_a 8 (fun j => (f j >>> 0) &&& 51) (fun j => (f j >>> 2) &&& 51)
  rw [show (2 : Int32) = i32 ((2 : Nat) : Int) from rfl, ushr64_n hlt (by decide), m51, i64_and, i64_and, i64_add, k0, k2, ← Int.natCast_add, ka]
theorem bc_s3 {f : Nat → Nat} (hf : ∀ j, f j % 16 ≤ 4 ∧ f j / 16 ≤ 4) (h8 : f 8 = 0) : (i64 ((by8 f 8 : Nat) : Int) + (ushr64 (i64 ((by8 f 8 : Nat) : Int)) 4)) &&& (1085102592571150095 : Int64) = i64 ((by8 (fun j => (f j + (f j / 16 + 16 * (f (j + 1) % 16))) &&& 15) 8 : Nat) : Int) := by
  have hlt : by8 f 8 < 2 ^ 64 := Nat.lt_of_lt_of_le (by8_lt 8 f fun j => by have := hf j; omega) (by decide)
  have hb3 : ∀ j, f j + (f j / 16 + 16 * (f (j + 1) % 16)) < 256 := fun j => by
    have := hf j
    have := hf (j + 1)
    omega
  have k0 := by8_m (k := 0) (c := 15) (by decide) (by decide) 8 (fun j => f j + (f j / 16 + 16 * (f (j + 1) % 16))) hb3
  have k4 := by8_4 8 f h8
  have ka := by8_a 8 f (fun j => f j / 16 + 16 * (f (j + 1) % 16))
  rw [Nat.shiftRight_zero] at k0
  rw [show (4 : Int32) = i32 ((4 : Nat) : Int) from rfl, ushr64_n hlt (by decide), i64_add, ← Int.natCast_add, k4, ka, m15, i64_and, k0]
  rfl
