/-! LAYER 2: how many bits: the last steps -/
set_option maxRecDepth 100000
theorem bc_v4 {x0 x1 x2 x3 x4 x5 x6 x7 v3 d : Nat} (b0 : v3 = x0 + 256 * x1 + 65536 * x2 + 16777216 * x3 + 4294967296 * x4 + 1099511627776 * x5 + 281474976710656 * x6 + 72057594037927936 * x7) (d1 : d = x1 + 256 * x2 + 65536 * x3 + 16777216 * x4 + 4294967296 * x5 + 1099511627776 * x6 + 281474976710656 * x7) : v3 + d = (x0 + x1) + 256 * (x1 + x2) + 65536 * (x2 + x3) + 16777216 * (x3 + x4) + 4294967296 * (x4 + x5) + 1099511627776 * (x5 + x6) + 281474976710656 * (x6 + x7) + 72057594037927936 * x7 := by omega
theorem bc_v5 {x0 x1 x2 x3 x4 x5 x6 x7 v4 d : Nat} (b0 : v4 = (x0 + x1) + 256 * (x1 + x2) + 65536 * (x2 + x3) + 16777216 * (x3 + x4) + 4294967296 * (x4 + x5) + 1099511627776 * (x5 + x6) + 281474976710656 * (x6 + x7) + 72057594037927936 * x7) (d1 : d = (x2 + x3) + 256 * (x3 + x4) + 65536 * (x4 + x5) + 16777216 * (x5 + x6) + 4294967296 * (x6 + x7) + 1099511627776 * x7) : v4 + d = (x0 + x1 + x2 + x3) + 256 * ((x1 + x2 + x3 + x4) + 256 * ((x2 + x3 + x4 + x5) + 256 * (x3 + x4 + x5 + x6))) + 4294967296 * ((x4 + x5 + x6 + x7) + 256 * ((x5 + x6 + x7) + 256 * ((x6 + x7) + 256 * x7))) := by omega
theorem bc_l3 {x0 x1 x2 x3 x4 x5 x6 x7 v3 : Nat} (b0 : v3 = x0 + 256 * x1 + 65536 * x2 + 16777216 * x3 + 4294967296 * x4 + 1099511627776 * x5 + 281474976710656 * x6 + 72057594037927936 * x7) (p0 : x0 ≤ 8) (p1 : x1 ≤ 8) (p2 : x2 ≤ 8) (p3 : x3 ≤ 8) (p4 : x4 ≤ 8) (p5 : x5 ≤ 8) (p6 : x6 ≤ 8) (p7 : x7 ≤ 8) : v3 < 18446744073709551616 := by omega
theorem bc_l4 {x0 x1 x2 x3 x4 x5 x6 x7 v4 : Nat} (b0 : v4 = (x0 + x1) + 256 * (x1 + x2) + 65536 * (x2 + x3) + 16777216 * (x3 + x4) + 4294967296 * (x4 + x5) + 1099511627776 * (x5 + x6) + 281474976710656 * (x6 + x7) + 72057594037927936 * x7) (p0 : x0 ≤ 8) (p1 : x1 ≤ 8) (p2 : x2 ≤ 8) (p3 : x3 ≤ 8) (p4 : x4 ≤ 8) (p5 : x5 ≤ 8) (p6 : x6 ≤ 8) (p7 : x7 ≤ 8) : v4 < 18446744073709551616 := by omega
theorem bc_l5 {x0 x1 x2 x3 x4 x5 x6 x7 v5 : Nat} (b0 : v5 = (x0 + x1 + x2 + x3) + 256 * ((x1 + x2 + x3 + x4) + 256 * ((x2 + x3 + x4 + x5) + 256 * (x3 + x4 + x5 + x6))) + 4294967296 * ((x4 + x5 + x6 + x7) + 256 * ((x5 + x6 + x7) + 256 * ((x6 + x7) + 256 * x7)))) (p0 : x0 ≤ 8) (p1 : x1 ≤ 8) (p2 : x2 ≤ 8) (p3 : x3 ≤ 8) (p4 : x4 ≤ 8) (p5 : x5 ≤ 8) (p6 : x6 ≤ 8) (p7 : x7 ≤ 8) : v5 < 4611686018427387904 := by omega
theorem bc_v {x0 x1 x2 x3 x4 x5 x6 x7 v3 : Nat} (b0 : v3 = x0 + 256 * x1 + 65536 * x2 + 16777216 * x3 + 4294967296 * x4 + 1099511627776 * x5 + 281474976710656 * x6 + 72057594037927936 * x7) (p0 : x0 ≤ 8) (p1 : x1 ≤ 8) (p2 : x2 ≤ 8) (p3 : x3 ≤ 8) (p4 : x4 ≤ 8) (p5 : x5 ≤ 8) (p6 : x6 ≤ 8) (p7 : x7 ≤ 8) : v3 < 18446744073709551616 ∧ v3 + v3 / 256 < 18446744073709551616 ∧ (v3 + v3 / 256) + (v3 + v3 / 256) / 65536 < 4611686018427387904 ∧ (((v3 + v3 / 256) + (v3 + v3 / 256) / 65536) + ((v3 + v3 / 256) + (v3 + v3 / 256) / 65536) / 4294967296) % 128 = x0 + x1 + x2 + x3 + x4 + x5 + x6 + x7 := by
  have d1 := bc_fin b0 p0 p1 p2 p3 p4 p5 p6 p7
  have hv4 := bc_v4 b0 d1
  have d2 := bc_fin2 hv4 p0 p1 p2 p3 p4 p5 p6 p7
  have hv5 := bc_v5 hv4 d2
  exact ⟨bc_l3 b0 p0 p1 p2 p3 p4 p5 p6 p7, bc_l4 hv4 p0 p1 p2 p3 p4 p5 p6 p7, bc_l5 hv5 p0 p1 p2 p3 p4 p5 p6 p7, bc_fin3 hv5 p0 p1 p2 p3 p4 p5 p6 p7⟩
theorem bc_w {p : Nat → Nat} (h : ∀ j, p j ≤ 8) : by8 p 8 < 18446744073709551616 ∧ by8 p 8 + by8 p 8 / 256 < 18446744073709551616 ∧ (by8 p 8 + by8 p 8 / 256) + (by8 p 8 + by8 p 8 / 256) / 65536 < 4611686018427387904 ∧ (((by8 p 8 + by8 p 8 / 256) + (by8 p 8 + by8 p 8 / 256) / 65536) + ((by8 p 8 + by8 p 8 / 256) + (by8 p 8 + by8 p 8 / 256) / 65536) / 4294967296) % 128 = sm8 p 8 := by
  have k := bc_v (by8_8 p) (h 0) (h 1) (h 2) (h 3) (h 4) (h 5) (h 6) (h 7)
  rw [sm8_8]
  exact k
theorem bc_x {v : Nat} {k : Nat} (hk : k < 64) (h : v < 18446744073709551616) : i64 ((v : Nat) : Int) + ushr64 (i64 ((v : Nat) : Int)) (i32 ((k : Nat) : Int)) = i64 ((v + v / 2 ^ k : Nat) : Int) := by
  rw [ushr64_n h hk, i64_add, ← Int.natCast_add, Nat.shiftRight_eq_div_pow]
theorem bc_y {v3 t : Nat} (h3 : v3 < 18446744073709551616) (h4 : v3 + v3 / 256 < 18446744073709551616) (h5 : (v3 + v3 / 256) + (v3 + v3 / 256) / 65536 < 4611686018427387904) (h6 : (((v3 + v3 / 256) + (v3 + v3 / 256) / 65536) + ((v3 + v3 / 256) + (v3 + v3 / 256) / 65536) / 4294967296) % 128 = t) : (nm (i64 ((v3 : Nat) : Int) + ushr64 (i64 ((v3 : Nat) : Int)) 8) fun v4 => nm (v4 + ushr64 v4 16) fun v5 => nm (v5 + ushr64 v5 32) fun v6 => some (v6.toInt32 &&& 127)) = some (i32 ((t : Nat) : Int)) := by
  have e1 := bc_x (k := 8) (by decide) h3
  have e2 := bc_x (k := 16) (by decide) h4
  have e3 := bc_x (k := 32) (by decide) (Nat.lt_trans h5 (by decide))
  rw [nm_eq, show (8 : Int32) = i32 ((8 : Nat) : Int) from rfl, e1, nm_eq, show (16 : Int32) = i32 ((16 : Nat) : Int) from rfl, show v3 + v3 / 2 ^ 8 = v3 + v3 / 256 from rfl, e2, nm_eq, show (32 : Int32) = i32 ((32 : Nat) : Int) from rfl, show v3 + v3 / 256 + (v3 + v3 / 256) / 2 ^ 16 = v3 + v3 / 256 + (v3 + v3 / 256) / 65536 from rfl, e3, i64_cut, show (127 : Int32) = i32 ((127 : Nat) : Int) from rfl, i32_and, show (127 : Nat) = 2 ^ 7 - 1 from rfl, Nat.and_two_pow_sub_one_eq_mod, ← h6]
theorem c_bitCount {s : CS} {a : Nat} (ha : a < 2 ^ 60) : FJ17_bitCount s (i64 ((a : Nat) : Int)) = some (i32 ((onL 60 a : Nat) : Int)) := by
  have hsum := onL_60 ha
  have e0 : a = by8 (fun j => a / 256 ^ j % 256) 8 := by8_of 8 a (Nat.lt_of_lt_of_le ha (by decide))
  have hf : ∀ j, a / 256 ^ j % 256 < 256 := fun j => Nat.mod_lt _ (by decide)
  have hf8 : a / 256 ^ 8 % 256 = 0 := by
    rw [Nat.div_eq_of_lt (Nat.lt_of_lt_of_le ha (by decide))]
  generalize hfd : (fun j => a / 256 ^ j % 256) = f at e0
  have ef : ∀ j, a / 256 ^ j % 256 = f j := fun j => by rw [← hfd]
  have hf : ∀ j, f j < 256 := fun j => by rw [← ef]; exact hf j
  have hf8 : f 8 = 0 := by rw [← ef]; exact hf8
  have hfun : (fun j => pc8 (a / 256 ^ j % 256)) = fun j => pc8 (f j) := funext fun j => congrArg pc8 (ef j)
  rw [hfun] at hsum
  have e1 := bc_s1 hf
  have hf1 : ∀ j, f j - ((f j >>> 1) &&& 85) < 256 := fun j => Nat.lt_of_le_of_lt (Nat.sub_le _ _) (hf j)
  have e2 := bc_s2 (f := fun j => f j - ((f j >>> 1) &&& 85)) hf1
  have hf2 : ∀ j, _ := fun j => b8_2 (f j) (hf j)
  have h28 : ((((f 8 - ((f 8 >>> 1) &&& 85)) >>> 0) &&& 51) + (((f 8 - ((f 8 >>> 1) &&& 85)) >>> 2) &&& 51)) = 0 := by rw [hf8]; rfl
  have e3 := bc_s3 (f := fun j => ((((f j - ((f j >>> 1) &&& 85)) >>> 0) &&& 51) + (((f j - ((f j >>> 1) &&& 85)) >>> 2) &&& 51))) (fun j => ⟨(hf2 j).1, (hf2 j).2.1⟩) h28
  have hf3 : (fun j => (((((f j - ((f j >>> 1) &&& 85)) >>> 0) &&& 51) + (((f j - ((f j >>> 1) &&& 85)) >>> 2) &&& 51)) + ((((((f j - ((f j >>> 1) &&& 85)) >>> 0) &&& 51) + (((f j - ((f j >>> 1) &&& 85)) >>> 2) &&& 51))) / 16 + 16 * (((((f (j + 1) - ((f (j + 1) >>> 1) &&& 85)) >>> 0) &&& 51) + (((f (j + 1) - ((f (j + 1) >>> 1) &&& 85)) >>> 2) &&& 51)) % 16))) &&& 15) = fun j => pc8 (f j) := by
    funext j
    have q := hf2 j
    rw [show (15 : Nat) = 2 ^ 4 - 1 from rfl, Nat.and_two_pow_sub_one_eq_mod]
    generalize ((((f j - ((f j >>> 1) &&& 85)) >>> 0) &&& 51) + (((f j - ((f j >>> 1) &&& 85)) >>> 2) &&& 51)) = y at q ⊢
    generalize ((((f (j + 1) - ((f (j + 1) >>> 1) &&& 85)) >>> 0) &&& 51) + (((f (j + 1) - ((f (j + 1) >>> 1) &&& 85)) >>> 2) &&& 51)) = y2
    rw [← q.2.2]
    clear hsum e0 hfd ef hf hf8 e1 hf1 e2 hf2 h28 e3
    omega
  have hp : ∀ j, pc8 (f j) ≤ 8 := fun j => (b8_1 (f j) (hf j)).2.2.2
  obtain ⟨w1, w2, w3, w4⟩ := bc_w hp
  have e3 := e3
  rw [hf3] at e3
  unfold FJ17_bitCount
  have ea : i64 ((a : Nat) : Int) = i64 ((by8 f 8 : Nat) : Int) := congrArg (fun z : Nat => i64 (z : Int)) e0
  rewrite [ea, nm_eq]
  rewrite [e1, nm_eq, e2, nm_eq, e3, hsum]
  exact bc_y w1 w2 w3 w4
