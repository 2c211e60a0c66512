/-! LAYER 2: a town as whole numbers (the twin's row of numbers), the twin's plain functions on it -/
set_option maxRecDepth 100000
theorem i32_nat (n : Nat) : Int32.ofNat n = i32 (n : Int) := by
  unfold i32
  first | rfl | (simp [Int32.ofInt_eq_ofNat]; done) | (rw [Int32.ofInt_eq_ofNat]; done)
theorem i32_lit (n : Nat) : (OfNat.ofNat n : Int32) = i32 (n : Int) := i32_nat n
theorem ld_n {α β : Type} {f : Nat → α} {n k : Nat} {K : α → Option β} (h : k < n) (hn : n ≤ 2147483648) : ld f n (i32 (k : Int)) K = K (f k) := by
  unfold ld
  rw [if_pos (i32_inb_t (by omega) (by omega) hn), i32_clamp (by omega) ⟨by omega, by omega⟩]
  rfl
/-- a town's numbers are well -/
def TW (W : Nat → Int) : Prop := (1 ≤ W 0 ∧ W 0 ≤ 6) ∧ (1 ≤ W 1 ∧ W 1 ≤ 9) ∧ (1 ≤ W 2 ∧ W 2 ≤ 30) ∧ (W 3 = -1 ∨ (1 ≤ W 3 ∧ W 3 ≤ 30)) ∧ (W 4 = -1 ∨ (1 ≤ W 4 ∧ W 4 ≤ 30)) ∧ (0 ≤ W 5 ∧ W 5 ≤ 9) ∧ (0 ≤ W 6 ∧ W 6 ≤ 1) ∧ (0 ≤ W 7 ∧ W 7 ≤ 54) ∧ (0 ≤ W 8 ∧ W 8 ≤ 4) ∧ (1 ≤ W 9 ∧ W 9 ≤ 1200) ∧ (∀ c, c < 54 → (0 ≤ W (10 + 4 * c) ∧ W (10 + 4 * c) ≤ 4) ∧ (0 < W (10 + 4 * c) → (1 ≤ W (11 + 4 * c) ∧ W (11 + 4 * c) ≤ 60) ∧ (0 ≤ W (12 + 4 * c) ∧ W (12 + 4 * c) < W (11 + 4 * c)) ∧ (0 ≤ W (13 + 4 * c) ∧ W (13 + 4 * c) ≤ W (11 + 4 * c)) ∧ (W (10 + 4 * c) ≤ 2 → W 9 % W (11 + 4 * c) = 0))) ∧ ∀ c, c < 54 → 0 ≤ W (226 + c) ∧ W (226 + c) ≤ 3
/-- the twin's town -/
def Rw (W : Nat → Int) (τ : TS) : Prop := ∀ k, k < 340 → tA τ 10 k = i32 (W k)
def kdA (W : Nat → Int) (x y : Nat) : Int := W (10 + 4 * (6 * y + x)) - 1
def ltA (W : Nat → Int) (x y : Nat) (what : Nat) : Int := W (10 + 4 * (6 * y + x) + what)
theorem s_wide {W : Nat → Int} {τ : TS} (h : Rw W τ) : T_wide τ = some (i32 (W 0)) := by
  unfold T_wide
  rw [show (0 : Int32) = i32 ((0 : Nat) : Int) from rfl, ld_n (by omega) (by omega), h 0 (by omega)]
theorem s_deep {W : Nat → Int} {τ : TS} (h : Rw W τ) : T_deep τ = some (i32 (W 1)) := by
  unfold T_deep
  rw [show (1 : Int32) = i32 ((1 : Nat) : Int) from rfl, ld_n (by omega) (by omega), h 1 (by omega)]
theorem s_ix (x y : Nat) : (10 + (4 * ((6 * i32 (y : Int)) + i32 (x : Int))) : Int32) = i32 ((10 + 4 * (6 * y + x) : Nat) : Int) := by
  rw [show (10 : Int32) = i32 10 from rfl, show (4 : Int32) = i32 4 from rfl, show (6 : Int32) = i32 6 from rfl, i32_mul, i32_add, i32_mul, i32_add]
  congr 1
theorem s_kindAt {W : Nat → Int} {τ : TS} {x y : Nat} (h : Rw W τ) (hx : x < 6) (hy : y < 9) : T_kindAt τ (i32 x) (i32 y) = some (i32 (kdA W x y)) := by
  unfold T_kindAt kdA
  rw [s_ix, ld_n (by omega) (by omega), h _ (by omega), show (1 : Int32) = i32 1 from rfl, i32_sub]
theorem s_lightAt {W : Nat → Int} {τ : TS} {x y what : Nat} (h : Rw W τ) (hx : x < 6) (hy : y < 9) (hw : what < 4) : T_lightAt τ (i32 x) (i32 y) (i32 what) = some (i32 (ltA W x y what)) := by
  unfold T_lightAt ltA
  rw [s_ix, i32_add, show ((10 + 4 * (6 * y + x) : Nat) : Int) + (what : Int) = ((10 + 4 * (6 * y + x) + what : Nat) : Int) by omega, ld_n (by omega) (by omega), h _ (by omega)]
/-- a truth as the twin's int -/
def bi (p : Bool) : Int32 := if p = true then 1 else 0
theorem bi_0 {p : Bool} : bi p = 0 ↔ p = false := by cases p <;> decide
theorem bi_ite {c : Prop} [Decidable c] : (if c then some (1 : Int32) else some 0) = some (bi (decide c)) := by
  by_cases h : c <;> simp [bi, h]
theorem bi_itf {c : Prop} [Decidable c] : (if c then some (0 : Int32) else some 1) = some (bi (!decide c)) := by
  by_cases h : c <;> simp [bi, h]
/-- a way leads on within the town -/
def thA (W : Nat → Int) (x y : Nat) (way : Bool) : Bool := if way = true then decide ((y : Int) + 1 < W 1) else decide ((x : Int) + 1 < W 0)
def wy (way : Bool) : Int32 := if way = true then 1 else 0
theorem s_isThere {W : Nat → Int} {τ : TS} {x y : Nat} {way : Bool} (hW : TW W) (h : Rw W τ) (hx : x < 6) (hy : y < 9) : T_isThere τ (i32 x) (i32 y) (wy way) = some (bi (thA W x y way)) := by
  obtain ⟨h0, h1, -⟩ := hW
  unfold T_isThere thA wy
  rw [s_wide h, s_deep h]
  cases way with
  | false =>
    rw [if_pos (show (if false = true then (1 : Int32) else 0) = 0 from rfl), if_neg (show ¬ false = true by decide)]
    show (if i32 (W 0) - 1 ≤ i32 x then some (0 : Int32) else some 1) = _
    rw [show (1 : Int32) = i32 1 from rfl, i32_sub, show (some (i32 1) : Option Int32) = some 1 from rfl, bi_itf]
    congr 2
    rw [decide_eq_decide.mpr (i32_le ⟨by omega, by omega⟩ ⟨by omega, by omega⟩), ← decide_not]
    exact decide_eq_decide.mpr (by omega)
  | true =>
    rw [if_pos rfl, if_neg (by decide), if_pos rfl]
    show (if i32 (W 1) - 1 ≤ i32 y then some (0 : Int32) else some 1) = _
    rw [show (1 : Int32) = i32 1 from rfl, i32_sub, show (some (i32 1) : Option Int32) = some 1 from rfl, bi_itf]
    congr 2
    rw [decide_eq_decide.mpr (i32_le ⟨by omega, by omega⟩ ⟨by omega, by omega⟩), ← decide_not]
    exact decide_eq_decide.mpr (by omega)
/-- a bar on a way -/
def brA (W : Nat → Int) (x y : Nat) (way : Bool) : Bool := if way = true then decide (2 ≤ W (226 + (6 * y + x))) else decide (W (226 + (6 * y + x)) % 2 = 1)
theorem s_bar {z : Int} (h : 0 ≤ z ∧ z ≤ 3) (way : Bool) : (shr32 (i32 z) (wy way) &&& 1 = 1) ↔ (if way = true then decide (2 ≤ z) else decide (z % 2 = 1)) = true := by
  rcases (show z = 0 ∨ z = 1 ∨ z = 2 ∨ z = 3 by omega) with rfl | rfl | rfl | rfl <;> cases way <;> decide
theorem s_isBarred {W : Nat → Int} {τ : TS} {x y : Nat} {way : Bool} (hW : TW W) (h : Rw W τ) (hx : x < 6) (hy : y < 9) : T_isBarred τ (i32 x) (i32 y) (wy way) = some (bi (brA W x y way)) := by
  have hb := hW.2.2.2.2.2.2.2.2.2.2.2 (6 * y + x) (by omega)
  unfold T_isBarred
  rw [show ((226 + (6 * i32 (y : Int))) + i32 (x : Int) : Int32) = i32 ((226 + (6 * y + x) : Nat) : Int) by
    rw [show (226 : Int32) = i32 226 from rfl, show (6 : Int32) = i32 6 from rfl, i32_mul, i32_add, i32_add]
    congr 1
    omega, ld_n (by omega) (by omega), h _ (by omega)]
  show (if shr32 (i32 (W (226 + (6 * y + x)))) (wy way) &&& 1 = 1 then some (1 : Int32) else some 0) = _
  rw [bi_ite]
  unfold brA
  congr 2
  by_cases q : (if way = true then decide (2 ≤ W (226 + (6 * y + x))) else decide (W (226 + (6 * y + x)) % 2 = 1)) = true
  · rw [q]; exact decide_eq_true ((s_bar hb way).mpr q)
  · rw [Bool.eq_false_iff.mpr q]; exact decide_eq_false (fun e => q ((s_bar hb way).mp e))
def tmA (W : Nat → Int) (x y : Nat) : Bool := decide (kdA W x y = 0 ∨ kdA W x y = 1)
theorem kdA_b {W : Nat → Int} {x y : Nat} (hW : TW W) (hx : x < 6) (hy : y < 9) : -1 ≤ kdA W x y ∧ kdA W x y ≤ 3 := by
  have h := (hW.2.2.2.2.2.2.2.2.2.2.1 (6 * y + x) (by omega)).1
  unfold kdA
  omega
theorem s_isTimed {W : Nat → Int} {τ : TS} {x y : Nat} (hW : TW W) (h : Rw W τ) (hx : x < 6) (hy : y < 9) : T_isTimed τ (i32 x) (i32 y) = some (bi (tmA W x y)) := by
  have hk := kdA_b (x := x) (y := y) hW hx hy
  unfold T_isTimed tmA
  rw [s_kindAt h hx hy]
  show (if i32 (kdA W x y) = 0 then some (1 : Int32) else if i32 (kdA W x y) = 1 then some 1 else some 0) = _
  rw [show (0 : Int32) = i32 0 from rfl, show (1 : Int32) = i32 1 from rfl]
  generalize kdA W x y = z at hk ⊢
  rcases (show z = -1 ∨ z = 0 ∨ z = 1 ∨ z = 2 ∨ z = 3 by omega) with rfl | rfl | rfl | rfl | rfl <;> decide
theorem bd_bi {α : Type} {p : Bool} {A B : Option α} : (some (bi p)).bind (fun v => if v = 0 then A else B) = if p = true then B else A := by
  cases p
  · show (if bi false = 0 then A else B) = _
    rw [if_pos (show bi false = 0 from rfl), if_neg (by decide)]
  · show (if bi true = 0 then A else B) = _
    rw [if_neg (show ¬ bi true = 0 by decide), if_pos rfl]
theorem bi_t {p : Bool} : (if p = true then some (1 : Int32) else some 0) = some (bi p) := by cases p <;> rfl
/-- one can ever go a way -/
def evA (W : Nat → Int) (x y : Nat) (way : Bool) : Bool := !tmA W x y || (if way = true then decide (ltA W x y 3 < ltA W x y 1) else decide (0 < ltA W x y 3))
def cgA (W : Nat → Int) (x y : Nat) (way : Bool) : Bool := thA W x y way && (!brA W x y way && evA W x y way)
theorem s_b48 {W : Nat → Int} {τ : TS} {x y : Nat} {way e : Bool} (hW : TW W) (h : Rw W τ) (hx : x < 6) (hy : y < 9) : T_canGo_b48 τ (i32 x) (i32 y) (wy way) (bi e) = some (bi (thA W x y way && (!brA W x y way && e))) := by
  unfold T_canGo_b48
  rw [s_isThere hW h hx hy, bd_bi, s_isBarred hW h hx hy, bd_bi]
  cases thA W x y way <;> cases brA W x y way <;> cases e <;> rfl
theorem ltA_b {W : Nat → Int} {x y : Nat} (hW : TW W) (hx : x < 6) (hy : y < 9) (hk : 0 ≤ kdA W x y) : (1 ≤ ltA W x y 1 ∧ ltA W x y 1 ≤ 60) ∧ (0 ≤ ltA W x y 2 ∧ ltA W x y 2 < ltA W x y 1) ∧ (0 ≤ ltA W x y 3 ∧ ltA W x y 3 ≤ ltA W x y 1) ∧ (kdA W x y ≤ 1 → W 9 % ltA W x y 1 = 0) := by
  have h := (hW.2.2.2.2.2.2.2.2.2.2.1 (6 * y + x) (by omega)).2 (by unfold kdA at hk; omega)
  unfold ltA
  unfold kdA
  rw [show 10 + 4 * (6 * y + x) + 1 = 11 + 4 * (6 * y + x) by omega, show 10 + 4 * (6 * y + x) + 2 = 12 + 4 * (6 * y + x) by omega, show 10 + 4 * (6 * y + x) + 3 = 13 + 4 * (6 * y + x) by omega]
  exact ⟨h.1, h.2.1, h.2.2.1, fun q => h.2.2.2 (by omega)⟩
theorem s_canGo {W : Nat → Int} {τ : TS} {x y : Nat} {way : Bool} (hW : TW W) (h : Rw W τ) (hx : x < 6) (hy : y < 9) : T_canGo τ (i32 x) (i32 y) (wy way) = some (bi (cgA W x y way)) := by
  unfold T_canGo cgA evA
  rw [s_isTimed hW h hx hy, bd_bi]
  cases ht : tmA W x y with
  | false =>
    rw [if_neg (by decide), show (1 : Int32) = bi true from rfl, s_b48 hW h hx hy]
    rfl
  | true =>
    have hk : 0 ≤ kdA W x y := by
      have := of_decide_eq_true ht
      omega
    have hl := ltA_b hW hx hy hk
    rw [if_pos rfl, show (3 : Int32) = i32 ((3 : Nat) : Int) from rfl, s_lightAt h hx hy (by omega)]
    cases way with
    | false =>
      rw [if_pos (show wy false = 0 from rfl)]
      show (if i32 (ltA W x y 3) ≤ 0 then T_canGo_b48 τ (i32 x) (i32 y) (wy false) (bi false) else T_canGo_b48 τ (i32 x) (i32 y) (wy false) (bi true)) = _
      rw [s_b48 hW h hx hy, s_b48 hW h hx hy, show (0 : Int32) = i32 0 from rfl]
      by_cases q : i32 (ltA W x y 3) ≤ i32 0
      · have q2 := (i32_le ⟨by omega, by omega⟩ ⟨by omega, by omega⟩).mp q
        have e1 : decide (0 < ltA W x y 3) = false := decide_eq_false (by omega)
        rw [if_pos q, if_neg (show ¬ false = true by decide), e1]
        rfl
      · have q2 : ¬ ltA W x y 3 ≤ 0 := fun e => q ((i32_le ⟨by omega, by omega⟩ ⟨by omega, by omega⟩).mpr e)
        have e1 : decide (0 < ltA W x y 3) = true := decide_eq_true (by omega)
        rw [if_neg q, if_neg (show ¬ false = true by decide), e1]
        rfl
    | true =>
      rw [if_neg (show ¬ wy true = 0 by decide)]
      show ((T_lightAt τ (i32 x) (i32 y) 1).bind fun v3 => if v3 ≤ i32 (ltA W x y 3) then T_canGo_b48 τ (i32 x) (i32 y) (wy true) (bi false) else T_canGo_b48 τ (i32 x) (i32 y) (wy true) (bi true)) = _
      rw [show (1 : Int32) = i32 ((1 : Nat) : Int) from rfl, s_lightAt h hx hy (by omega), s_b48 hW h hx hy, s_b48 hW h hx hy]
      show (if i32 (ltA W x y 1) ≤ i32 (ltA W x y 3) then _ else _) = _
      by_cases q : i32 (ltA W x y 1) ≤ i32 (ltA W x y 3)
      · have q2 := (i32_le ⟨by omega, by omega⟩ ⟨by omega, by omega⟩).mp q
        have e1 : decide (ltA W x y 3 < ltA W x y 1) = false := decide_eq_false (by omega)
        rw [if_pos q, if_pos rfl, e1]
        rfl
      · have q2 : ¬ ltA W x y 1 ≤ ltA W x y 3 := fun e => q ((i32_le ⟨by omega, by omega⟩ ⟨by omega, by omega⟩).mpr e)
        have e1 : decide (ltA W x y 3 < ltA W x y 1) = true := decide_eq_true (by omega)
        rw [if_neg q, if_pos rfl, e1]
        rfl
