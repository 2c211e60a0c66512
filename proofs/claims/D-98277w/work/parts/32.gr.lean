/-! LAYER 2: the twin's lights: green, waits -/
set_option maxRecDepth 100000
theorem i32_tdiv {a b : Int} (ha : ok32 a) (hb : ok32 b) (hb0 : 0 < b) : i32 a / i32 b = i32 (a.tdiv b) := by
  apply Int32.toInt_inj.mp
  have hq : ok32 (a.tdiv b) := by
    have h1 : (a.tdiv b).natAbs ≤ a.natAbs := Int.natAbs_tdiv_le_natAbs a b
    have h2 := ha.1
    have h3 := ha.2
    rcases Int.le_total 0 a with h | h
    · have h4 : 0 ≤ a.tdiv b := Int.tdiv_nonneg h (by omega)
      exact ⟨by omega, by omega⟩
    · have h5 : 0 ≤ (-a).tdiv b := Int.tdiv_nonneg (by omega) (by omega)
      rw [Int.neg_tdiv] at h5
      exact ⟨by omega, by omega⟩
  rw [Int32.toInt_div, i32_toInt ha, i32_toInt hb, i32_toInt hq]
  exact Int.bmod_eq_of_le (by have := hq.1; omega) (by have := hq.2; omega)
theorem i32_tmod {a b : Int} (ha : ok32 a) (hb : ok32 b) (hb0 : 0 < b) : rem32 (i32 a) (i32 b) = i32 (a.tmod b) := by
  unfold rem32
  rw [i32_tdiv ha hb hb0, i32_mul, i32_sub]
  congr 1
  have := Int.tmod_def a b
  rw [this, Int.mul_comm]
theorem tmod_b {a b : Int} (hb0 : 0 < b) : -b < a.tmod b ∧ a.tmod b < b ∧ (a.tmod b + b) % b = a % b := by
  have h1 := Int.tmod_lt_of_pos a hb0
  have h2 := Int.tmod_lt_of_pos (-a) hb0
  rw [Int.neg_tmod] at h2
  refine ⟨by omega, h1, ?_⟩
  rw [Int.add_emod_right]
  have h3 := Int.tmod_def a b
  rw [h3]
  rw [Int.sub_mul_emod_self_left]
/-- the phase of a light at a second -/
def phA (W : Nat → Int) (x y : Nat) (sec : Int) : Int := (sec - ltA W x y 2) % ltA W x y 1
def grA (W : Nat → Int) (x y : Nat) (way : Bool) (sec : Int) : Bool := if way = true then decide (ltA W x y 3 ≤ phA W x y sec) else decide (phA W x y sec < ltA W x y 3)
theorem s_isGreen {W : Nat → Int} {τ : TS} {x y : Nat} {way : Bool} {sec : Int} (hW : TW W) (h : Rw W τ) (hx : x < 6) (hy : y < 9) (hk : 0 ≤ kdA W x y) (hs : 0 ≤ sec ∧ sec ≤ 2000000000) : T_isGreen τ (i32 x) (i32 y) (wy way) (i32 sec) = some (bi (grA W x y way sec)) := by
  obtain ⟨l1, l2, l3, -⟩ := ltA_b hW hx hy hk
  unfold T_isGreen
  rw [show (1 : Int32) = i32 ((1 : Nat) : Int) from rfl, show (2 : Int32) = i32 ((2 : Nat) : Int) from rfl, show (3 : Int32) = i32 ((3 : Nat) : Int) from rfl, s_lightAt h hx hy (by omega), s_lightAt h hx hy (by omega), s_lightAt h hx hy (by omega)]
  have hr0 : ¬ i32 (ltA W x y 1) = 0 := fun e => by
    rw [show (0 : Int32) = i32 0 from rfl] at e
    have := (i32_eq ⟨by omega, by omega⟩ ⟨by omega, by omega⟩).mp e
    omega
  have hb := tmod_b (a := sec - ltA W x y 2) (b := ltA W x y 1) (by omega)
  have e : rem32 (rem32 (i32 sec - i32 (ltA W x y 2)) (i32 (ltA W x y 1)) + i32 (ltA W x y 1)) (i32 (ltA W x y 1)) = i32 (phA W x y sec) := by
    rw [i32_sub, i32_tmod ⟨by omega, by omega⟩ ⟨by omega, by omega⟩ (by omega), i32_add, i32_rem ⟨by omega, by omega⟩ ⟨by omega, by omega⟩ (by omega) (by omega), hb.2.2]
    rfl
  have hp0 : 0 ≤ phA W x y sec := Int.emod_nonneg _ (by omega)
  have hp1 : phA W x y sec < ltA W x y 1 := Int.emod_lt_of_pos _ (by omega)
  show d32 (i32 (ltA W x y 1)) (d32 (i32 (ltA W x y 1)) (nm (rem32 (rem32 (i32 sec - i32 (ltA W x y 2)) (i32 (ltA W x y 1)) + i32 (ltA W x y 1)) (i32 (ltA W x y 1))) fun v3 => if i32 (ltA W x y 3) ≤ v3 then T_isGreen_b47 τ (wy way) 0 else T_isGreen_b47 τ (wy way) 1)) = _
  unfold d32
  rw [if_neg hr0, if_neg hr0, e]
  show (if i32 (ltA W x y 3) ≤ i32 (phA W x y sec) then T_isGreen_b47 τ (wy way) 0 else T_isGreen_b47 τ (wy way) 1) = _
  have q1 := i32_le (a := ltA W x y 3) (b := phA W x y sec) ⟨by omega, by omega⟩ ⟨by omega, by omega⟩
  unfold grA
  by_cases q : ltA W x y 3 ≤ phA W x y sec
  · rw [if_pos (q1.mpr q)]
    have e2 : decide (ltA W x y 3 ≤ phA W x y sec) = true := decide_eq_true q
    have e3 : decide (phA W x y sec < ltA W x y 3) = false := decide_eq_false (by omega)
    rw [e2, e3]
    cases way <;> rfl
  · rw [if_neg (fun z => q (q1.mp z))]
    have e2 : decide (ltA W x y 3 ≤ phA W x y sec) = false := decide_eq_false q
    have e3 : decide (phA W x y sec < ltA W x y 3) = true := decide_eq_true (by omega)
    rw [e2, e3]
    cases way <;> rfl
/-- how long one waits for a way that one can ever go -/
def wtA (W : Nat → Int) (x y : Nat) (way : Bool) (sec : Int) : Int := if kdA W x y = 2 then (if way = true then 0 else ltA W x y 2) else if tmA W x y = true then (if grA W x y way sec = true then 0 else if way = true then ltA W x y 3 - phA W x y sec else ltA W x y 1 - phA W x y sec) else 0
theorem ph_add {W : Nat → Int} {x y : Nat} {sec j : Int} : phA W x y (sec + j) = (phA W x y sec + j) % ltA W x y 1 := by
  unfold phA
  rw [Int.emod_add_emod]
  congr 1
  omega
theorem wt_b {W : Nat → Int} {x y : Nat} {way : Bool} {sec : Int} (hW : TW W) (hx : x < 6) (hy : y < 9) (he : evA W x y way = true) : 0 ≤ wtA W x y way sec ∧ wtA W x y way sec ≤ 59 := by
  unfold wtA
  by_cases h2 : kdA W x y = 2
  · rw [if_pos h2]
    have hl := ltA_b hW hx hy (by omega)
    cases way with
    | true => rw [if_pos rfl]; omega
    | false => rw [if_neg (by decide)]; omega
  · rw [if_neg h2]
    cases ht : tmA W x y with
    | false => rw [if_neg (by decide)]; omega
    | true =>
      rw [if_pos rfl]
      have hk := of_decide_eq_true ht
      have hl := ltA_b hW hx hy (by omega)
      have p0 : 0 ≤ phA W x y sec := Int.emod_nonneg _ (by omega)
      have p1 : phA W x y sec < ltA W x y 1 := Int.emod_lt_of_pos _ (by omega)
      unfold evA at he
      rw [ht] at he
      unfold grA
      cases way with
      | true =>
        have he : decide (ltA W x y 3 < ltA W x y 1) = true := he
        have he := of_decide_eq_true he
        rw [if_pos rfl]
        by_cases q : ltA W x y 3 ≤ phA W x y sec
        · rw [if_pos (decide_eq_true q)]; omega
        · rw [if_neg (by rw [decide_eq_false q]; decide), if_pos rfl]; omega
      | false =>
        have he : decide (0 < ltA W x y 3) = true := he
        have he := of_decide_eq_true he
        simp only [Bool.false_eq_true, if_false, decide_eq_true_eq]
        by_cases q : phA W x y sec < ltA W x y 3
        · rw [if_pos q]; omega
        · rw [if_neg q]; omega
theorem gr_wait {W : Nat → Int} {x y : Nat} {way : Bool} {sec : Int} (hW : TW W) (hx : x < 6) (hy : y < 9) (ht : tmA W x y = true) (he : evA W x y way = true) : grA W x y way (sec + wtA W x y way sec) = true ∧ ∀ j, 0 ≤ j → j < wtA W x y way sec → grA W x y way (sec + j) = false := by
  have hk := of_decide_eq_true ht
  have hl := ltA_b hW hx hy (by omega)
  have p0 : 0 ≤ phA W x y sec := Int.emod_nonneg _ (by omega)
  have p1 : phA W x y sec < ltA W x y 1 := Int.emod_lt_of_pos _ (by omega)
  unfold evA at he
  rw [ht] at he
  unfold wtA
  rw [if_neg (by omega), ht, if_pos rfl]
  unfold grA
  rw [ph_add]
  cases way with
  | true =>
    have he : decide (ltA W x y 3 < ltA W x y 1) = true := he
    have he := of_decide_eq_true he
    simp only [if_true, decide_eq_true_eq, decide_eq_false_iff_not]
    by_cases q : ltA W x y 3 ≤ phA W x y sec
    · rw [if_pos q]
      refine ⟨by rw [Int.add_zero, Int.emod_eq_of_lt p0 p1]; exact q, fun j h0 h1 => by omega⟩
    · rw [if_neg q]
      refine ⟨by rw [show phA W x y sec + (ltA W x y 3 - phA W x y sec) = ltA W x y 3 by omega, Int.emod_eq_of_lt (by omega) he]; exact Int.le_refl _, fun j h0 h1 => ?_⟩
      rw [ph_add, Int.emod_eq_of_lt (by omega) (by omega)]
      omega
  | false =>
    have he : decide (0 < ltA W x y 3) = true := he
    have he := of_decide_eq_true he
    simp only [Bool.false_eq_true, if_false, decide_eq_true_eq, decide_eq_false_iff_not]
    by_cases q : phA W x y sec < ltA W x y 3
    · rw [if_pos q]
      refine ⟨by rw [Int.add_zero, Int.emod_eq_of_lt p0 p1]; exact q, fun j h0 h1 => by omega⟩
    · rw [if_neg q]
      refine ⟨by rw [show phA W x y sec + (ltA W x y 1 - phA W x y sec) = ltA W x y 1 by omega, Int.emod_self]; exact he, fun j h0 h1 => ?_⟩
      rw [ph_add, Int.emod_eq_of_lt (by omega) (by omega)]
      omega
theorem s_waitLoop {W : Nat → Int} {τ : TS} {nf x y : Nat} {way : Bool} {sec : Int} (hW : TW W) (h : Rw W τ) (hx : x < 6) (hy : y < 9) (hs : 0 ≤ sec ∧ sec ≤ 1900000000) (ht : tmA W x y = true) (he : evA W x y way = true) : ∀ (d n : Nat) (k : Int), 0 ≤ k → k + d = wtA W x y way sec → d < n → T_waitFor_b29 nf τ n (i32 x) (i32 y) (wy way) (i32 sec) (i32 k) = some (i32 (wtA W x y way sec)) := by
  have hk := of_decide_eq_true ht
  have hg := gr_wait (sec := sec) hW hx hy ht he
  have hwb := wt_b (sec := sec) hW hx hy he
  intro d
  induction d with
  | zero =>
    intro n k h0 h1 h2
    obtain ⟨n, rfl⟩ : ∃ m, n = m + 1 := ⟨n - 1, by omega⟩
    have e : k = wtA W x y way sec := by omega
    subst e
    show T_waitFor_b29_s nf τ (T_waitFor_b29 nf τ n) (i32 x) (i32 y) (wy way) (i32 sec) (i32 (wtA W x y way sec)) = _
    unfold T_waitFor_b29_s
    rw [s_isTimed hW h hx hy, bd_bi, ht, if_pos rfl, i32_add, s_isGreen hW h hx hy (by omega) (by omega), bd_bi, hg.1, if_pos rfl]
  | succ d ih =>
    intro n k h0 h1 h2
    obtain ⟨n, rfl⟩ : ∃ m, n = m + 1 := ⟨n - 1, by omega⟩
    show T_waitFor_b29_s nf τ (T_waitFor_b29 nf τ n) (i32 x) (i32 y) (wy way) (i32 sec) (i32 k) = _
    unfold T_waitFor_b29_s
    rw [s_isTimed hW h hx hy, bd_bi, ht, if_pos rfl, i32_add, s_isGreen hW h hx hy (by omega) (by omega), bd_bi, hg.2 k h0 (by omega), if_neg (by decide), show (1 : Int32) = i32 1 from rfl, i32_add]
    exact ih n (k + 1) (by omega) (by omega) (by omega)
theorem s_waitFor {W : Nat → Int} {τ : TS} {nf x y : Nat} {way : Bool} {sec : Int} (hn : 100 ≤ nf) (hW : TW W) (h : Rw W τ) (hx : x < 6) (hy : y < 9) (hs : 0 ≤ sec ∧ sec ≤ 1900000000) (he : evA W x y way = true) : T_waitFor nf τ (i32 x) (i32 y) (wy way) (i32 sec) = some (i32 (wtA W x y way sec)) := by
  have hk := kdA_b (x := x) (y := y) hW hx hy
  have hwb := wt_b (sec := sec) hW hx hy he
  unfold T_waitFor
  rw [s_kindAt h hx hy]
  show (if i32 (kdA W x y) = 2 then _ else _) = _
  have q2 := i32_eq (a := kdA W x y) (b := 2) ⟨by omega, by omega⟩ ⟨by omega, by omega⟩
  rw [show (2 : Int32) = i32 2 from rfl]
  by_cases h2 : kdA W x y = 2
  · rw [if_pos (q2.mpr h2)]
    unfold wtA
    rw [if_pos h2]
    cases way with
    | true => rfl
    | false =>
      rw [if_pos (show wy false = 0 from rfl), show i32 2 = i32 ((2 : Nat) : Int) from rfl, s_lightAt h hx hy (by omega), if_neg (by decide)]
      rfl
  · rw [if_neg (fun z => h2 (q2.mp z))]
    cases ht : tmA W x y with
    | true =>
      obtain ⟨d, hd⟩ : ∃ d : Nat, (0 : Int) + d = wtA W x y way sec := ⟨(wtA W x y way sec).toNat, by omega⟩
      exact s_waitLoop hW h hx hy hs ht he d nf 0 (by omega) hd (by omega)
    | false =>
      obtain ⟨n, rfl⟩ : ∃ m, nf = m + 1 := ⟨nf - 1, by omega⟩
      show T_waitFor_b29_s (n + 1) τ (T_waitFor_b29 (n + 1) τ n) (i32 x) (i32 y) (wy way) (i32 sec) 0 = _
      unfold T_waitFor_b29_s wtA
      rw [s_isTimed hW h hx hy, bd_bi, ht, if_neg (by decide), if_neg h2, if_neg (by decide)]
      rfl
