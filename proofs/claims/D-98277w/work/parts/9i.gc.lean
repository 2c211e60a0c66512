/-! LAYER 2: greatest common divisors, a number's value: both sides -/
set_option maxRecDepth 100000
section GC
variable {s : CS} {τ : TS} {nf : Nat}
theorem gcd_st {a b : Nat} (h : 0 < b) : Nat.gcd a b = Nat.gcd b (a % b) := by
  rw [Nat.gcd_comm a b, Nat.gcd_rec b a, Nat.gcd_comm (a % b) b]
theorem mod_hf {b c : Nat} (h0 : 0 < c) (h : c < b) : 2 * (b % c) < b := by
  have h1 := Nat.mod_lt b h0
  have h2 := Nat.div_add_mod b c
  have h3 : 1 ≤ b / c := (Nat.one_le_div_iff h0).mpr (by omega)
  have h4 : c * 1 ≤ c * (b / c) := Nat.mul_le_mul_left c h3
  omega
theorem gc_0 {a d : Nat} : FX0_gcd s (d + 1) (i32 (a : Int)) (i32 ((0 : Nat) : Int)) = some (i32 (a : Int)) := by
  rw [show FX0_gcd s (d + 1) = FX0_gcd_s (FX0_gcd s d) s from rfl]
  unfold FX0_gcd_s
  exact if_pos rfl
theorem gc_s {a b d : Nat} (h0 : 0 < b) (ha : a < 2147483648) (hb : b < 2147483648) : FX0_gcd s (d + 1) (i32 (a : Int)) (i32 (b : Int)) = FX0_gcd s d (i32 (b : Int)) (i32 ((a % b : Nat) : Int)) := by
  have e : FX0_gcd s (d + 1) = FX0_gcd_s (FX0_gcd s d) s := rfl
  rw [e]
  unfold FX0_gcd_s
  rw [if_neg (show ¬ i32 (b : Int) = 0 from fun z => by have := (i32_eq (a := (b : Int)) (b := 0) ⟨by omega, by omega⟩ ⟨by omega, by omega⟩).mp z; omega), d32_c (by omega) (by omega), rem_c (by omega) (by omega) (by omega) (by omega), show ((a : Int) % (b : Int)) = ((a % b : Nat) : Int) from (Int.natCast_emod a b).symm]
  cases FX0_gcd s d (i32 (b : Int)) (i32 ((a % b : Nat) : Int)) <;> rfl
theorem gc_m : ∀ (m d a b : Nat), b < 2 ^ m → 2 * m + 1 ≤ d → a < 2147483648 → b < 2147483648 → FX0_gcd s d (i32 (a : Int)) (i32 (b : Int)) = some (i32 ((Nat.gcd a b : Nat) : Int)) := by
  intro m
  induction m with
  | zero =>
    intro d a b hb hd ha hb2
    obtain ⟨d, rfl⟩ : ∃ q, d = q + 1 := ⟨d - 1, by omega⟩
    have : b = 0 := by omega
    subst this
    rw [gc_0, Nat.gcd_zero_right]
  | succ m ih =>
    intro d a b hb hd ha hb2
    rw [Nat.pow_succ] at hb
    obtain ⟨d, rfl⟩ : ∃ q, d = q + 2 := ⟨d - 2, by omega⟩
    by_cases q : b = 0
    · subst q
      rw [gc_0 (d := d + 1), Nat.gcd_zero_right]
    · have hr := Nat.mod_lt a (show b > 0 by omega)
      rw [gc_s (d := d + 1) (by omega) ha hb2, gcd_st (show 0 < b by omega)]
      by_cases q2 : a % b = 0
      · rw [q2, gc_0, Nat.gcd_zero_right]
      · have hh := mod_hf (b := b) (c := a % b) (by omega) hr
        rw [gc_s (by omega) hb2 (by omega), gcd_st (show 0 < a % b by omega)]
        exact ih d _ _ (by omega) (by omega) (by omega) (by omega)
/-- the component's -/
theorem c_gcdI {a b : Nat} (ha : a < 2147483648) (hb : b < 16777216) : FX0_gcd s 50 (i32 (a : Int)) (i32 (b : Int)) = some (i32 ((Nat.gcd a b : Nat) : Int)) := gc_m 24 50 a b (by omega) (by omega) ha (by omega)
theorem tg_0 {a d : Nat} : T_common_b4 nf τ (d + 1) (i32 (a : Int)) (i32 ((0 : Nat) : Int)) = some (i32 (a : Int)) := by
  rw [show T_common_b4 nf τ (d + 1) = T_common_b4_s nf τ (T_common_b4 nf τ d) from rfl]
  unfold T_common_b4_s
  exact if_pos rfl
theorem tg_s {a b d : Nat} (h0 : 0 < b) (ha : a < 2147483648) (hb : b < 2147483648) : T_common_b4 nf τ (d + 1) (i32 (a : Int)) (i32 (b : Int)) = T_common_b4 nf τ d (i32 (b : Int)) (i32 ((a % b : Nat) : Int)) := by
  have e : T_common_b4 nf τ (d + 1) = T_common_b4_s nf τ (T_common_b4 nf τ d) := rfl
  rw [e]
  unfold T_common_b4_s
  rw [if_neg (show ¬ i32 (b : Int) = 0 from fun z => by have := (i32_eq (a := (b : Int)) (b := 0) ⟨by omega, by omega⟩ ⟨by omega, by omega⟩).mp z; omega), d32_c (by omega) (by omega), rem_c (by omega) (by omega) (by omega) (by omega), show ((a : Int) % (b : Int)) = ((a % b : Nat) : Int) from (Int.natCast_emod a b).symm, nm_eq]
theorem tg_m : ∀ (d a b : Nat), b < d → a < 2147483648 → b < 2147483648 → T_common_b4 nf τ d (i32 (a : Int)) (i32 (b : Int)) = some (i32 ((Nat.gcd a b : Nat) : Int)) := by
  intro d
  induction d with
  | zero => intro a b h; omega
  | succ d ih =>
    intro a b h ha hb
    by_cases q : b = 0
    · subst q
      rw [tg_0, Nat.gcd_zero_right]
    · have hr := Nat.mod_lt a (show b > 0 by omega)
      rw [tg_s (by omega) ha hb, gcd_st (show 0 < b by omega)]
      exact ih _ _ (by omega) hb (by omega)
/-- the twin's -/
theorem t_common {a b : Nat} (hn : b < nf) (ha : a < 2147483648) (hb : b < 2147483648) : T_common nf τ (i32 (a : Int)) (i32 (b : Int)) = some (i32 ((Nat.gcd a b : Nat) : Int)) := tg_m nf a b hn ha hb
end GC
section VA
variable {r ta n : Nat} {t : Nat → Int} {s : CS} {nf : Nat}
theorem va_7 (hT : TO t n) {f : Nat} (hR : Rf s r ta t n f) (h2 : tE t n f - f ≤ 4) (hd : ∀ j, f ≤ j → j < tE t n f → isD (t j) = true) (hfn : f < n) : ∀ (d m i : Nat) (v : Int), tE t n f - i = d → d < m → f ≤ i → i ≤ tE t n f → FX1_value_b7 nf s m r (i32 v) (i32 (i : Int)) = some (i32 (nvF t f d i v)) := by
  obtain ⟨⟨h1, h3, h4, h5, h6⟩, g2, g3, g4, g5⟩ := id hR
  have hn := hT.1
  have he := (tE_b (t := t) (n := n) (f := f)).1 hfn
  have k1 : isK s r [1] = true := isK_o h1 rfl
  intro d
  induction d with
  | zero =>
    intro m i v q1 q2 q3 q4
    obtain ⟨m, rfl⟩ : ∃ q, m = q + 1 := ⟨m - 1, by omega⟩
    rw [show FX1_value_b7 nf s (m + 1) = FX1_value_b7_s nf s (FX1_value_b7 nf s m) from rfl]
    unfold FX1_value_b7_s
    rw [gI_t k1, g2, if_pos ((i32_le ⟨by omega, by omega⟩ ⟨by omega, by omega⟩).mpr (by omega))]
    rfl
  | succ d ih =>
    intro m i v q1 q2 q3 q4
    obtain ⟨m, rfl⟩ : ∃ q, m = q + 1 := ⟨m - 1, by omega⟩
    rw [show FX1_value_b7 nf s (m + 1) = FX1_value_b7_s nf s (FX1_value_b7 nf s m) from rfl]
    unfold FX1_value_b7_s
    rw [gI_t k1, g2, if_neg (show ¬ i32 (tE t n f : Int) ≤ i32 (i : Int) from fun q => by have := (i32_le (a := (tE t n f : Int)) (b := (i : Int)) ⟨by omega, by omega⟩ ⟨by omega, by omega⟩).mp q; omega), gR_t k1, h4, nn_eq, lI_i h3 (by omega) (by omega) (by omega), Int.toNat_natCast, h6 i (by omega), nm_eq, show (10 : Int32) = i32 10 from rfl, show (48 : Int32) = i32 48 from rfl, show (1 : Int32) = i32 1 from rfl, i32_mul, i32_add, i32_sub, i32_add, show (i : Int) + 1 = ((i + 1 : Nat) : Int) by omega, ih m (i + 1) _ (by omega) (by omega) (by omega) (by omega)]
    show some (i32 (nvF t f d (i + 1) (v * 10 + t i - 48))) = some (i32 (nvF t f d (i + 1) (if i - f < 4 then 10 * v + t i - 48 else v)))
    rw [if_pos (show i - f < 4 by omega), Int.mul_comm v 10]
theorem tS_24 {f : Nat} (h : tS t n f = 2) : tE t n f - f ≤ 4 ∧ ∀ j, f ≤ j → j < tE t n f → isD (t j) = true := by
  obtain ⟨h1, h2, h3⟩ := tS_2 h
  constructor
  · refine Decidable.byContradiction fun q => ?_
    unfold tS at h
    rw [if_neg (show ¬ n ≤ f by omega), h2, h3, if_neg (show ¬ (false = true) by decide), if_pos rfl, if_neg q] at h
    cases h
  · rw [tE_D h1 h2 h3]
    exact (run_in (n - f) f (Nat.le_refl _)).1
/-- a number's value, read anew -/
theorem c_value (hnf : 100 ≤ nf) (hT : TO t n) {f : Nat} (hR : Rf s r ta t n f) (h : tS t n f = 2) : FX1_value nf s r = some (i32 (nV t n f)) := by
  obtain ⟨q1, q2⟩ := tS_24 h
  have he := (tE_b (t := t) (n := n) (f := f)).1 (tS_2 h).1
  have k1 : isK s r [1] = true := isK_o hR.1.1 rfl
  unfold FX1_value
  rw [gd_t k1, gI_t k1, hR.2.2.2.1]
  exact va_7 hT hR q1 q2 (tS_2 h).1 (tE t n f - f) nf f 0 rfl (by omega) (Nat.le_refl _) (by omega)
end VA
