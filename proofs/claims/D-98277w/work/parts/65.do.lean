/-! LAYER 2: what a button does: odds of tries -/
set_option maxRecDepth 100000
/-- Fibonacci's numbers; how many steps Euclid takes -/
def fib2 : Nat → Nat × Nat
  | 0 => (0, 1)
  | n + 1 => ((fib2 n).2, (fib2 n).1 + (fib2 n).2)
theorem fib_89 : (fib2 89).1 = 1779979416004714189 := by decide +kernel
theorem lame {n a b : Nat} (hb : b < a) (h : a < (fib2 n).2 ∨ b < (fib2 n).1) (h0 : 0 < b) : ∃ m, n = m + 1 ∧ a % b < b ∧ (b < (fib2 m).2 ∨ a % b < (fib2 m).1) := by
  cases n with
  | zero =>
    exfalso
    rcases h with h | h
    · have : a < 1 := h
      omega
    · have : b < 0 := h
      omega
  | succ m =>
    refine ⟨m, rfl, Nat.mod_lt _ h0, ?_⟩
    by_cases q : b < (fib2 m).2
    · exact .inl q
    · right
      have h1 : a < (fib2 m).1 + (fib2 m).2 := by
        rcases h with h | h
        · exact h
        · exact absurd h q
      have h2 : a % b ≤ a - b := by
        rw [Nat.mod_eq_sub_mod (by omega)]
        exact Nat.mod_le _ _
      omega
theorem n64 {a : Nat} (h : a < 9223372036854775808) : ok64 (a : Int) := ⟨by omega, by omega⟩
theorem c_gcd {s : CS} : ∀ (n a b : Nat), a < 9223372036854775808 → b < a → (a < (fib2 n).2 ∨ b < (fib2 n).1) → FX0_gcd_2 s (n + 1) (i64 (a : Int)) (i64 (b : Int)) = some (i64 ((Nat.gcd a b : Nat) : Int)) := by
  intro n
  induction n with
  | zero =>
    intro a b ha hb h
    rw [show FX0_gcd_2 s (0 + 1) = FX0_gcd_2_s (FX0_gcd_2 s 0) s from rfl]
    unfold FX0_gcd_2_s
    have e : b = 0 := by
      rcases Nat.eq_zero_or_pos b with e | e
      · exact e
      · obtain ⟨m, h1, -⟩ := lame hb h e
        omega
    rw [e, if_pos (show i64 ((0 : Nat) : Int) = (0 : Int64) from rfl), Nat.gcd_zero_right]
  | succ n ih =>
    intro a b ha hb h
    rw [show FX0_gcd_2 s (n + 1 + 1) = FX0_gcd_2_s (FX0_gcd_2 s (n + 1)) s from rfl]
    unfold FX0_gcd_2_s
    rcases Nat.eq_zero_or_pos b with e | e
    · rw [e, if_pos (show i64 ((0 : Nat) : Int) = (0 : Int64) from rfl), Nat.gcd_zero_right]
    · obtain ⟨m, h1, h2, h3⟩ := lame hb h e
      obtain rfl : m = n := by omega
      have hz : ¬ i64 (b : Int) = (0 : Int64) := fun z => by
        have := (i64_eq (n64 (by omega)) (show ok64 0 from ⟨by omega, by omega⟩)).mp z
        omega
      rw [if_neg hz, d64_n (n64 (by omega)) (by omega), i64_rem (n64 ha) (n64 (by omega)) (by omega) (by omega), show (a : Int) % (b : Int) = ((a % b : Nat) : Int) from rfl, ih b (a % b) (by omega) h2 h3, bd_eq, Nat.gcd_comm a b, Nat.gcd_rec b a, Nat.gcd_comm]
/-- the products of the tries at a corner: round R, over O -/
def dnV (σ : Nat → Int) (c R O : Int) : Nat → Int × Int
  | 0 => (1, 1)
  | k + 1 => if σ (60 + 3 * k) = c ∧ σ (61 + 3 * k) = 1 then (if σ (62 + 3 * k) ≤ O then (dnV σ c R O k).1 * R else 0, if σ (62 + 3 * k) < R then (dnV σ c R O k).2 * (O + 1) else 0) else dnV σ c R O k
def p60 : Nat → Int
  | 0 => 1
  | k + 1 => p60 k * 60
theorem p60_b : ∀ k, k ≤ 10 → 1 ≤ p60 k ∧ p60 k ≤ 604661760000000000 := by decide
theorem mul_b {a b A : Int} (h1 : 0 ≤ a) (h2 : a ≤ A) (h3 : 0 ≤ b) (h4 : b ≤ 60) : 0 ≤ a * b ∧ a * b ≤ A * 60 := ⟨Int.mul_nonneg h1 h3, Int.mul_le_mul h2 h4 h3 (by omega)⟩
theorem dnV_s {σ : Nat → Int} {c R O : Int} {k : Nat} : dnV σ c R O (k + 1) = if σ (60 + 3 * k) = c ∧ σ (61 + 3 * k) = 1 then (if σ (62 + 3 * k) ≤ O then (dnV σ c R O k).1 * R else 0, if σ (62 + 3 * k) < R then (dnV σ c R O k).2 * (O + 1) else 0) else dnV σ c R O k := rfl
theorem dnV_b {σ : Nat → Int} {c R O : Int} (hR : 0 ≤ R ∧ R ≤ 60) (hO : 0 ≤ O ∧ O < 60) : ∀ k, k ≤ 10 → (0 ≤ (dnV σ c R O k).1 ∧ (dnV σ c R O k).1 ≤ p60 k) ∧ 0 ≤ (dnV σ c R O k).2 ∧ (dnV σ c R O k).2 ≤ p60 k := by
  intro k
  induction k with
  | zero => intro _; exact ⟨⟨show (0 : Int) ≤ 1 by decide, show (1 : Int) ≤ 1 by decide⟩, show (0 : Int) ≤ 1 by decide, show (1 : Int) ≤ 1 by decide⟩
  | succ k ih =>
    intro hk
    obtain ⟨⟨h1, h2⟩, h3, h4⟩ := ih (by omega)
    have hp := p60_b k (by omega)
    have m1 := mul_b h1 h2 hR.1 hR.2
    have m2 := mul_b h3 h4 (show 0 ≤ O + 1 by omega) (by omega)
    show (0 ≤ (if σ (60 + 3 * k) = c ∧ σ (61 + 3 * k) = 1 then (if σ (62 + 3 * k) ≤ O then (dnV σ c R O k).1 * R else 0, if σ (62 + 3 * k) < R then (dnV σ c R O k).2 * (O + 1) else 0) else dnV σ c R O k).1 ∧ (if σ (60 + 3 * k) = c ∧ σ (61 + 3 * k) = 1 then (if σ (62 + 3 * k) ≤ O then (dnV σ c R O k).1 * R else 0, if σ (62 + 3 * k) < R then (dnV σ c R O k).2 * (O + 1) else 0) else dnV σ c R O k).1 ≤ p60 k * 60) ∧ 0 ≤ (if σ (60 + 3 * k) = c ∧ σ (61 + 3 * k) = 1 then (if σ (62 + 3 * k) ≤ O then (dnV σ c R O k).1 * R else 0, if σ (62 + 3 * k) < R then (dnV σ c R O k).2 * (O + 1) else 0) else dnV σ c R O k).2 ∧ (if σ (60 + 3 * k) = c ∧ σ (61 + 3 * k) = 1 then (if σ (62 + 3 * k) ≤ O then (dnV σ c R O k).1 * R else 0, if σ (62 + 3 * k) < R then (dnV σ c R O k).2 * (O + 1) else 0) else dnV σ c R O k).2 ≤ p60 k * 60
    by_cases q : σ (60 + 3 * k) = c ∧ σ (61 + 3 * k) = 1
    · rw [if_pos q]
      refine ⟨?_, ?_⟩
      · show 0 ≤ (if σ (62 + 3 * k) ≤ O then (dnV σ c R O k).1 * R else 0) ∧ (if σ (62 + 3 * k) ≤ O then (dnV σ c R O k).1 * R else 0) ≤ p60 k * 60
        split
        · exact m1
        · omega
      · show 0 ≤ (if σ (62 + 3 * k) < R then (dnV σ c R O k).2 * (O + 1) else 0) ∧ (if σ (62 + 3 * k) < R then (dnV σ c R O k).2 * (O + 1) else 0) ≤ p60 k * 60
        split
        · exact m2
        · omega
    · rw [if_neg q]
      omega
/-- the part, without what goes into both -/
def doF (p : Int × Int) (w : Int) : Int64 := if p.1 + p.2 = 0 then -1 else (if w = 0 then i64 p.1 else i64 (p.1 + p.2)) / i64 ((Nat.gcd (p.1 + p.2).toNat p.1.toNat : Nat) : Int)
def doV (W σ : Nat → Int) (x y w : Int) : Int64 := if (((0 ≤ x ∧ x < W 0) ∧ 0 ≤ y ∧ y < W 1) ∧ W (10 + 4 * (6 * y.toNat + x.toNat)) = 3) ∧ 0 ≤ w ∧ w ≤ 1 then doF (dnV σ (6 * y + x) (W (11 + 4 * (6 * y.toNat + x.toNat))) (W (12 + 4 * (6 * y.toNat + x.toNat))) (σ 58).toNat) w else -1
section DO
variable {g : Nat → Nat} {ρ : Nat → Nat × Nat} {W : Nat → Int} {S : Nat → Nat → Int} {V m Tp : Nat → Int} {RC : Nat → List (Nat × Int)} {s : CS} {τ : TS} {T : Int} {nf : Nat}
theorem c_gcd1 {a b : Nat} (ha : a < 1779979416004714189) (hb : b ≤ a) : FX0_gcd_2 s 100 (i64 (a : Int)) (i64 (b : Int)) = some (i64 ((Nat.gcd a b : Nat) : Int)) := by
  have hf := fib_89
  rw [show (100 : Nat) = 99 + 1 from rfl]
  rw [show FX0_gcd_2 s (99 + 1) = FX0_gcd_2_s (FX0_gcd_2 s 99) s from rfl]
  unfold FX0_gcd_2_s
  rcases Nat.eq_zero_or_pos b with e | e
  · rw [e, if_pos (show i64 ((0 : Nat) : Int) = (0 : Int64) from rfl), Nat.gcd_zero_right]
  · have hz : ¬ i64 (b : Int) = (0 : Int64) := fun z => by
      have := (i64_eq (n64 (by omega)) (show ok64 0 from ⟨by omega, by omega⟩)).mp z
      omega
    have hm := Nat.mod_lt a e
    have h99 : (fib2 89).1 ≤ (fib2 98).2 := by decide +kernel
    rw [if_neg hz, d64_n (n64 (by omega)) (by omega), i64_rem (n64 (by omega)) (n64 (by omega)) (by omega) (by omega), show (a : Int) % (b : Int) = ((a % b : Nat) : Int) from rfl, c_gcd 98 b (a % b) (by omega) hm (.inl (by omega)), bd_eq, Nat.gcd_comm a b, Nat.gcd_rec b a, Nat.gcd_comm]
theorem do_191 {p : Int × Int} {w : Int} (h1 : 0 ≤ p.1) (h2 : 0 ≤ p.2) (h3 : p.1 + p.2 < 1779979416004714189) (h0 : ¬ p.1 + p.2 = 0) (v : Int64) : FX0_does_b191 nf s (i64 p.1) (i64 (p.1 + p.2)) v = some (v / i64 ((Nat.gcd (p.1 + p.2).toNat p.1.toNat : Nat) : Int)) := by
  unfold FX0_does_b191
  have e1 : p.1 + p.2 = (((p.1 + p.2).toNat : Nat) : Int) := by omega
  have e2 : p.1 = ((p.1.toNat : Nat) : Int) := by omega
  have hg : 0 < Nat.gcd (p.1 + p.2).toNat p.1.toNat := Nat.gcd_pos_of_pos_left _ (by omega)
  have hg2 : Nat.gcd (p.1 + p.2).toNat p.1.toNat ≤ (p.1 + p.2).toNat := Nat.gcd_le_left _ (by omega)
  have L := c_gcd1 (s := s) (a := (p.1 + p.2).toNat) (b := p.1.toNat) (by omega) (by omega)
  rw [← e1, ← e2] at L
  rw [L, bd_eq, d64_n (n64 (by omega)) (by omega)]
theorem cdo_loop (b : B g ρ W S V m Tp RC s) (hS2 : SW2 W (S 0)) {x y w : Int} (hx : 0 ≤ x ∧ x < 6) (hy : 0 ≤ y ∧ y < 9) (hw : 0 ≤ w ∧ w ≤ 1) {l : Nat} {R O : Int} (hR : 0 ≤ R ∧ R ≤ 60) (hO : 0 ≤ O ∧ O < 60) (hl1 : ∀ (α : Type) (K : Int32 → Option α), gI s l [12, 13, 14, 15] 1100 K = K (i32 R)) (hl2 : ∀ (α : Type) (K : Int32 → Option α), gI s l [12, 13, 14, 15] 1101 K = K (i32 O)) : ∀ (d n k : Nat), (k : Int) + d = S 0 58 → d < n → FX0_does_b39 nf s n (g 0) (i32 x) (i32 y) (i32 w) (some l) (i64 (dnV (S 0) (6 * y + x) R O k).1) (i64 (dnV (S 0) (6 * y + x) R O k).2) (i32 (k : Int)) = some (doF (dnV (S 0) (6 * y + x) R O (S 0 58).toNat) w) := by
  obtain ⟨z1, z2, z3, z4⟩ := hS2
  obtain ⟨o1, o2, o3, o4, o5, -⟩ := b_now b
  intro d
  induction d with
  | zero =>
    intro n k h1 h2
    obtain ⟨n, rfl⟩ : ∃ q, n = q + 1 := ⟨n - 1, by omega⟩
    have hb := dnV_b (σ := S 0) (c := 6 * y + x) hR hO k (by omega)
    have hp := p60_b k (by omega)
    rw [show FX0_does_b39 nf s (n + 1) = FX0_does_b39_s nf s (FX0_does_b39 nf s n) from rfl]
    unfold FX0_does_b39_s
    (try simp only [lits]) <;> simp (disch := omega) only [↓wps, ↓bcp b, bci b, nrm, wps, cmps, if_pos, if_neg, eq_self, if_true, if_false, Bool.false_eq_true, Bool.true_eq_false, dec_f, so_cx o1, o3]
    rw [show (S 0 58).toNat = k by omega, i64_add]
    unfold doF
    generalize dnV (S 0) (6 * y + x) R O k = p at hb ⊢
    by_cases q : p.1 + p.2 = 0
    · rw [q, if_pos (show i64 0 = (0 : Int64) from rfl), if_pos rfl]
    · rw [if_neg (show ¬ i64 (p.1 + p.2) = (0 : Int64) from fun z => q ((i64_eq ⟨by omega, by omega⟩ (show ok64 0 from ⟨by omega, by omega⟩)).mp z)), if_neg q, do_191 (w := w) (by omega) (by omega) (by omega) q, do_191 (w := w) (by omega) (by omega) (by omega) q]
      split <;> rfl
  | succ d ih =>
    intro n k h1 h2
    obtain ⟨n, rfl⟩ : ∃ q, n = q + 1 := ⟨n - 1, by omega⟩
    have L := ih n (k + 1) (by omega) (by omega)
    obtain ⟨t1, t2, t3⟩ := z3 k (by omega)
    obtain ⟨u1, u2, u3⟩ := o5 k (by omega)
    have en : (k : Int).toNat = k := Int.toNat_natCast k
    rw [show FX0_does_b39 nf s (n + 1) = FX0_does_b39_s nf s (FX0_does_b39 nf s n) from rfl]
    unfold FX0_does_b39_s FX0_does_b116
    (try simp only [lits]) <;> simp (disch := omega) only [↓wps, ↓bcp b, bci b, nrm, wps, cmps, if_pos, if_neg, eq_self, if_true, if_false, Bool.false_eq_true, Bool.true_eq_false, dec_f, so_cx o1, o3, so_ld o1, en, u1, u2, u3, hl1, hl2]
    have e0 : ∀ v : Int, i64 v * (0 : Int64) = i64 0 := fun v => by rw [show (0 : Int64) = i64 0 from rfl, i64_mul, Int.mul_zero]
    have L2 := L
    rw [dnV_s] at L
    by_cases q1 : S 0 (60 + 3 * k) = 6 * y + x ∧ S 0 (61 + 3 * k) = 1
    · rw [if_pos (show S 0 (60 + 3 * k) = y * 6 + x by omega), if_neg (show ¬ S 0 (61 + 3 * k) = 0 by omega), i32_long ⟨by omega, by omega⟩, i32_long ⟨by omega, by omega⟩, i64_mul, i64_mul, e0, e0]
      rw [if_pos q1] at L
      by_cases q2 : S 0 (62 + 3 * k) ≤ O
      · rw [if_pos q2]
        rw [if_pos q2] at L
        by_cases q3 : S 0 (62 + 3 * k) < R
        · rw [if_pos q3]
          rw [if_pos q3] at L
          exact L
        · rw [if_neg q3]
          rw [if_neg q3] at L
          exact L
      · rw [if_neg q2]
        rw [if_neg q2] at L
        by_cases q3 : S 0 (62 + 3 * k) < R
        · rw [if_pos q3]
          rw [if_pos q3] at L
          exact L
        · rw [if_neg q3]
          rw [if_neg q3] at L
          exact L
    · rw [if_neg q1] at L
      by_cases q2 : S 0 (60 + 3 * k) = y * 6 + x
      · rw [if_pos q2, if_pos (show S 0 (61 + 3 * k) = 0 by omega)]
        exact L
      · rw [if_neg q2]
        exact L
theorem c_does (hn : 100 ≤ nf) (b : B g ρ W S V m Tp RC s) (hW : TW W) (hS2 : SW2 W (S 0)) {x y w : Int} (hx : ok32 x) (hy : ok32 y) (hw : ok32 w) : FX0_does nf s (g 0) (i32 x) (i32 y) (i32 w) = some (doV W (S 0) x y w) := by
  have w0 := hW.1
  have w1 := hW.2.1
  obtain ⟨z1, -⟩ := id hS2
  unfold FX0_does doV
  rw [(bcp b).1, c_isButton b hW hx hy, bd_eq]
  by_cases q : ((0 ≤ x ∧ x < W 0) ∧ 0 ≤ y ∧ y < W 1) ∧ W (10 + 4 * (6 * y.toNat + x.toNat)) = 3
  · rw [decide_eq_true q, if_neg (show ¬ bi true = (0 : Int32) by decide), show (0 : Int32) = i32 0 from rfl, show (1 : Int32) = i32 1 from rfl, c_i3 hw 0 1 (by omega), bd_eq]
    by_cases q2 : 0 ≤ w ∧ w ≤ 1
    · have el := c_ltAt b (x := x.toNat) (y := y.toNat) (by omega) (by omega)
      rw [← toI q.1.1.1, ← toI q.1.2.1] at el
      have hl := (hW.2.2.2.2.2.2.2.2.2.2.1 (6 * y.toNat + x.toNat) (by omega)).2 (by omega)
      rw [decide_eq_true q2, if_neg (show ¬ bi true = i32 0 by decide), el, bd_eq, if_pos ⟨q, q2⟩]
      rcases c_light0 b (c := 6 * y.toNat + x.toNat) (by omega) with ⟨h0, -⟩ | ⟨h0, l, hq, hl2⟩
      · omega
      · have cx := lf_cx hl2 h0 (by omega)
        rw [hq]
        exact cdo_loop b hS2 (by omega) (by omega) q2 (by omega) (by omega) cx.1 cx.2.1 (S 0 58).toNat nf 0 (by omega) (by omega)
    · rw [decide_eq_false q2, if_pos (show bi false = i32 0 from rfl), if_neg (fun z => q2 z.2)]
  · rw [decide_eq_false q, if_pos (show bi false = (0 : Int32) from rfl), if_neg (fun z => q z.1)]
/-! the twin -/
theorem tdo_g : ∀ (n : Nat) (N : Nat) (a b : Nat) (p : Int × Int) (w : Int), 0 ≤ w ∧ w ≤ 1 → a < 9223372036854775808 → 0 < a → b < a → (a < (fib2 n).2 ∨ b < (fib2 n).1) → n < N → T_does_b203 nf N (i32 w) (i64 p.1) (i64 p.2) (i64 (a : Int)) (i64 (b : Int)) τ = some ((if w = 0 then i64 p.1 else i64 (p.1 + p.2)) / i64 ((Nat.gcd a b : Nat) : Int), τ) := by
  have base : ∀ (N a : Nat) (p : Int × Int) (w : Int), 0 ≤ w ∧ w ≤ 1 → a < 9223372036854775808 → 0 < a → T_does_b203 nf (N + 1) (i32 w) (i64 p.1) (i64 p.2) (i64 (a : Int)) (i64 ((0 : Nat) : Int)) τ = some ((if w = 0 then i64 p.1 else i64 (p.1 + p.2)) / i64 ((Nat.gcd a 0 : Nat) : Int), τ) := fun N a p w hw ha h0 => by
    rw [show T_does_b203 nf (N + 1) = T_does_b203_s nf (T_does_b203 nf N) from rfl]
    unfold T_does_b203_s
    rw [if_pos (show i64 ((0 : Nat) : Int) = (0 : Int64) from rfl), Nat.gcd_zero_right, d64_n (n64 (by omega)) (by omega), d64_n (n64 (by omega)) (by omega), i64_add]
    rcases (show w = 0 ∨ w = 1 by omega) with rfl | rfl
    · rfl
    · rfl
  intro n
  induction n with
  | zero =>
    intro N a b p w hw ha ha0 hb h hN
    obtain ⟨N, rfl⟩ : ∃ q, N = q + 1 := ⟨N - 1, by omega⟩
    have e : b = 0 := by
      rcases Nat.eq_zero_or_pos b with e | e
      · exact e
      · obtain ⟨m, h1, -⟩ := lame hb h e
        omega
    rw [e]
    exact base N a p w hw ha ha0
  | succ n ih =>
    intro N a b p w hw ha ha0 hb h hN
    obtain ⟨N, rfl⟩ : ∃ q, N = q + 1 := ⟨N - 1, by omega⟩
    rcases Nat.eq_zero_or_pos b with e | e
    · rw [e]
      exact base N a p w hw ha ha0
    · obtain ⟨m, h1, h2, h3⟩ := lame hb h e
      obtain rfl : m = n := by omega
      have hz : ¬ i64 (b : Int) = (0 : Int64) := fun z => by
        have := (i64_eq (n64 (by omega)) (show ok64 0 from ⟨by omega, by omega⟩)).mp z
        omega
      rw [show T_does_b203 nf (N + 1) = T_does_b203_s nf (T_does_b203 nf N) from rfl]
      unfold T_does_b203_s
      rw [if_neg hz, d64_n (n64 (by omega)) (by omega), i64_rem (n64 ha) (n64 (by omega)) (by omega) (by omega), show (a : Int) % (b : Int) = ((a % b : Nat) : Int) from rfl, nm_eq, ih N b (a % b) p w hw (by omega) e h2 h3 (by omega), Nat.gcd_comm a b, Nat.gcd_rec b a, Nat.gcd_comm b (a % b)]
theorem tdo_fin (hn : 200 ≤ nf) {p : Int × Int} {w : Int} (hw : 0 ≤ w ∧ w ≤ 1) (h1 : 0 ≤ p.1) (h2 : 0 ≤ p.2) (h3 : p.1 + p.2 < 1779979416004714189) : (if (i64 p.1 + i64 p.2) = 0 then some ((-1), τ) else (nm (i64 p.1 + i64 p.2) fun v2 => T_does_b203 nf nf (i32 w) (i64 p.1) (i64 p.2) (i64 p.1) v2 τ)) = some (doF p w, τ) := by
  have hf := fib_89
  unfold doF
  rw [nm_eq, i64_add]
  by_cases q : p.1 + p.2 = 0
  · rw [q, if_pos (show i64 0 = (0 : Int64) from rfl), if_pos rfl]
  · have e1 : p.1 + p.2 = (((p.1 + p.2).toNat : Nat) : Int) := by omega
    have e2 : p.1 = ((p.1.toNat : Nat) : Int) := by omega
    have hz : ¬ i64 (p.1 + p.2) = (0 : Int64) := fun z => q ((i64_eq ⟨by omega, by omega⟩ (show ok64 0 from ⟨by omega, by omega⟩)).mp z)
    rw [if_neg hz, if_neg q]
    obtain ⟨N, rfl⟩ : ∃ n, nf = n + 1 := ⟨nf - 1, by omega⟩
    have h99 : (fib2 89).1 ≤ (fib2 98).2 := by decide +kernel
    have L := tdo_g (τ := τ) (nf := N + 1) 98 N (p.1 + p.2).toNat (p.1.toNat % (p.1 + p.2).toNat) p w hw (by omega) (by omega) (Nat.mod_lt _ (by omega)) (.inl (by omega)) (by omega)
    rw [show T_does_b203 (N + 1) (N + 1) = T_does_b203_s (N + 1) (T_does_b203 (N + 1) N) from rfl]
    unfold T_does_b203_s
    rw [if_neg hz, d64_n ⟨by omega, by omega⟩ (by omega), i64_rem ⟨by omega, by omega⟩ ⟨by omega, by omega⟩ (by omega) (by omega), nm_eq]
    rw [Nat.gcd_comm, ← Nat.gcd_rec, ← e1, show ((p.1.toNat % (p.1 + p.2).toNat : Nat) : Int) = p.1 % (p.1 + p.2) by rw [Int.natCast_emod, ← e1, ← e2]] at L
    rw [L]
theorem tdo_143 (tb : TB W S V m Tp RC τ) {k : Nat} (hk : k < 10) {x y w : Int32} {R O : Int} (hR : 0 ≤ R ∧ R ≤ 60) (hv : 0 ≤ S 0 (62 + 3 * k) ∧ S 0 (62 + 3 * k) < 60) {k68 : Int32 → Int32 → Int32 → Int64 → Int64 → Int64 → Int64 → Int32 → TS → Option (Int64 × TS)} {a : Int} {v : Int64} : T_does_b143 nf k68 x y w (i64 R) (i64 (O + 1)) (i64 a) (i32 (k : Int)) (i32 ((60 + 3 * k : Nat) : Int)) v τ = k68 x y w (i64 R) (i64 (O + 1)) v (i64 (if S 0 (62 + 3 * k) < R then a * (O + 1) else 0)) (i32 ((k + 1 : Nat) : Int)) τ := by
  unfold T_does_b143
  rw [show i32 ((60 + 3 * k : Nat) : Int) + 2 = i32 ((62 + 3 * k : Nat) : Int) by rw [show (2 : Int32) = i32 2 from rfl, i32_add]; congr 1; omega, s_st tb (by omega), i32_long ⟨by omega, by omega⟩, show i32 (k : Int) + 1 = i32 ((k + 1 : Nat) : Int) by rw [show (1 : Int32) = i32 1 from rfl, i32_add]; rfl]
  by_cases q : S 0 (62 + 3 * k) < R
  · rw [if_pos q, if_neg (fun z => by have := (i64_le ⟨by omega, by omega⟩ ⟨by omega, by omega⟩).mp z; omega), nm_eq, i64_mul]
  · rw [if_neg q, if_pos ((i64_le ⟨by omega, by omega⟩ ⟨by omega, by omega⟩).mpr (by omega))]
    rfl
theorem tdo_loop (hn : 200 ≤ nf) (tb : TB W S V m Tp RC τ) (hS2 : SW2 W (S 0)) {x y w : Int} (hx : 0 ≤ x ∧ x < 6) (hy : 0 ≤ y ∧ y < 9) (hw : 0 ≤ w ∧ w ≤ 1) {R O : Int} (hR : 0 ≤ R ∧ R ≤ 60) (hO : 0 ≤ O ∧ O < 60) : ∀ (d n k : Nat), (k : Int) + d = S 0 58 → d < n → T_does_b68 nf n (i32 x) (i32 y) (i32 w) (i64 R) (i64 (O + 1)) (i64 (dnV (S 0) (6 * y + x) R O k).1) (i64 (dnV (S 0) (6 * y + x) R O k).2) (i32 (k : Int)) τ = some (doF (dnV (S 0) (6 * y + x) R O (S 0 58).toNat) w, τ) := by
  obtain ⟨z1, z2, z3, z4⟩ := hS2
  intro d
  induction d with
  | zero =>
    intro n k h1 h2
    obtain ⟨n, rfl⟩ : ∃ q, n = q + 1 := ⟨n - 1, by omega⟩
    have hb := dnV_b (σ := S 0) (c := 6 * y + x) hR hO k (by omega)
    have hp := p60_b k (by omega)
    rw [show T_does_b68 nf (n + 1) = T_does_b68_s nf (T_does_b68 nf n) from rfl]
    unfold T_does_b68_s
    rw [show (58 : Int32) = i32 ((58 : Nat) : Int) from rfl, s_st tb (by omega), if_pos ((i32_le ⟨by omega, by omega⟩ ⟨by omega, by omega⟩).mpr (by omega)), tdo_fin hn hw (by omega) (by omega) (by omega), show (S 0 58).toNat = k by omega]
  | succ d ih =>
    intro n k h1 h2
    obtain ⟨n, rfl⟩ : ∃ q, n = q + 1 := ⟨n - 1, by omega⟩
    have L := ih n (k + 1) (by omega) (by omega)
    obtain ⟨t1, t2, t3⟩ := z3 k (by omega)
    rw [dnV_s] at L
    rw [show T_does_b68 nf (n + 1) = T_does_b68_s nf (T_does_b68 nf n) from rfl]
    unfold T_does_b68_s
    rw [show (58 : Int32) = i32 ((58 : Nat) : Int) from rfl, s_st tb (by omega), if_neg (fun z => by have := (i32_le ⟨by omega, by omega⟩ ⟨by omega, by omega⟩).mp z; omega), nm_eq, show (60 : Int32) + 3 * i32 (k : Int) = i32 ((60 + 3 * k : Nat) : Int) by rw [show (60 : Int32) = i32 60 from rfl, show (3 : Int32) = i32 3 from rfl, i32_mul, i32_add]; rfl, s_st tb (by omega), show (6 : Int32) * i32 y + i32 x = i32 (6 * y + x) by rw [show (6 : Int32) = i32 6 from rfl, i32_mul, i32_add], show i32 ((60 + 3 * k : Nat) : Int) + 1 = i32 ((61 + 3 * k : Nat) : Int) by rw [show (1 : Int32) = i32 1 from rfl, i32_add]; congr 1; omega, show i32 ((60 + 3 * k : Nat) : Int) + 2 = i32 ((62 + 3 * k : Nat) : Int) by rw [show (2 : Int32) = i32 2 from rfl, i32_add]; congr 1; omega, s_st tb (by omega), s_st tb (by omega), show i32 (k : Int) + 1 = i32 ((k + 1 : Nat) : Int) by rw [show (1 : Int32) = i32 1 from rfl, i32_add]; rfl, tdo_143 tb (by omega) hR t3, tdo_143 tb (by omega) hR t3, i32_long ⟨by omega, by omega⟩, i64_mul]
    by_cases q1 : S 0 (60 + 3 * k) = 6 * y + x ∧ S 0 (61 + 3 * k) = 1
    · rw [if_pos q1] at L
      rw [if_pos (show i32 (S 0 (60 + 3 * k)) = i32 (6 * y + x) by rw [q1.1]), if_pos (show i32 (S 0 (61 + 3 * k)) = (1 : Int32) by rw [q1.2]; rfl)]
      by_cases q2 : S 0 (62 + 3 * k) ≤ O
      · rw [if_pos q2] at L
        rw [if_neg (fun z => by have := (i64_le ⟨by omega, by omega⟩ ⟨by omega, by omega⟩).mp z; omega)]
        exact L
      · rw [if_neg q2] at L
        rw [if_pos ((i64_le ⟨by omega, by omega⟩ ⟨by omega, by omega⟩).mpr (by omega))]
        exact L
    · rw [if_neg q1] at L
      by_cases q2 : S 0 (60 + 3 * k) = 6 * y + x
      · rw [if_pos (show i32 (S 0 (60 + 3 * k)) = i32 (6 * y + x) by rw [q2]), if_neg (show ¬ i32 (S 0 (61 + 3 * k)) = (1 : Int32) from fun z => q1 ⟨q2, (i32_eq (b := 1) ⟨by omega, by omega⟩ ⟨by omega, by omega⟩).mp z⟩)]
        exact L
      · rw [if_neg (fun z => q2 ((i32_eq ⟨by omega, by omega⟩ ⟨by omega, by omega⟩).mp z))]
        exact L
theorem t_does (hn : 200 ≤ nf) (tb : TB W S V m Tp RC τ) (hW : TW W) (hS2 : SW2 W (S 0)) {x y w : Int} (hx : ok32 x) (hy : ok32 y) (hw : ok32 w) : T_does nf (i32 x) (i32 y) (i32 w) τ = some (doV W (S 0) x y w, sI τ 0 0) := by
  have w0 := hW.1
  have w1 := hW.2.1
  obtain ⟨z1, -⟩ := id hS2
  have tb2 : TB W S V m Tp RC (sI τ 0 0) := tb.q (tk_z τ).1
  unfold T_does doV
  rw [nm_eq]
  generalize sI τ 0 0 = τ1 at tb2 ⊢
  rw [s_isCorner hW tb2.1 hx hy, bd_eq]
  by_cases q : (0 ≤ x ∧ x < W 0) ∧ 0 ≤ y ∧ y < W 1
  · have e1 := toI q.1.1
    have e2 := toI q.2.1
    have ek : kdA W x.toNat y.toNat = W (10 + 4 * (6 * y.toNat + x.toNat)) - 1 := rfl
    have hk := kdA_b (x := x.toNat) (y := y.toNat) hW (by omega) (by omega)
    have sk := s_kindAt tb2.1 (x := x.toNat) (y := y.toNat) (by omega) (by omega)
    have s1 := s_lightAt tb2.1 (x := x.toNat) (y := y.toNat) (what := 1) (by omega) (by omega) (by omega)
    have s2 := s_lightAt tb2.1 (x := x.toNat) (y := y.toNat) (what := 2) (by omega) (by omega) (by omega)
    rw [← e1, ← e2] at sk s1 s2
    rw [decide_eq_true q, if_neg (show ¬ bi true = (0 : Int32) by decide), sk, bd_eq]
    by_cases q3 : W (10 + 4 * (6 * y.toNat + x.toNat)) = 3
    · have hl := (hW.2.2.2.2.2.2.2.2.2.2.1 (6 * y.toNat + x.toNat) (by omega)).2 (by omega)
      rw [if_pos (show i32 (kdA W x.toNat y.toNat) = (2 : Int32) by rw [ek, q3]; rfl), show (0 : Int32) = i32 0 from rfl, show (1 : Int32) = i32 1 from rfl, s_w3 hw 0 1 (by omega), bd_eq]
      by_cases q2 : 0 ≤ w ∧ w ≤ 1
      · rw [decide_eq_true q2, if_neg (show ¬ bi true = i32 0 by decide), if_pos ⟨⟨q, q3⟩, q2⟩, show i32 1 = i32 ((1 : Nat) : Int) from rfl, s1, bd_eq, show (2 : Int32) = i32 ((2 : Nat) : Int) from rfl, s2, bd_eq, nm_eq]
        have f1 : ltA W x.toNat y.toNat 1 = W (11 + 4 * (6 * y.toNat + x.toNat)) := by unfold ltA; congr 1; omega
        have f2 : ltA W x.toNat y.toNat 2 = W (12 + 4 * (6 * y.toNat + x.toNat)) := by unfold ltA; congr 1; omega
        rw [f1, f2, i32_long ⟨by omega, by omega⟩, i32_long ⟨by omega, by omega⟩, show (1 : Int64) = i64 1 from rfl, i64_add]
        exact tdo_loop hn tb2 hS2 (by omega) (by omega) q2 (by omega) (by omega) (S 0 58).toNat nf 0 (by omega) (by omega)
      · rw [decide_eq_false q2, if_pos (show bi false = i32 0 from rfl), if_neg (fun z => q2 z.2)]
    · rw [if_neg (show ¬ i32 (kdA W x.toNat y.toNat) = (2 : Int32) from fun z => by have := (i32_eq (b := 2) ⟨by omega, by omega⟩ ⟨by omega, by omega⟩).mp z; omega), if_neg (fun z => q3 z.1.2)]
  · rw [decide_eq_false q, if_pos (show bi false = (0 : Int32) from rfl), if_neg (fun z => q z.1.1)]
end DO
