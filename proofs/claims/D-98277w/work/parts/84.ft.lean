/-! LAYER 2: ways that fit: plain -/
set_option maxRecDepth 100000
/-- how many of the first n -/
def cN (f : Nat → Bool) : Nat → Nat
  | 0 => 0
  | n + 1 => cN f n + (if f n = true then 1 else 0)
theorem cN_le (f : Nat → Bool) : ∀ n, cN f n ≤ n := by
  intro n
  induction n with
  | zero => exact Nat.le_refl _
  | succ n ih =>
    show cN f n + (if f n = true then 1 else 0) ≤ n + 1
    split <;> omega
theorem cN_e {f h : Nat → Bool} : ∀ n, (∀ k, k < n → f k = h k) → cN f n = cN h n := by
  intro n
  induction n with
  | zero => intro _; rfl
  | succ n ih =>
    intro k
    show cN f n + (if f n = true then 1 else 0) = cN h n + (if h n = true then 1 else 0)
    rw [k n (by omega), ih fun j hj => k j (by omega)]
theorem cN_or {f h : Nat → Bool} : ∀ n, (∀ k, k < n → f k = true → h k = true → False) → cN (fun k => f k || h k) n = cN f n + cN h n := by
  intro n
  induction n with
  | zero => intro _; rfl
  | succ n ih =>
    intro k
    have e := ih fun j hj => k j (by omega)
    have k2 := k n (by omega)
    show cN (fun k => f k || h k) n + (if (f n || h n) = true then 1 else 0) = cN f n + (if f n = true then 1 else 0) + (cN h n + (if h n = true then 1 else 0))
    rw [e]
    cases hf : f n <;> cases hh : h n
    · simp
    · simp; omega
    · simp; omega
    · exact absurd (k2 hf hh) id
theorem cN_all {f : Nat → Bool} : ∀ n, n ≤ cN f n ↔ ∀ k, k < n → f k = true := by
  intro n
  induction n with
  | zero => exact ⟨fun _ k hk => by omega, fun _ => Nat.le_refl _⟩
  | succ n ih =>
    have hl := cN_le f n
    show n + 1 ≤ cN f n + (if f n = true then 1 else 0) ↔ _
    constructor
    · intro h k hk
      cases hf : f n with
      | false =>
        rw [hf, if_neg (by decide)] at h
        omega
      | true =>
        rw [hf, if_pos rfl] at h
        by_cases e : k = n
        · rw [e, hf]
        · exact ih.mp (by omega) k (by omega)
    · intro h
      have := ih.mpr fun k hk => h k (by omega)
      rw [h n (by omega), if_pos rfl]
      omega
theorem bN_all {f : Nat → Bool} : ∀ n, (bN f n = 2 ^ n - 1) ↔ ∀ k, k < n → f k = true := by
  intro n
  induction n with
  | zero => exact ⟨fun _ k hk => by omega, fun _ => rfl⟩
  | succ n ih =>
    have hl := bN_lt f n
    have hp : 2 ^ (n + 1) = 2 ^ n + 2 ^ n := by rw [Nat.pow_succ]; omega
    show 2 ^ n * (if f n = true then 1 else 0) + bN f n = 2 ^ (n + 1) - 1 ↔ _
    rw [hp]
    generalize 2 ^ n = P at ih hl ⊢
    constructor
    · intro h k hk
      cases hf : f n with
      | false =>
        rw [hf, if_neg (by decide)] at h
        omega
      | true =>
        rw [hf, if_pos rfl] at h
        by_cases e : k = n
        · rw [e, hf]
        · exact ih.mp (by omega) k (by omega)
    · intro h
      have := ih.mpr fun k hk => h k (by omega)
      rw [h n (by omega), if_pos rfl]
      omega
/-- one was there between -/
def tolS (σ : Nat → Int) (x y : Nat) (a b : Int) (k : Nat) : Bool := decide ((σ (92 + 3 * k) = x ∧ σ (93 + 3 * k) = y) ∧ a ≤ σ (94 + 3 * k) ∧ σ (94 + 3 * k) ≤ b)
/-- at home: how many, the first one's ways, the corners of all -/
def ftE (σ : Nat → Int) (me bs now : Nat → Bool) (q : Nat × (Nat → Bool) × (Nat → Bool)) : Nat × (Nat → Bool) × (Nat → Bool) := if ∀ k, k < (σ 59).toNat → me k = true then (q.1 + 1, (if q.1 = 0 then bs else q.2.1), (if q.1 = 0 then now else fun j => q.2.2 j && now j)) else q
def ftN (W σ : Nat → Int) : Nat → Nat → Nat → Int → (Nat → Bool) → (Nat → Bool) → (Nat → Bool) → Nat × (Nat → Bool) × (Nat → Bool) → Nat × (Nat → Bool) × (Nat → Bool)
  | 0, x, y, t, me, co, bs, q => ftE σ (fun k => me k || tolS σ x y t 2000000000 k) bs (fun j => co j || decide (j = 6 * y + x)) q
  | d + 1, x, y, t, me, co, bs, q => (fun (w : Bool) q => if cgA W x y w = true then ftN W σ d (nx w x) (ny w y) (t + wtA W x y w t + W 2) (fun k => me k || tolS σ x y t (t + wtA W x y w t) k) (fun j => co j || decide (j = 6 * y + x)) (fun j => bs j || (w && decide (j = x + y))) q else q) true ((fun (w : Bool) q => if cgA W x y w = true then ftN W σ d (nx w x) (ny w y) (t + wtA W x y w t + W 2) (fun k => me k || tolS σ x y t (t + wtA W x y w t) k) (fun j => co j || decide (j = 6 * y + x)) (fun j => bs j || (w && decide (j = x + y))) q else q) false q)
def ftW (W σ : Nat → Int) (d x y : Nat) (t : Int) (me co bs : Nat → Bool) (w : Bool) (q : Nat × (Nat → Bool) × (Nat → Bool)) : Nat × (Nat → Bool) × (Nat → Bool) := if cgA W x y w = true then ftN W σ d (nx w x) (ny w y) (t + wtA W x y w t + W 2) (fun k => me k || tolS σ x y t (t + wtA W x y w t) k) (fun j => co j || decide (j = 6 * y + x)) (fun j => bs j || (w && decide (j = x + y))) q else q
theorem ftN_s {W σ : Nat → Int} {d x y : Nat} {t : Int} {me co bs : Nat → Bool} {q : Nat × (Nat → Bool) × (Nat → Bool)} : ftN W σ (d + 1) x y t me co bs q = ftW W σ d x y t me co bs true (ftW W σ d x y t me co bs false q) := rfl
theorem ft_b {W σ : Nat → Int} : ∀ d x y t me co bs q, (ftN W σ d x y t me co bs q).1 ≤ q.1 + 2 ^ d := by
  intro d
  induction d with
  | zero =>
    intro x y t me co bs q
    unfold ftN ftE
    split
    · exact Nat.le_refl _
    · exact Nat.le_add_right _ _
  | succ d ih =>
    intro x y t me co bs q
    have hW : ∀ w q, (ftW W σ d x y t me co bs w q).1 ≤ q.1 + 2 ^ d := fun w q => by
      unfold ftW
      split
      · exact ih _ _ _ _ _ _ _
      · exact Nat.le_add_right _ _
    rw [ftN_s, Nat.pow_succ]
    have h1 := hW true (ftW W σ d x y t me co bs false q)
    have h2 := hW false q
    omega
/-- the component's two sets -/
def lwF (co : Nat → Bool) (j : Nat) : Bool := decide (j % 8 < 6) && co (6 * (j / 8) + j % 8)
def hgF (co : Nat → Bool) (j : Nat) : Bool := co (48 + j)
theorem bN_p {f h : Nat → Bool} {n k : Nat} (hk : k < n) (e : ∀ j, j < n → h j = (f j || decide (j = k))) : bN f n ||| 2 ^ k = bN h n := by
  rw [← bN_one hk, bN_or]
  exact bN_e n fun j hj => (e j hj).symm
theorem lw_up {co : Nat → Bool} {x y : Nat} (hx : x < 6) : (y < 8 → bN (lwF co) 62 ||| 2 ^ (8 * y + x) = bN (lwF fun j => co j || decide (j = 6 * y + x)) 62) ∧ (8 ≤ y → bN (lwF co) 62 = bN (lwF fun j => co j || decide (j = 6 * y + x)) 62) := by
  refine ⟨fun hy => bN_p (by omega) fun j hj => ?_, fun hy => bN_e 62 fun j hj => ?_⟩
  · show (decide (j % 8 < 6) && (co (6 * (j / 8) + j % 8) || decide (6 * (j / 8) + j % 8 = 6 * y + x))) = ((decide (j % 8 < 6) && co (6 * (j / 8) + j % 8)) || decide (j = 8 * y + x))
    by_cases q : j % 8 < 6
    · rw [decide_eq_true q, Bool.true_and, Bool.true_and, show decide (6 * (j / 8) + j % 8 = 6 * y + x) = decide (j = 8 * y + x) from decide_eq_decide.mpr (by omega)]
    · rw [decide_eq_false q, Bool.false_and, Bool.false_and, Bool.false_or, decide_eq_false (show ¬ j = 8 * y + x by omega)]
  · show (decide (j % 8 < 6) && co (6 * (j / 8) + j % 8)) = (decide (j % 8 < 6) && (co (6 * (j / 8) + j % 8) || decide (6 * (j / 8) + j % 8 = 6 * y + x)))
    by_cases q : j % 8 < 6
    · rw [decide_eq_false (show ¬ 6 * (j / 8) + j % 8 = 6 * y + x by omega), Bool.or_false]
    · rw [decide_eq_false q, Bool.false_and, Bool.false_and]
theorem hg_up {co : Nat → Bool} {x y : Nat} (hx : x < 6) (hy9 : y < 9) : (8 ≤ y → bN (hgF co) 6 ||| 2 ^ x = bN (hgF fun j => co j || decide (j = 6 * y + x)) 6) ∧ (y < 8 → bN (hgF co) 6 = bN (hgF fun j => co j || decide (j = 6 * y + x)) 6) := by
  refine ⟨fun hy => bN_p (by omega) fun j hj => ?_, fun hy => bN_e 6 fun j hj => ?_⟩
  · show (co (48 + j) || decide (48 + j = 6 * y + x)) = (co (48 + j) || decide (j = x))
    rw [show decide (48 + j = 6 * y + x) = decide (j = x) from decide_eq_decide.mpr (by omega)]
  · show co (48 + j) = (co (48 + j) || decide (48 + j = 6 * y + x))
    rw [decide_eq_false (show ¬ 48 + j = 6 * y + x by omega), Bool.or_false]
theorem lw_and (a b : Nat → Bool) : bN (lwF a) 62 &&& bN (lwF b) 62 = bN (lwF fun j => a j && b j) 62 := by
  rw [bN_and]
  refine bN_e 62 fun j _ => ?_
  unfold lwF
  cases decide (j % 8 < 6) <;> rfl
theorem hg_and (a b : Nat → Bool) : bN (hgF a) 6 &&& bN (hgF b) 6 = bN (hgF fun j => a j && b j) 6 := by
  rw [bN_and]
  rfl
theorem shl32_0 : ∀ k, k < 31 → shl32 0 (i32 ((k : Nat) : Int)) = 0 := by decide +kernel
theorem bs_up {bs : Nat → Bool} {k : Nat} {w : Bool} (hk : k < 13) : i32 ((bN bs 13 : Nat) : Int) ||| shl32 (wy w) (i32 ((k : Nat) : Int)) = i32 ((bN (fun j => bs j || (w && decide (j = k))) 13 : Nat) : Int) := by
  cases w with
  | false =>
    rw [show wy false = 0 from rfl, shl32_0 k (by omega), show (0 : Int32) = i32 ((0 : Nat) : Int) from rfl, i32_or, Nat.or_zero]
    congr 2
    exact bN_e 13 fun j _ => by rw [Bool.false_and, Bool.or_false]
  | true =>
    rw [show wy true = 1 from rfl, shl32_1 k (by omega), i32_or, bN_p (h := fun j => bs j || (true && decide (j = k))) hk fun j _ => by rw [Bool.true_and]]
theorem bN_i32 (f : Nat → Bool) {n : Nat} (hn : n ≤ 30) : 0 ≤ ((bN f n : Nat) : Int) ∧ ((bN f n : Nat) : Int) < 2147483648 := by
  have h1 := bN_lt f n
  have h2 : 2 ^ n ≤ 2 ^ 30 := Nat.pow_le_pow_right (by omega) hn
  omega
/-- what is asked -/
def ftR (W σ : Nat → Int) : Nat × (Nat → Bool) × (Nat → Bool) := ftN W σ (dsA W 0 0) 0 0 0 (fun _ => false) (fun _ => false) (fun _ => false) (0, (fun _ => false), (fun _ => false))
def ftV (W σ : Nat → Int) (what : Int) : Int := if 0 ≤ what ∧ what ≤ 3 then (if what = 0 then ((ftR W σ).1 : Int) else if (ftR W σ).1 = 0 then -1 else if what = 1 then ((bN (ftR W σ).2.1 13 : Nat) : Int) else if what = 2 then ((bN (lwF (ftR W σ).2.2) 62 : Nat) : Int) else ((bN (hgF (ftR W σ).2.2) 6 : Nat) : Int)) else -1
/-- where one was, in the state: how many -/
def nWas (S : Nat → Nat → Int) : Nat := (S 0 59).toNat
/-- reading fields behind a write -/
theorem rI_t {s : CS} {f a : Nat} {v : Int32} : cI (uI s f a v) f a = v := if_pos ⟨rfl, rfl⟩
theorem rI_n {s : CS} {f a f' a' : Nat} {v : Int32} (h : ¬ f' = f) : cI (uI s f a v) f' a' = cI s f' a' := if_neg (fun z => h z.1)
theorem rI_a {s : CS} {f a f' a' : Nat} {v : Int32} (h : ¬ a' = a) : cI (uI s f a v) f' a' = cI s f' a' := if_neg (fun z => h z.2)
theorem rJ_t {s : CS} {f a : Nat} {v : Int64} : cJ (uJ s f a v) f a = v := if_pos ⟨rfl, rfl⟩
theorem rJ_n {s : CS} {f a f' a' : Nat} {v : Int64} (h : ¬ f' = f) : cJ (uJ s f a v) f' a' = cJ s f' a' := if_neg (fun z => h z.1)
theorem rR_t {s : CS} {f a : Nat} {v : Option Nat} : cR (uR s f a v) f a = v := if_pos ⟨rfl, rfl⟩
theorem rR_n {s : CS} {f a f' a' : Nat} {v : Option Nat} (h : ¬ f' = f) : cR (uR s f a v) f' a' = cR s f' a' := if_neg (fun z => h z.1)
theorem rR_a {s : CS} {f a f' a' : Nat} {v : Option Nat} (h : ¬ a' = a) : cR (uR s f a v) f' a' = cR s f' a' := if_neg (fun z => h z.2)
