/-! LAYER 2: the tape cut into tokens: plain -/
set_option maxRecDepth 100000
def isB (z : Int) : Bool := decide (z = 10 ∨ z = 32)
def isL (z : Int) : Bool := decide (97 ≤ z ∧ z ≤ 122)
def isD (z : Int) : Bool := decide (48 ≤ z ∧ z ≤ 57)
def isG (z : Int) : Bool := decide (z = 40 ∨ z = 41 ∨ z = 59 ∨ z = 61 ∨ z = 60 ∨ z = 43 ∨ z = 45 ∨ z = 42)
/-- the end of a run -/
def runF (t : Nat → Int) (p : Int → Bool) : Nat → Nat → Nat
  | 0, i => i
  | d + 1, i => if p (t i) = true then runF t p d (i + 1) else i
def run (t : Nat → Int) (n : Nat) (p : Int → Bool) (i : Nat) : Nat := runF t p (n - i) i
theorem run_e {t : Nat → Int} {n : Nat} {p : Int → Bool} {i : Nat} (h : n ≤ i) : run t n p i = i := by
  unfold run
  rw [show n - i = 0 by omega]
  rfl
theorem run_s {t : Nat → Int} {n : Nat} {p : Int → Bool} {i : Nat} (h : i < n) : run t n p i = if p (t i) = true then run t n p (i + 1) else i := by
  unfold run
  rw [show n - i = (n - (i + 1)) + 1 by omega]
  rfl
theorem run_b {t : Nat → Int} {n : Nat} {p : Int → Bool} : ∀ (d i : Nat), n - i ≤ d → i ≤ run t n p i ∧ (i ≤ n → run t n p i ≤ n) := by
  intro d
  induction d with
  | zero =>
    intro i h
    rw [run_e (by omega)]
    omega
  | succ d ih =>
    intro i h
    by_cases q : i < n
    · rw [run_s q]
      have := ih (i + 1) (by omega)
      split <;> omega
    · rw [run_e (by omega)]
      omega
theorem run_le (t : Nat → Int) (n : Nat) (p : Int → Bool) (i : Nat) : i ≤ run t n p i ∧ (i ≤ n → run t n p i ≤ n) := run_b (n - i) i (Nat.le_refl _)
/-- within a run all is so; at its end it isn't -/
theorem run_in {t : Nat → Int} {n : Nat} {p : Int → Bool} : ∀ (d i : Nat), n - i ≤ d → (∀ j, i ≤ j → j < run t n p i → p (t j) = true) ∧ (run t n p i < n → p (t (run t n p i)) = false) := by
  intro d
  induction d with
  | zero =>
    intro i h
    rw [run_e (by omega)]
    exact ⟨fun j a b => by omega, fun a => by omega⟩
  | succ d ih =>
    intro i h
    by_cases q : i < n
    · rw [run_s q]
      by_cases c : p (t i) = true
      · rw [if_pos c]
        have := ih (i + 1) (by omega)
        refine ⟨fun j a b => ?_, this.2⟩
        by_cases e : j = i
        · rw [e]; exact c
        · exact this.1 j (by omega) b
      · rw [if_neg c]
        exact ⟨fun j a b => by omega, fun _ => Bool.eq_false_iff.mpr c⟩
    · rw [run_e (by omega)]
      exact ⟨fun j a b => by omega, fun a => by omega⟩
/-- a token's end, its sort -/
def tE (t : Nat → Int) (n f : Nat) : Nat := if n ≤ f then f else if isL (t f) = true then run t n isL f else if isD (t f) = true then run t n isD f else f + 1
def tS (t : Nat → Int) (n f : Nat) : Nat := if n ≤ f then 0 else if isL (t f) = true then (if tE t n f - f ≤ 8 then 1 else 4) else if isD (t f) = true then (if tE t n f - f ≤ 4 then 2 else 4) else if isG (t f) = true then 3 else 4
/-- where tokens begin -/
def tP (t : Nat → Int) (n : Nat) : Nat → Nat
  | 0 => run t n isB 0
  | k + 1 => run t n isB (tE t n (tP t n k))
theorem tE_b {t : Nat → Int} {n f : Nat} : (f < n → f < tE t n f ∧ tE t n f ≤ n) ∧ (n ≤ f → tE t n f = f) := by
  refine ⟨fun h => ?_, fun h => if_pos h⟩
  unfold tE
  rw [if_neg (by omega)]
  by_cases c : isL (t f) = true
  · rw [if_pos c, run_s h, if_pos c]
    have := run_le t n isL (f + 1)
    omega
  · rw [if_neg c]
    by_cases c2 : isD (t f) = true
    · rw [if_pos c2, run_s h, if_pos c2]
      have := run_le t n isD (f + 1)
      omega
    · rw [if_neg c2]
      omega
theorem tP_b {t : Nat → Int} {n : Nat} : ∀ k, tP t n k ≤ n ∧ (tP t n k < n → isB (t (tP t n k)) = false ∧ tP t n k < tP t n (k + 1)) ∧ (tP t n k = n → tP t n (k + 1) = n) ∧ (k ≤ tP t n k ∨ tP t n k = n) := by
  intro k
  induction k with
  | zero =>
    have h1 := (run_le t n isB 0).2 (Nat.zero_le _)
    have h2 := (run_in (t := t) (n := n) (p := isB) n 0 (by omega)).2
    refine ⟨h1, fun h => ⟨h2 h, ?_⟩, fun h => ?_, .inl (Nat.zero_le _)⟩
    · show run t n isB 0 < run t n isB (tE t n (run t n isB 0))
      have h : run t n isB 0 < n := h
      have := (tE_b (t := t) (n := n) (f := run t n isB 0)).1 h
      have := (run_le t n isB (tE t n (run t n isB 0))).1
      omega
    · have h : run t n isB 0 = n := h
      show run t n isB (tE t n (run t n isB 0)) = n
      rw [h, (tE_b (t := t) (n := n) (f := n)).2 (Nat.le_refl _), run_e (Nat.le_refl _)]
  | succ k ih =>
    obtain ⟨i1, i2, i3, i4⟩ := ih
    have hE : tE t n (tP t n k) ≤ n := by
      by_cases q : tP t n k < n
      · exact ((tE_b (t := t) (n := n) (f := tP t n k)).1 q).2
      · rw [(tE_b (t := t) (n := n) (f := tP t n k)).2 (by omega)]
        exact i1
    have h1 := (run_le t n isB (tE t n (tP t n k))).2 hE
    have h2 := (run_in (t := t) (n := n) (p := isB) n (tE t n (tP t n k)) (by omega)).2
    refine ⟨h1, fun h => ⟨h2 h, ?_⟩, fun h => ?_, ?_⟩
    · show tP t n (k + 1) < run t n isB (tE t n (tP t n (k + 1)))
      have := (tE_b (t := t) (n := n) (f := tP t n (k + 1))).1 h
      have := (run_le t n isB (tE t n (tP t n (k + 1)))).1
      omega
    · show run t n isB (tE t n (tP t n (k + 1))) = n
      rw [h, (tE_b (t := t) (n := n) (f := n)).2 (Nat.le_refl _), run_e (Nat.le_refl _)]
    · by_cases q : tP t n k < n
      · have := (i2 q).2
        rcases i4 with z | z
        · left; omega
        · omega
      · right
        exact i3 (by omega)
/-- a token that is there -/
theorem tS_b {t : Nat → Int} {n f : Nat} : tS t n f ≤ 4 ∧ (tS t n f = 0 ↔ n ≤ f) := by
  unfold tS
  by_cases q : n ≤ f
  · rw [if_pos q]
    exact ⟨by omega, fun _ => q, fun _ => rfl⟩
  · rw [if_neg q]
    repeat' split
    all_goals exact ⟨by omega, fun z => by omega, fun z => absurd z q⟩
/-- a number's value; a word's (in the twin) -/
def nvF (t : Nat → Int) (f : Nat) : Nat → Nat → Int → Int
  | 0, _, v => v
  | d + 1, i, v => nvF t f d (i + 1) (if i - f < 4 then 10 * v + t i - 48 else v)
def nV (t : Nat → Int) (n f : Nat) : Int := nvF t f (tE t n f - f) f 0
def wdF (t : Nat → Int) (f : Nat) : Nat → Nat → Int → Int
  | 0, _, v => v
  | d + 1, i, v => wdF t f d (i + 1) (if i - f < 8 then 37 * v + (t i - 96) else v)
/-- the letters -/
def lts (t : Nat → Int) (f e : Nat) : List Int := (List.range (e - f)).map fun i => t (f + i)
/-- the twin's value of a token -/
def tV (t : Nat → Int) (n f : Nat) : Int := if isL (t f) = true then wdF t f (tE t n f - f) f 0 else if isD (t f) = true then nV t n f else t f
theorem nvF_b {t : Nat → Int} {f : Nat} : ∀ (d i : Nat) (v : Int), f ≤ i → (∀ j, i ≤ j → j < i + d → 48 ≤ t j ∧ t j ≤ 57) → 0 ≤ v → v ≤ 9999 → (i - f = 0 → v ≤ 0) → (i - f = 1 → v ≤ 9) → (i - f = 2 → v ≤ 99) → (i - f = 3 → v ≤ 999) → 0 ≤ nvF t f d i v ∧ nvF t f d i v ≤ 9999 := by
  intro d
  induction d with
  | zero => intro i v h1 h2 h3 h4 _ _ _ _; exact ⟨h3, h4⟩
  | succ d ih =>
    intro i v h1 h2 h3 h4 b0 b1 b2 b3
    have := h2 i (Nat.le_refl _) (by omega)
    show 0 ≤ nvF t f d (i + 1) (if i - f < 4 then 10 * v + t i - 48 else v) ∧ nvF t f d (i + 1) (if i - f < 4 then 10 * v + t i - 48 else v) ≤ 9999
    by_cases q : i - f < 4
    · rw [if_pos q]
      have hc : i - f = 0 ∨ i - f = 1 ∨ i - f = 2 ∨ i - f = 3 := by omega
      refine ih (i + 1) _ (by omega) (fun j a b => h2 j (by omega) (by omega)) ?_ ?_ ?_ ?_ ?_ ?_
      all_goals rcases hc with z | z | z | z
      all_goals first | omega | (have := b0 z; omega) | (have := b1 z; omega) | (have := b2 z; omega) | (have := b3 z; omega)
    · rw [if_neg q]
      exact ih (i + 1) _ (by omega) (fun j a b => h2 j (by omega) (by omega)) h3 h4 (by omega) (by omega) (by omega) (by omega)
theorem nV_b {t : Nat → Int} {n f : Nat} (h : f < n) (hd : isD (t f) = true) (hl : isL (t f) = false) : 0 ≤ nV t n f ∧ nV t n f ≤ 9999 := by
  unfold nV
  have he : tE t n f = run t n isD f := by
    unfold tE
    rw [if_neg (by omega), hl, if_neg (by decide), if_pos hd]
  have hr := (run_in (t := t) (n := n) (p := isD) n f (by omega)).1
  have hb := run_le t n isD f
  rw [he]
  refine nvF_b _ f 0 (Nat.le_refl _) (fun j a b => ?_) (by omega) (by omega) (by omega) (by omega) (by omega) (by omega)
  exact of_decide_eq_true (hr j a (by omega))
