/-! LAYER 2: words by their numbers to base 37 -/
set_option maxRecDepth 100000
def wdL : List Int → Int → Int
  | [], v => v
  | x :: xs, v => wdL xs (37 * v + (x - 96))
def rvL : List Int → Int
  | [] => 0
  | x :: xs => 37 * rvL xs + (x - 96)
theorem wdL_r : ∀ (xs l : List Int), wdL xs (rvL l) = rvL (xs.reverse ++ l) := by
  intro xs
  induction xs with
  | nil => intro l; rfl
  | cons x xs ih =>
    intro l
    show wdL xs (37 * rvL l + (x - 96)) = _
    rw [show 37 * rvL l + (x - 96) = rvL (x :: l) from rfl, ih, List.reverse_cons, List.append_assoc]
    rfl
theorem rvL_b : ∀ {l : List Int}, (∀ z ∈ l, 97 ≤ z ∧ z ≤ 122) → 0 ≤ rvL l ∧ (¬ l = [] → 1 ≤ rvL l) := by
  intro l
  induction l with
  | nil => intro _; exact ⟨Int.le_refl _, fun q => absurd rfl q⟩
  | cons x xs ih =>
    intro h
    have h1 := h x (List.mem_cons_self ..)
    have h2 := ih fun z hz => h z (List.mem_cons_of_mem _ hz)
    show 0 ≤ 37 * rvL xs + (x - 96) ∧ (_ → 1 ≤ 37 * rvL xs + (x - 96))
    exact ⟨by omega, fun _ => by omega⟩
theorem rvL_i : ∀ (l m : List Int), (∀ z ∈ l, 97 ≤ z ∧ z ≤ 122) → (∀ z ∈ m, 97 ≤ z ∧ z ≤ 122) → rvL l = rvL m → l = m := by
  intro l
  induction l with
  | nil =>
    intro m _ hm e
    cases m with
    | nil => rfl
    | cons y ys =>
      have := (rvL_b hm).2 (by simp)
      rw [← e] at this
      exact absurd this (by decide)
  | cons x xs ih =>
    intro m hl hm e
    cases m with
    | nil =>
      have := (rvL_b hl).2 (by simp)
      rw [e] at this
      exact absurd this (by decide)
    | cons y ys =>
      have h1 := hl x (List.mem_cons_self ..)
      have h2 := hm y (List.mem_cons_self ..)
      have e : 37 * rvL xs + (x - 96) = 37 * rvL ys + (y - 96) := e
      have ex : x = y := by omega
      have er : rvL xs = rvL ys := by omega
      rw [ex, ih ys (fun z hz => hl z (List.mem_cons_of_mem _ hz)) (fun z hz => hm z (List.mem_cons_of_mem _ hz)) er]
theorem wdL_i {l m : List Int} (hl : ∀ z ∈ l, 97 ≤ z ∧ z ≤ 122) (hm : ∀ z ∈ m, 97 ≤ z ∧ z ≤ 122) (h : wdL l 0 = wdL m 0) : l = m := by
  have e1 := wdL_r l []
  have e2 := wdL_r m []
  rw [List.append_nil] at e1 e2
  have e : rvL l.reverse = rvL m.reverse := by
    rw [← e1, ← e2]
    exact h
  have := rvL_i l.reverse m.reverse (fun z hz => hl z (List.mem_reverse.mp hz)) (fun z hz => hm z (List.mem_reverse.mp hz)) e
  exact List.reverse_inj.mp this
theorem wdF_l {t : Nat → Int} {f : Nat} : ∀ (d i : Nat) (v : Int), f ≤ i → i + d ≤ f + 8 → wdF t f d i v = wdL ((List.range d).map fun j => t (i + j)) v := by
  intro d
  induction d with
  | zero => intro i v h1 h2; rfl
  | succ d ih =>
    intro i v h1 h2
    show wdF t f d (i + 1) (if i - f < 8 then 37 * v + (t i - 96) else v) = _
    rw [if_pos (show i - f < 8 by omega), ih (i + 1) _ (by omega) (by omega), List.range_succ_eq_map, List.map_cons, List.map_map]
    show _ = wdL _ (37 * v + (t (i + 0) - 96))
    congr 1
    apply List.map_congr_left
    intro j _
    show t (i + 1 + j) = t (i + (j + 1))
    congr 1
    omega
section XW
variable {t : Nat → Int} {n f : Nat}
theorem tS_1 (h : tS t n f = 1) : tV t n f = wdL (wrd t n f) 0 ∧ ∀ z ∈ wrd t n f, 97 ≤ z ∧ z ≤ 122 := by
  obtain ⟨h1, h2, h3, h4, h5⟩ := tS_le h
  constructor
  · unfold tV
    rw [if_pos h5, wdF_l _ _ _ (Nat.le_refl _) (by omega)]
    rfl
  · intro z hz
    unfold wrd lts at hz
    obtain ⟨j, hj, e⟩ := List.mem_map.mp hz
    have hj := List.mem_range.mp hj
    rw [tE_L h1 h5] at hj
    have := (run_in (t := t) (n := n) (p := isL) (n - f) f (Nat.le_refl _)).1 (f + j) (by omega) (by omega)
    rw [← e]
    exact of_decide_eq_true this
/-- the twin's words -/
def wdW : List (List Int) := [[116, 111, 119, 110], [108, 105, 103, 104, 116], [98, 97, 114], [114, 117, 108, 101], [119, 97, 108, 107], [114, 117, 110], [115, 108, 111, 119], [114, 117, 110, 115], [99, 104, 105, 108, 100], [114, 111, 117, 110, 100], [111, 118, 101, 114], [111, 110], [102, 111, 114], [99, 108, 111, 99, 107], [104, 105, 100, 100, 101, 110], [98, 117, 116, 116, 111, 110], [112, 111, 108, 105, 99, 101], [110, 111, 116], [97, 110, 100], [111, 114], [108, 101, 102, 116], [117, 112]]
theorem wdW_b : ∀ k, k < 22 → wordsL.getD k 0 = i64 (wdL (wdW.getD k []) 0) ∧ (∀ z ∈ wdW.getD k [], 97 ≤ z ∧ z ≤ 122) ∧ wdL (wdW.getD k []) 0 < 4000000000000 ∧ 0 ≤ wdL (wdW.getD k []) 0 := by decide +kernel
/-- the word at hand is the twin's word k -/
theorem tV_w {k : Nat} (hk : k < 22) (h : tS t n f = 1) : tV t n f = wdL (wdW.getD k []) 0 ↔ wrd t n f = wdW.getD k [] := by
  obtain ⟨h1, h2⟩ := tS_1 h
  rw [h1]
  exact ⟨fun e => wdL_i h2 (wdW_b k hk).2.1 e, fun e => by rw [e]⟩
end XW
