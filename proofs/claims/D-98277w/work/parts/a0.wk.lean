/-! LAYER 2: the pure parser of walks -/
set_option maxRecDepth 100000
/-- a walk under way: its lines, how many, where it has come -/
abbrev WKV := (Nat → Int) × Nat × Nat × Nat
def wkS (v : WKV) (way s : Int) : WKV := (upW (upW v.1 (1 + 2 * v.2.1) way) (2 + 2 * v.2.1) s, v.2.1 + 1, (if way = 0 then v.2.2.1 + 1 else v.2.2.1), if way = 0 then v.2.2.2 else v.2.2.2 + 1)
def wkL (t : Nat → Int) (n : Nat) (W : Nat → Int) : Nat → WKV → Nat → Int ⊕ (WKV × Nat)
  | 0, v, k => .inr (v, k)
  | d + 1, v, k => if tS t n (tP t n k) = 0 then .inr (v, k) else if whV owW t n (tP t n k) < 0 then .inl (1 + 16 * (tP t n k : Int)) else if (thA W v.2.2.1 v.2.2.2 (decide (whV owW t n (tP t n k) = 1)) && !brA W v.2.2.1 v.2.2.2 (decide (whV owW t n (tP t n k) = 1))) = false then .inl (2 + 16 * (tP t n k : Int)) else if v.2.1 = 13 then .inl (5 + 16 * (tP t n k : Int)) else bP (nmP t n 0 9999 (tP t n (k + 1)) (k + 1)) fun s k1 => bP (ndP (isSg t n 59 (tP t n k1)) (tP t n k1) k1) fun _ k2 => wkL t n W d (wkS v (whV owW t n (tP t n k)) s) k2
def wkX (t : Nat → Int) (n : Nat) (W : Nat → Int) : Int ⊕ (WKV × Nat) := wkL t n W 1001 (fun _ => 0, 0, 0, 0) 0
/-- a line of a walk -/
def Wkc (W V : Nat → Int) (k : Nat) (way s : Int) : Prop := (way = 0 ∨ way = 1) ∧ (0 ≤ s ∧ s ≤ 9999) ∧ xW V k ≤ k ∧ thA W (xW V k) (k - xW V k) (decide (way = 1)) = true ∧ brA W (xW V k) (k - xW V k) (decide (way = 1)) = false ∧ (xW V k : Int) < W 0 ∧ ((k - xW V k : Nat) : Int) < W 1
theorem Wkc_e {W V V' : Nat → Int} {k : Nat} {way s : Int} (e : xW V' k = xW V k) (h : Wkc W V k way s) : Wkc W V' k way s := by
  unfold Wkc
  rw [e]
  exact h
/-- a walk under way is well -/
def WII (W : Nat → Int) (v : WKV) : Prop := v.2.1 ≤ 13 ∧ xW v.1 v.2.1 = v.2.2.1 ∧ v.2.2.1 + v.2.2.2 = v.2.1 ∧ (v.2.2.1 : Int) < W 0 ∧ (v.2.2.2 : Int) < W 1 ∧ ∀ k, k < v.2.1 → Wkc W v.1 k (v.1 (1 + 2 * k)) (v.1 (2 + 2 * k))
theorem xW_e {V V' : Nat → Int} : ∀ k, (∀ j, j < k → V' (1 + 2 * j) = V (1 + 2 * j)) → xW V' k = xW V k := by
  intro k
  induction k with
  | zero => intro _; rfl
  | succ k ih =>
    intro h
    show xW V' k + (if V' (1 + 2 * k) = 0 then 1 else 0) = xW V k + (if V (1 + 2 * k) = 0 then 1 else 0)
    rw [ih fun j hj => h j (by omega), h k (by omega)]
section WKI
variable {t : Nat → Int} {n : Nat} {W : Nat → Int}
theorem wkS_g {v : WKV} {way s : Int} (h : WII W v) (hw : way = 0 ∨ way = 1) (hs : 0 ≤ s ∧ s ≤ 9999) (h1 : thA W v.2.2.1 v.2.2.2 (decide (way = 1)) = true) (h2 : brA W v.2.2.1 v.2.2.2 (decide (way = 1)) = false) (h3 : ¬ v.2.1 = 13) : WII W (wkS v way s) := by
  obtain ⟨V, m, x, y⟩ := v
  obtain ⟨a1, a2, a3, a4, a5, a6⟩ := h
  have a1 : m ≤ 13 := a1
  have a2 : xW V m = x := a2
  have a3 : x + y = m := a3
  have a4 : (x : Int) < W 0 := a4
  have a5 : (y : Int) < W 1 := a5
  have h1 : thA W x y (decide (way = 1)) = true := h1
  have h2 : brA W x y (decide (way = 1)) = false := h2
  have h3 : ¬ m = 13 := h3
  have R : ∀ j, ¬ j = 1 + 2 * m → ¬ j = 2 + 2 * m → upW (upW V (1 + 2 * m) way) (2 + 2 * m) s j = V j := fun j z1 z2 => (upW_n z2).trans (upW_n z1)
  have R1 : upW (upW V (1 + 2 * m) way) (2 + 2 * m) s (1 + 2 * m) = way := (upW_n (by omega)).trans upW_t
  have R2 : upW (upW V (1 + 2 * m) way) (2 + 2 * m) s (2 + 2 * m) = s := upW_t
  have ex : ∀ k, k ≤ m → xW (upW (upW V (1 + 2 * m) way) (2 + 2 * m) s) k = xW V k := fun k hk => xW_e k fun j hj => R _ (by omega) (by omega)
  unfold WII wkS
  dsimp only
  refine ⟨by omega, ?_, ?_, ?_, ?_, fun k hk => ?_⟩
  · show xW _ m + (if upW (upW V (1 + 2 * m) way) (2 + 2 * m) s (1 + 2 * m) = 0 then 1 else 0) = _
    rw [R1, ex m (Nat.le_refl _), a2]
    rcases hw with rfl | rfl
    · rfl
    · rfl
  · rcases hw with rfl | rfl
    · show x + 1 + y = m + 1; omega
    · show x + (y + 1) = m + 1; omega
  · rcases hw with rfl | rfl
    · unfold thA at h1
      rw [if_neg (by decide)] at h1
      have := of_decide_eq_true h1
      show ((x + 1 : Nat) : Int) < W 0
      omega
    · exact a4
  · rcases hw with rfl | rfl
    · exact a5
    · unfold thA at h1
      rw [if_pos (by decide)] at h1
      have := of_decide_eq_true h1
      show ((y + 1 : Nat) : Int) < W 1
      omega
  · have hk : k < m + 1 := hk
    show Wkc W (upW (upW V (1 + 2 * m) way) (2 + 2 * m) s) k (upW (upW V (1 + 2 * m) way) (2 + 2 * m) s (1 + 2 * k)) (upW (upW V (1 + 2 * m) way) (2 + 2 * m) s (2 + 2 * k))
    by_cases q : k = m
    · rw [q, R1, R2]
      unfold Wkc
      rw [ex m (Nat.le_refl _), a2, show m - x = y by omega]
      exact ⟨hw, hs, by omega, h1, h2, a4, a5⟩
    · rw [R _ (by omega) (by omega), R _ (by omega) (by omega)]
      exact Wkc_e (ex k (by omega)) (a6 k (by show k < m; omega))
theorem WII_V {v : WKV} {V' : Nat → Int} (h : WII W v) (e0 : V' 0 = (v.2.1 : Int)) (e : ∀ j, 1 ≤ j → j ≤ 2 * v.2.1 → V' j = v.1 j) : VW W V' := by
  obtain ⟨a1, a2, a3, a4, a5, a6⟩ := h
  refine ⟨by rw [e0]; omega, fun k hk => ?_⟩
  rw [e0] at hk
  show Wkc W V' k (V' (1 + 2 * k)) (V' (2 + 2 * k))
  rw [e _ (by omega) (by omega), e _ (by omega) (by omega)]
  exact Wkc_e (xW_e k fun j hj => e _ (by omega) (by omega)) (a6 k (by omega))
theorem wkL_g : ∀ (d : Nat) (v v' : WKV) (k k' : Nat), WII W v → wkL t n W d v k = .inr (v', k') → WII W v' := by
  intro d
  induction d with
  | zero => intro v v' k k' h e; cases e; exact h
  | succ d ih =>
    intro v v' k k' h e
    have hb := whV_b owW t n (tP t n k)
    have hl : (owW.length : Int) = 2 := rfl
    unfold wkL at e
    by_cases q0 : tS t n (tP t n k) = 0
    · rw [if_pos q0] at e; cases e; exact h
    · rw [if_neg q0] at e
      by_cases q1 : whV owW t n (tP t n k) < 0
      · rw [if_pos q1] at e; cases e
      · rw [if_neg q1] at e
        cases q2 : (thA W v.2.2.1 v.2.2.2 (decide (whV owW t n (tP t n k) = 1)) && !brA W v.2.2.1 v.2.2.2 (decide (whV owW t n (tP t n k) = 1))) with
        | false => rw [q2, if_pos rfl] at e; cases e
        | true =>
          rw [q2, if_neg (show ¬ (true = false) by decide)] at e
          by_cases q3 : v.2.1 = 13
          · rw [if_pos q3] at e; cases e
          · rw [if_neg q3] at e
            obtain ⟨s, k1, e1, e⟩ := bP_of e
            obtain ⟨x1, rfl, x2, x3⟩ := nmP_i e1
            obtain ⟨u, k2, e2, e⟩ := bP_of e
            obtain ⟨g1, g2⟩ := (Bool.and_eq_true _ _).mp q2
            have g2 : brA W v.2.2.1 v.2.2.2 (decide (whV owW t n (tP t n k) = 1)) = false := by
              cases z : brA W v.2.2.1 v.2.2.2 (decide (whV owW t n (tP t n k) = 1)) with
              | false => rfl
              | true => rw [z] at g2; cases g2
            exact ih _ _ _ _ (wkS_g h (by omega) ⟨x2, x3⟩ g1 g2 q3) e
theorem wkX_g (hW : TW W) {v : WKV} {k : Nat} (e : wkX t n W = .inr (v, k)) : WII W v := by
  have w0 := hW.1
  have w1 := hW.2.1
  exact wkL_g 1001 _ v 0 k ⟨Nat.zero_le _, rfl, rfl, by show ((0 : Nat) : Int) < W 0; omega, by show ((0 : Nat) : Int) < W 1; omega, fun k hk => absurd hk (Nat.not_lt_zero k)⟩ e
end WKI
