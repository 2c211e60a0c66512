/-! LAYER 2: how long and how deep an expression may be -/
set_option maxRecDepth 100000
theorem bP_of {β γ : Type} {o : Int ⊕ (β × Nat)} {K : β → Nat → Int ⊕ (γ × Nat)} {A : γ} {k2 : Nat} (h : bP o K = .inr (A, k2)) : ∃ b k1, o = .inr (b, k1) ∧ K b k1 = .inr (A, k2) := by
  cases o with
  | inl e => cases h
  | inr y => exact ⟨y.1, y.2, rfl, h⟩
section XH
variable {t : Nat → Int} {n : Nat}
theorem tP_lt {k : Nat} (h : tP t n k < n) : tP t n k < tP t n (k + 1) := by
  have h2 := (tE_b (t := t) (n := n) (f := tP t n k)).1 h
  have h3 := run_le t n isB (tE t n (tP t n k))
  show _ < run t n isB (tE t n (tP t n k))
  omega
def XG (t : Nat → Int) (n w k : Nat) (o : XO) : Prop := ∀ A k2, o = .inr (A, k2) → tP t n k < tP t n k2 ∧ A.1.length + tP t n k ≤ tP t n k2 ∧ 2 * A.2 + tP t n k + 2 * w ≤ tP t n k2 + 11
theorem op_g {w k0 k k2 c : Nat} {A B : XV} (h1 : tP t n k0 < tP t n k) (h2 : A.1.length + tP t n k0 ≤ tP t n k) (h3 : 2 * A.2 + tP t n k0 + 2 * w ≤ tP t n k + 11) (hk : tP t n k < n) (hB : tP t n (k + 1) < tP t n k2 ∧ B.1.length + tP t n (k + 1) ≤ tP t n k2 ∧ 2 * B.2 + tP t n (k + 1) + 2 * w ≤ tP t n k2 + 11) : tP t n k0 < tP t n k2 ∧ (opX c A B).1.length + tP t n k0 ≤ tP t n k2 ∧ 2 * (opX c A B).2 + tP t n k0 + 2 * w ≤ tP t n k2 + 11 := by
  have hl := tP_lt hk
  have e1 : (opX c A B).1.length = A.1.length + (B.1.length + 1) := by
    show (A.1 ++ (B.1 ++ [(c, 0)])).length = _
    rw [List.length_append, List.length_append]
    rfl
  have e2 : (opX c A B).2 = max A.2 B.2 + 1 := rfl
  rw [e1, e2]
  refine ⟨by omega, by omega, ?_⟩
  rcases Nat.le_total A.2 B.2 with z | z
  · rw [Nat.max_eq_right z]; omega
  · rw [Nat.max_eq_left z]; omega
theorem prL_g {w : Nat} {pt : Nat → XO} (hp : ∀ k, XG t n w k (pt k)) {k0 : Nat} : ∀ (m : Nat) (A : XV) (k : Nat), tP t n k0 < tP t n k → A.1.length + tP t n k0 ≤ tP t n k → 2 * A.2 + tP t n k0 + 2 * w ≤ tP t n k + 11 → XG t n w k0 (prL t n pt m A k) := by
  intro m
  induction m with
  | zero =>
    intro A k h1 h2 h3 A' k2 e
    cases e
    exact ⟨h1, h2, h3⟩
  | succ m ih =>
    intro A k h1 h2 h3 A' k2 e
    unfold prL at e
    by_cases q : isSg t n 42 (tP t n k) = true
    · rw [if_pos q] at e
      obtain ⟨B, k1, e1, e2⟩ := bP_of e
      obtain ⟨g1, g2, g3⟩ := op_g (c := 6) h1 h2 h3 (isSg_lt q) (hp (k + 1) B k1 e1)
      exact ih _ _ g1 g2 g3 A' k2 e2
    · rw [if_neg q] at e
      cases e
      exact ⟨h1, h2, h3⟩
theorem prX_g {w : Nat} {pt : Nat → XO} (hp : ∀ k, XG t n w k (pt k)) (k : Nat) : XG t n w k (prX t n pt k) := fun A k2 e => by
  obtain ⟨B, k1, e1, e2⟩ := bP_of e
  obtain ⟨g1, g2, g3⟩ := hp k B k1 e1
  exact prL_g hp 1001 B k1 g1 g2 g3 A k2 e2
theorem smL_g {w : Nat} {pt : Nat → XO} (hp : ∀ k, XG t n w k (pt k)) {k0 : Nat} : ∀ (m : Nat) (A : XV) (k : Nat), tP t n k0 < tP t n k → A.1.length + tP t n k0 ≤ tP t n k → 2 * A.2 + tP t n k0 + 2 * w ≤ tP t n k + 11 → XG t n w k0 (smL t n pt m A k) := by
  intro m
  induction m with
  | zero =>
    intro A k h1 h2 h3 A' k2 e
    cases e
    exact ⟨h1, h2, h3⟩
  | succ m ih =>
    intro A k h1 h2 h3 A' k2 e
    unfold smL at e
    by_cases q : isSg t n 43 (tP t n k) = true
    · rw [if_pos q] at e
      obtain ⟨B, k1, e1, e2⟩ := bP_of e
      obtain ⟨g1, g2, g3⟩ := op_g (c := 4) h1 h2 h3 (isSg_lt q) (prX_g hp (k + 1) B k1 e1)
      exact ih _ _ g1 g2 g3 A' k2 e2
    · rw [if_neg q] at e
      by_cases q2 : isSg t n 45 (tP t n k) = true
      · rw [if_pos q2] at e
        obtain ⟨B, k1, e1, e2⟩ := bP_of e
        obtain ⟨g1, g2, g3⟩ := op_g (c := 5) h1 h2 h3 (isSg_lt q2) (prX_g hp (k + 1) B k1 e1)
        exact ih _ _ g1 g2 g3 A' k2 e2
      · rw [if_neg q2] at e
        cases e
        exact ⟨h1, h2, h3⟩
theorem smX_g {w : Nat} {pt : Nat → XO} (hp : ∀ k, XG t n w k (pt k)) (k : Nat) : XG t n w k (smX t n pt k) := fun A k2 e => by
  obtain ⟨B, k1, e1, e2⟩ := bP_of e
  obtain ⟨g1, g2, g3⟩ := prX_g hp k B k1 e1
  exact smL_g hp 1001 B k1 g1 g2 g3 A k2 e2
theorem teX_g {w : Nat} {pt : Nat → XO} (hp : ∀ k, XG t n w k (pt k)) (k : Nat) : XG t n w k (teX t n pt k) := fun A k2 e => by
  obtain ⟨B, k1, e1, e2⟩ := bP_of e
  obtain ⟨g1, g2, g3⟩ := smX_g hp k B k1 e1
  by_cases q : isSg t n 60 (tP t n k1) = true
  · rw [if_pos q] at e2
    obtain ⟨C, k3, e3, e4⟩ := bP_of e2
    cases e4
    exact op_g (c := 7) g1 g2 g3 (isSg_lt q) (smX_g hp (k1 + 1) C _ e3)
  · rw [if_neg q] at e2
    by_cases q2 : isSg t n 61 (tP t n k1) = true
    · rw [if_pos q2] at e2
      obtain ⟨C, k3, e3, e4⟩ := bP_of e2
      cases e4
      exact op_g (c := 8) g1 g2 g3 (isSg_lt q2) (smX_g hp (k1 + 1) C _ e3)
    · rw [if_neg q2] at e2
      cases e2
      exact ⟨g1, g2, g3⟩
theorem exL_g {w : Nat} {pt : Nat → XO} (hp : ∀ k, XG t n w k (pt k)) {k0 : Nat} : ∀ (m : Nat) (A : XV) (k : Nat), tP t n k0 < tP t n k → A.1.length + tP t n k0 ≤ tP t n k → 2 * A.2 + tP t n k0 + 2 * w ≤ tP t n k + 11 → XG t n w k0 (exL t n pt m A k) := by
  intro m
  induction m with
  | zero =>
    intro A k h1 h2 h3 A' k2 e
    cases e
    exact ⟨h1, h2, h3⟩
  | succ m ih =>
    intro A k h1 h2 h3 A' k2 e
    unfold exL at e
    by_cases q : 0 ≤ whV aoW t n (tP t n k)
    · rw [if_pos q] at e
      obtain ⟨B, k1, e1, e2⟩ := bP_of e
      obtain ⟨g1, g2, g3⟩ := op_g (c := if whV aoW t n (tP t n k) = 0 then 9 else 10) h1 h2 h3 (whV_lt q) (teX_g hp (k + 1) B k1 e1)
      exact ih _ _ g1 g2 g3 A' k2 e2
    · rw [if_neg q] at e
      cases e
      exact ⟨h1, h2, h3⟩
theorem exX_g {w : Nat} {pt : Nat → XO} (hp : ∀ k, XG t n w k (pt k)) (k : Nat) : XG t n w k (exX t n pt k) := fun A k2 e => by
  obtain ⟨B, k1, e1, e2⟩ := bP_of e
  obtain ⟨g1, g2, g3⟩ := teX_g hp k B k1 e1
  exact exL_g hp 1001 B k1 g1 g2 g3 A k2 e2
theorem nmP_i {lo hi v : Int} {f k k2 : Nat} (h : nmP t n lo hi f k = .inr (v, k2)) : f < n ∧ k2 = k + 1 ∧ lo ≤ v ∧ v ≤ hi := by
  unfold nmP at h
  by_cases q : tS t n f = 2
  · rw [if_pos q] at h
    by_cases q1 : nV t n f < lo
    · rw [if_pos q1] at h; cases h
    · rw [if_neg q1] at h
      by_cases q2 : nV t n f ≤ hi
      · rw [if_pos q2] at h
        cases h
        exact ⟨(tS_2 q).1, rfl, by omega, q2⟩
      · rw [if_neg q2] at h; cases h
  · rw [if_neg q] at h; cases h
theorem ndP_i {b : Bool} {f k k2 : Nat} {u : Unit} (h : ndP b f k = .inr (u, k2)) : b = true ∧ k2 = k + 1 := by
  unfold ndP at h
  by_cases q : b = true
  · rw [if_pos q] at h
    cases h
    exact ⟨q, rfl⟩
  · rw [if_neg q] at h; cases h
theorem ptX_g : ∀ (d w : Nat), w ≤ 5 → ∀ k, XG t n w k (ptX t n d w k) := by
  intro d
  induction d with
  | zero => intro w hw k A k2 e; cases e
  | succ d ih =>
    intro w hw k A k2 e
    unfold ptX at e
    by_cases q0 : whV fcW t n (tP t n k) < 0 ∧ whV ntW t n (tP t n k) < 0 ∧ isSg t n 40 (tP t n k) = false ∧ ¬ tS t n (tP t n k) = 2
    · rw [if_pos q0] at e; cases e
    · rw [if_neg q0] at e
      unfold p57 at e
      by_cases q5 : w = 5
      · rw [if_pos q5] at e; cases e
      · have hp := ih (w + 1) (by omega)
        rw [if_neg q5] at e
        by_cases q2 : tS t n (tP t n k) = 2
        · rw [if_pos q2] at e
          obtain ⟨v, k1, e1, e2⟩ := bP_of e
          obtain ⟨g1, g2, g3, g4⟩ := nmP_i e1
          cases e2
          subst g2
          have hl := tP_lt g1
          exact ⟨hl, by show 1 + _ ≤ _; omega, by show 2 * 1 + _ + _ ≤ _; omega⟩
        · rw [if_neg q2] at e
          by_cases x0 : whV fcW t n (tP t n k) < 0
          · rw [if_pos x0] at e
            by_cases y0 : whV ntW t n (tP t n k) < 0
            · rw [if_pos y0] at e
              obtain ⟨B, k1, e1, e2⟩ := bP_of e
              obtain ⟨u, k3, e3, e4⟩ := bP_of e2
              obtain ⟨g1, g2⟩ := ndP_i e3
              cases e4
              subst g2
              have hs : isSg t n 40 (tP t n k) = true := by
                cases hs : isSg t n 40 (tP t n k) with
                | true => rfl
                | false => exact absurd ⟨x0, y0, hs, q2⟩ q0
              have hl := tP_lt (isSg_lt hs)
              have hl2 := tP_lt (isSg_lt g1)
              obtain ⟨f1, f2, f3⟩ := exX_g hp (k + 1) _ k1 e1
              exact ⟨by omega, by omega, by omega⟩
            · rw [if_neg y0] at e
              obtain ⟨B, k1, e1, e2⟩ := bP_of e
              cases e2
              have hl := tP_lt (whV_lt (t := t) (show 0 ≤ whV ntW t n (tP t n k) by omega))
              obtain ⟨f1, f2, f3⟩ := hp (k + 1) B _ e1
              refine ⟨by omega, ?_, ?_⟩
              · rw [List.length_append]
                show B.1.length + 1 + _ ≤ _
                omega
              · show 2 * (B.2 + 1) + _ + _ ≤ _
                omega
          · rw [if_neg x0] at e
            cases e
            have hl := tP_lt (whV_lt (t := t) (show 0 ≤ whV fcW t n (tP t n k) by omega))
            exact ⟨hl, by show 1 + _ ≤ _; omega, by show 2 * 1 + _ + _ ≤ _; omega⟩
/-- a whole expression: its length and depth -/
theorem exX_b {k k2 : Nat} {A : XV} (h : exX t n (ptX t n 6 0) k = .inr (A, k2)) : tP t n k < tP t n k2 ∧ A.1.length + tP t n k ≤ tP t n k2 ∧ 2 * A.2 + tP t n k ≤ tP t n k2 + 11 := exX_g (w := 0) (ptX_g 6 0 (by omega)) k A k2 h
end XH
