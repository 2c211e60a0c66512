/-! LAYER 2: counts -/
set_option maxRecDepth 100000
def cntP (p : Nat → Bool) : Nat → Nat
  | 0 => 0
  | k + 1 => cntP p k + if p k = true then 1 else 0
theorem cntP_f (p : Nat → Bool) : ∀ k, ((List.range k).filter p).length = cntP p k := by
  intro k
  induction k with
  | zero => rfl
  | succ k ih =>
    rw [List.range_succ, List.filter_append, List.length_append, ih, show cntP p (k + 1) = cntP p k + (if p k = true then 1 else 0) from rfl]
    cases h : p k with
    | true =>
      rw [List.filter_cons_of_pos h]
      rfl
    | false =>
      rw [List.filter_cons_of_neg (by rw [h]; decide)]
      rfl
theorem cntP_b (p : Nat → Bool) : ∀ k, cntP p k ≤ k := by
  intro k
  induction k with
  | zero => exact Nat.le_refl _
  | succ k ih =>
    show cntP p k + (if p k = true then 1 else 0) ≤ k + 1
    split <;> omega
def coV (W σ V m : Nat → Int) (w : Int) : Int := if w = 0 then W 0 else if w = 1 then W 1 else if w = 2 then W 7 else if w = 3 then W 8 else if w = 4 then V 0 else if w = 5 then σ 0 else if w = 6 then σ 1 else if w = 7 then σ 2 else if w = 8 then rsA W - σ 3 else if w = 9 then (cntP (unA W σ) 54 : Nat) else if w = 10 then σ 58 else if w = 11 then σ 59 else if w = 12 then W 9 else if w = 13 then m 1 else if w = 14 then m 0 else -1
section CO
variable {g : Nat → Nat} {ρ : Nat → Nat × Nat} {W : Nat → Int} {S : Nat → Nat → Int} {V m Tp : Nat → Int} {RC : Nat → List (Nat × Int)} {s : CS} {τ : TS} {T : Int} {nf : Nat}
theorem cco_l (b : B g ρ W S V m Tp RC s) (hW : TW W) : ∀ (d n k : Nat), k + d = 54 → d < n → FX0_lights_b4 nf s n (g 0) (i32 (cntP (fun c => decide (0 < W (10 + 4 * c))) k : Nat)) (i32 (k : Int)) = some (i32 (cntP (fun c => decide (0 < W (10 + 4 * c))) 54 : Nat)) := by
  intro d
  induction d with
  | zero =>
    intro n k h1 h2
    obtain ⟨n, rfl⟩ : ∃ q, n = q + 1 := ⟨n - 1, by omega⟩
    rw [show FX0_lights_b4 nf s (n + 1) = FX0_lights_b4_s nf s (FX0_lights_b4 nf s n) from rfl]
    unfold FX0_lights_b4_s
    (try simp only [lits]) <;> simp (disch := omega) only [↓wps, ↓bcp b, bci b, nrm, wps, cmps, if_pos, if_neg, eq_self, if_true, if_false, Bool.false_eq_true, Bool.true_eq_false, dec_f]
    rw [show k = 54 by omega]
  | succ d ih =>
    intro n k h1 h2
    obtain ⟨n, rfl⟩ : ∃ q, n = q + 1 := ⟨n - 1, by omega⟩
    have L := ih n (k + 1) (by omega) (by omega)
    have en : (k : Int).toNat = k := Int.toNat_natCast k
    have es : cntP (fun c => decide (0 < W (10 + 4 * c))) (k + 1) = cntP (fun c => decide (0 < W (10 + 4 * c))) k + if decide (0 < W (10 + 4 * k)) = true then 1 else 0 := rfl
    rw [show FX0_lights_b4 nf s (n + 1) = FX0_lights_b4_s nf s (FX0_lights_b4 nf s n) from rfl]
    unfold FX0_lights_b4_s
    rcases c_light0 b (c := k) (by omega) with ⟨h0, hq⟩ | ⟨h0, l, hq, hl⟩
    · (try simp only [lits]) <;> simp (disch := omega) only [↓wps, ↓bcp b, bci b, nrm, wps, cmps, if_pos, if_neg, eq_self, if_true, if_false, Bool.false_eq_true, Bool.true_eq_false, dec_f, bld b, en, hq]
      rw [es, decide_eq_false (show ¬ 0 < W (10 + 4 * k) by omega)] at L
      exact L
    · (try simp only [lits]) <;> simp (disch := omega) only [↓wps, ↓bcp b, bci b, nrm, wps, cmps, if_pos, if_neg, eq_self, if_true, if_false, Bool.false_eq_true, Bool.true_eq_false, dec_f, bld b, en, hq]
      rw [es, decide_eq_true h0] at L
      exact L
theorem c_lights (hn : 100 ≤ nf) (b : B g ρ W S V m Tp RC s) (hW : TW W) (hL : LW_ W) : FX0_lights nf s (g 0) = some (i32 (W 7)) := by
  unfold FX0_lights
  rw [(bcp b).1, hL.2, cntP_f]
  exact cco_l b hW 54 nf 0 rfl (by omega)
theorem cco_u (b : B g ρ W S V m Tp RC s) (hW : TW W) (hS : SW W T (S 0)) : ∀ (d n k : Nat), k + d = 54 → d < n → FX0_unknown_b4 nf s n (g 0) (i32 (cntP (unA W (S 0)) k : Nat)) (i32 (k : Int)) = some (i32 (cntP (unA W (S 0)) 54 : Nat)) := by
  intro d
  induction d with
  | zero =>
    intro n k h1 h2
    obtain ⟨n, rfl⟩ : ∃ q, n = q + 1 := ⟨n - 1, by omega⟩
    rw [show FX0_unknown_b4 nf s (n + 1) = FX0_unknown_b4_s nf s (FX0_unknown_b4 nf s n) from rfl]
    unfold FX0_unknown_b4_s
    (try simp only [lits]) <;> simp (disch := omega) only [↓wps, ↓bcp b, bci b, nrm, wps, cmps, if_pos, if_neg, eq_self, if_true, if_false, Bool.false_eq_true, Bool.true_eq_false, dec_f]
    rw [show k = 54 by omega]
  | succ d ih =>
    intro n k h1 h2
    obtain ⟨n, rfl⟩ : ∃ q, n = q + 1 := ⟨n - 1, by omega⟩
    have L := ih n (k + 1) (by omega) (by omega)
    have es : cntP (unA W (S 0)) (k + 1) = cntP (unA W (S 0)) k + if unA W (S 0) k = true then 1 else 0 := rfl
    rw [show FX0_unknown_b4 nf s (n + 1) = FX0_unknown_b4_s nf s (FX0_unknown_b4 nf s n) from rfl]
    unfold FX0_unknown_b4_s
    (try simp only [lits]) <;> simp (disch := omega) only [↓wps, ↓bcp b, bci b, ↓bd_t (c_isUnknown b hW hS (show k < 54 by omega)), nrm, wps, cmps, if_pos, if_neg, eq_self, if_true, if_false, Bool.false_eq_true, Bool.true_eq_false, dec_f]
    rw [es] at L
    cases hu : unA W (S 0) k with
    | true =>
      rw [hu] at L
      exact L
    | false =>
      rw [hu] at L
      exact L
theorem c_unknown (hn : 100 ≤ nf) (b : B g ρ W S V m Tp RC s) (hW : TW W) (hS : SW W T (S 0)) : FX0_unknown nf s (g 0) = some (i32 (cntP (unA W (S 0)) 54 : Nat)) := by
  unfold FX0_unknown
  rw [(bcp b).1]
  exact cco_u b hW hS 54 nf 0 rfl (by omega)
theorem c_size0 (b : B g ρ W S V m Tp RC s) : FJ2_size s (g 10) = some (i32 (W 8)) := by
  unfold FJ2_size
  (try simp only [lits]) <;> simp (disch := omega) only [↓wps, ↓bcp b, bci b, nrm, wps, cmps, if_pos, if_neg, eq_self, if_true, if_false, Bool.false_eq_true, Bool.true_eq_false, dec_f]
theorem c_count (hn : 100 ≤ nf) (b : B g ρ W S V m Tp RC s) (hW : TW W) (hL : LW_ W) (hS : SW W T (S 0)) {w : Int} (hw : ok32 w) : FX0_count nf s (g 0) (i32 w) = some (i32 (coV W (S 0) V m w)) := by
  obtain ⟨w1, w2⟩ := id hw
  obtain ⟨o1, o2, o3, o4, o5, -⟩ := b_now b
  have l1 := c_lights hn b hW hL
  have l2 := c_unknown hn b hW hS
  have l3 := c_runs b hW
  have l4 := c_size0 b
  unfold FX0_count
  rw [(bcp b).1]
  rcases (show w = 0 ∨ w = 1 ∨ w = 2 ∨ w = 3 ∨ w = 4 ∨ w = 5 ∨ w = 6 ∨ w = 7 ∨ w = 8 ∨ w = 9 ∨ w = 10 ∨ w = 11 ∨ w = 12 ∨ w = 13 ∨ w = 14 ∨ ¬ (0 ≤ w ∧ w ≤ 14) by omega) with rfl | rfl | rfl | rfl | rfl | rfl | rfl | rfl | rfl | rfl | rfl | rfl | rfl | rfl | rfl | hq
  · rw [if_pos (show i32 0 = (0 : Int32) from rfl), show coV W (S 0) V m 0 = W 0 from rfl]
    (try simp only [lits]) <;> simp (disch := omega) only [↓wps, ↓bcp b, bci b, nrm, wps, cmps, if_pos, if_neg, eq_self, if_true, if_false, Bool.false_eq_true, Bool.true_eq_false, dec_f]
  · rw [if_neg (show ¬ i32 1 = (0 : Int32) by decide), if_pos (show i32 1 = (1 : Int32) from rfl), show coV W (S 0) V m 1 = W 1 from rfl]
    (try simp only [lits]) <;> simp (disch := omega) only [↓wps, ↓bcp b, bci b, nrm, wps, cmps, if_pos, if_neg, eq_self, if_true, if_false, Bool.false_eq_true, Bool.true_eq_false, dec_f]
  · rw [if_neg (show ¬ i32 2 = (0 : Int32) by decide), if_neg (show ¬ i32 2 = (1 : Int32) by decide), if_pos (show i32 2 = (2 : Int32) from rfl), show coV W (S 0) V m 2 = W 7 from rfl]
    rw [l1, bd_eq]
  · rw [if_neg (show ¬ i32 3 = (0 : Int32) by decide), if_neg (show ¬ i32 3 = (1 : Int32) by decide), if_neg (show ¬ i32 3 = (2 : Int32) by decide), if_pos (show i32 3 = (3 : Int32) from rfl), show coV W (S 0) V m 3 = W 8 from rfl]
    (try simp only [lits]) <;> simp (disch := omega) only [↓wps, ↓bcp b, bci b, ↓bd_t (l4), nrm, wps, cmps, if_pos, if_neg, eq_self, if_true, if_false, Bool.false_eq_true, Bool.true_eq_false, dec_f]
  · rw [if_neg (show ¬ i32 4 = (0 : Int32) by decide), if_neg (show ¬ i32 4 = (1 : Int32) by decide), if_neg (show ¬ i32 4 = (2 : Int32) by decide), if_neg (show ¬ i32 4 = (3 : Int32) by decide), if_pos (show i32 4 = (4 : Int32) from rfl), show coV W (S 0) V m 4 = V 0 from rfl]
    (try simp only [lits]) <;> simp (disch := omega) only [↓wps, ↓bcp b, bci b, nrm, wps, cmps, if_pos, if_neg, eq_self, if_true, if_false, Bool.false_eq_true, Bool.true_eq_false, dec_f]
  · rw [if_neg (show ¬ i32 5 = (0 : Int32) by decide), if_neg (show ¬ i32 5 = (1 : Int32) by decide), if_neg (show ¬ i32 5 = (2 : Int32) by decide), if_neg (show ¬ i32 5 = (3 : Int32) by decide), if_neg (show ¬ i32 5 = (4 : Int32) by decide), if_pos (show i32 5 = (5 : Int32) from rfl), show coV W (S 0) V m 5 = S 0 0 from rfl]
    (try simp only [lits]) <;> simp (disch := omega) only [↓wps, ↓bcp b, bci b, nrm, wps, cmps, if_pos, if_neg, eq_self, if_true, if_false, Bool.false_eq_true, Bool.true_eq_false, dec_f, so_cx o1]
  · rw [if_neg (show ¬ i32 6 = (0 : Int32) by decide), if_neg (show ¬ i32 6 = (1 : Int32) by decide), if_neg (show ¬ i32 6 = (2 : Int32) by decide), if_neg (show ¬ i32 6 = (3 : Int32) by decide), if_neg (show ¬ i32 6 = (4 : Int32) by decide), if_neg (show ¬ i32 6 = (5 : Int32) by decide), if_pos (show i32 6 = (6 : Int32) from rfl), show coV W (S 0) V m 6 = S 0 1 from rfl]
    (try simp only [lits]) <;> simp (disch := omega) only [↓wps, ↓bcp b, bci b, nrm, wps, cmps, if_pos, if_neg, eq_self, if_true, if_false, Bool.false_eq_true, Bool.true_eq_false, dec_f, so_cx o1]
  · rw [if_neg (show ¬ i32 7 = (0 : Int32) by decide), if_neg (show ¬ i32 7 = (1 : Int32) by decide), if_neg (show ¬ i32 7 = (2 : Int32) by decide), if_neg (show ¬ i32 7 = (3 : Int32) by decide), if_neg (show ¬ i32 7 = (4 : Int32) by decide), if_neg (show ¬ i32 7 = (5 : Int32) by decide), if_neg (show ¬ i32 7 = (6 : Int32) by decide), if_pos (show i32 7 = (7 : Int32) from rfl), show coV W (S 0) V m 7 = S 0 2 from rfl]
    (try simp only [lits]) <;> simp (disch := omega) only [↓wps, ↓bcp b, bci b, nrm, wps, cmps, if_pos, if_neg, eq_self, if_true, if_false, Bool.false_eq_true, Bool.true_eq_false, dec_f, so_cx o1]
  · rw [if_neg (show ¬ i32 8 = (0 : Int32) by decide), if_neg (show ¬ i32 8 = (1 : Int32) by decide), if_neg (show ¬ i32 8 = (2 : Int32) by decide), if_neg (show ¬ i32 8 = (3 : Int32) by decide), if_neg (show ¬ i32 8 = (4 : Int32) by decide), if_neg (show ¬ i32 8 = (5 : Int32) by decide), if_neg (show ¬ i32 8 = (6 : Int32) by decide), if_neg (show ¬ i32 8 = (7 : Int32) by decide), if_pos (show i32 8 = (8 : Int32) from rfl), show coV W (S 0) V m 8 = rsA W - S 0 3 from rfl]
    (try simp only [lits]) <;> simp (disch := omega) only [↓wps, ↓bcp b, bci b, ↓bd_t (l3), nrm, wps, cmps, if_pos, if_neg, eq_self, if_true, if_false, Bool.false_eq_true, Bool.true_eq_false, dec_f, so_cx o1]
  · rw [if_neg (show ¬ i32 9 = (0 : Int32) by decide), if_neg (show ¬ i32 9 = (1 : Int32) by decide), if_neg (show ¬ i32 9 = (2 : Int32) by decide), if_neg (show ¬ i32 9 = (3 : Int32) by decide), if_neg (show ¬ i32 9 = (4 : Int32) by decide), if_neg (show ¬ i32 9 = (5 : Int32) by decide), if_neg (show ¬ i32 9 = (6 : Int32) by decide), if_neg (show ¬ i32 9 = (7 : Int32) by decide), if_neg (show ¬ i32 9 = (8 : Int32) by decide), if_pos (show i32 9 = (9 : Int32) from rfl), show coV W (S 0) V m 9 = (cntP (unA W (S 0)) 54 : Nat) from rfl]
    rw [l2, bd_eq]
  · rw [if_neg (show ¬ i32 10 = (0 : Int32) by decide), if_neg (show ¬ i32 10 = (1 : Int32) by decide), if_neg (show ¬ i32 10 = (2 : Int32) by decide), if_neg (show ¬ i32 10 = (3 : Int32) by decide), if_neg (show ¬ i32 10 = (4 : Int32) by decide), if_neg (show ¬ i32 10 = (5 : Int32) by decide), if_neg (show ¬ i32 10 = (6 : Int32) by decide), if_neg (show ¬ i32 10 = (7 : Int32) by decide), if_neg (show ¬ i32 10 = (8 : Int32) by decide), if_neg (show ¬ i32 10 = (9 : Int32) by decide), if_pos (show i32 10 = (10 : Int32) from rfl), show coV W (S 0) V m 10 = S 0 58 from rfl]
    (try simp only [lits]) <;> simp (disch := omega) only [↓wps, ↓bcp b, bci b, nrm, wps, cmps, if_pos, if_neg, eq_self, if_true, if_false, Bool.false_eq_true, Bool.true_eq_false, dec_f, so_cx o1]
  · rw [if_neg (show ¬ i32 11 = (0 : Int32) by decide), if_neg (show ¬ i32 11 = (1 : Int32) by decide), if_neg (show ¬ i32 11 = (2 : Int32) by decide), if_neg (show ¬ i32 11 = (3 : Int32) by decide), if_neg (show ¬ i32 11 = (4 : Int32) by decide), if_neg (show ¬ i32 11 = (5 : Int32) by decide), if_neg (show ¬ i32 11 = (6 : Int32) by decide), if_neg (show ¬ i32 11 = (7 : Int32) by decide), if_neg (show ¬ i32 11 = (8 : Int32) by decide), if_neg (show ¬ i32 11 = (9 : Int32) by decide), if_neg (show ¬ i32 11 = (10 : Int32) by decide), if_pos (show i32 11 = (11 : Int32) from rfl), show coV W (S 0) V m 11 = S 0 59 from rfl]
    (try simp only [lits]) <;> simp (disch := omega) only [↓wps, ↓bcp b, bci b, nrm, wps, cmps, if_pos, if_neg, eq_self, if_true, if_false, Bool.false_eq_true, Bool.true_eq_false, dec_f, so_cx o1]
  · rw [if_neg (show ¬ i32 12 = (0 : Int32) by decide), if_neg (show ¬ i32 12 = (1 : Int32) by decide), if_neg (show ¬ i32 12 = (2 : Int32) by decide), if_neg (show ¬ i32 12 = (3 : Int32) by decide), if_neg (show ¬ i32 12 = (4 : Int32) by decide), if_neg (show ¬ i32 12 = (5 : Int32) by decide), if_neg (show ¬ i32 12 = (6 : Int32) by decide), if_neg (show ¬ i32 12 = (7 : Int32) by decide), if_neg (show ¬ i32 12 = (8 : Int32) by decide), if_neg (show ¬ i32 12 = (9 : Int32) by decide), if_neg (show ¬ i32 12 = (10 : Int32) by decide), if_neg (show ¬ i32 12 = (11 : Int32) by decide), if_pos (show i32 12 = (12 : Int32) from rfl), show coV W (S 0) V m 12 = W 9 from rfl]
    (try simp only [lits]) <;> simp (disch := omega) only [↓wps, ↓bcp b, bci b, nrm, wps, cmps, if_pos, if_neg, eq_self, if_true, if_false, Bool.false_eq_true, Bool.true_eq_false, dec_f]
  · rw [if_neg (show ¬ i32 13 = (0 : Int32) by decide), if_neg (show ¬ i32 13 = (1 : Int32) by decide), if_neg (show ¬ i32 13 = (2 : Int32) by decide), if_neg (show ¬ i32 13 = (3 : Int32) by decide), if_neg (show ¬ i32 13 = (4 : Int32) by decide), if_neg (show ¬ i32 13 = (5 : Int32) by decide), if_neg (show ¬ i32 13 = (6 : Int32) by decide), if_neg (show ¬ i32 13 = (7 : Int32) by decide), if_neg (show ¬ i32 13 = (8 : Int32) by decide), if_neg (show ¬ i32 13 = (9 : Int32) by decide), if_neg (show ¬ i32 13 = (10 : Int32) by decide), if_neg (show ¬ i32 13 = (11 : Int32) by decide), if_neg (show ¬ i32 13 = (12 : Int32) by decide), if_pos (show i32 13 = (13 : Int32) from rfl), show coV W (S 0) V m 13 = m 1 from rfl]
    (try simp only [lits]) <;> simp (disch := omega) only [↓wps, ↓bcp b, bci b, nrm, wps, cmps, if_pos, if_neg, eq_self, if_true, if_false, Bool.false_eq_true, Bool.true_eq_false, dec_f]
  · rw [if_neg (show ¬ i32 14 = (0 : Int32) by decide), if_neg (show ¬ i32 14 = (1 : Int32) by decide), if_neg (show ¬ i32 14 = (2 : Int32) by decide), if_neg (show ¬ i32 14 = (3 : Int32) by decide), if_neg (show ¬ i32 14 = (4 : Int32) by decide), if_neg (show ¬ i32 14 = (5 : Int32) by decide), if_neg (show ¬ i32 14 = (6 : Int32) by decide), if_neg (show ¬ i32 14 = (7 : Int32) by decide), if_neg (show ¬ i32 14 = (8 : Int32) by decide), if_neg (show ¬ i32 14 = (9 : Int32) by decide), if_neg (show ¬ i32 14 = (10 : Int32) by decide), if_neg (show ¬ i32 14 = (11 : Int32) by decide), if_neg (show ¬ i32 14 = (12 : Int32) by decide), if_neg (show ¬ i32 14 = (13 : Int32) by decide), if_pos (show i32 14 = (14 : Int32) from rfl), show coV W (S 0) V m 14 = m 0 from rfl]
    (try simp only [lits]) <;> simp (disch := omega) only [↓wps, ↓bcp b, bci b, nrm, wps, cmps, if_pos, if_neg, eq_self, if_true, if_false, Bool.false_eq_true, Bool.true_eq_false, dec_f]
  · rw [if_neg (show ¬ i32 w = (0 : Int32) from fun z => by have := (i32_eq (b := 0) hw ⟨by omega, by omega⟩).mp z; omega), if_neg (show ¬ i32 w = (1 : Int32) from fun z => by have := (i32_eq (b := 1) hw ⟨by omega, by omega⟩).mp z; omega), if_neg (show ¬ i32 w = (2 : Int32) from fun z => by have := (i32_eq (b := 2) hw ⟨by omega, by omega⟩).mp z; omega), if_neg (show ¬ i32 w = (3 : Int32) from fun z => by have := (i32_eq (b := 3) hw ⟨by omega, by omega⟩).mp z; omega), if_neg (show ¬ i32 w = (4 : Int32) from fun z => by have := (i32_eq (b := 4) hw ⟨by omega, by omega⟩).mp z; omega), if_neg (show ¬ i32 w = (5 : Int32) from fun z => by have := (i32_eq (b := 5) hw ⟨by omega, by omega⟩).mp z; omega), if_neg (show ¬ i32 w = (6 : Int32) from fun z => by have := (i32_eq (b := 6) hw ⟨by omega, by omega⟩).mp z; omega), if_neg (show ¬ i32 w = (7 : Int32) from fun z => by have := (i32_eq (b := 7) hw ⟨by omega, by omega⟩).mp z; omega), if_neg (show ¬ i32 w = (8 : Int32) from fun z => by have := (i32_eq (b := 8) hw ⟨by omega, by omega⟩).mp z; omega), if_neg (show ¬ i32 w = (9 : Int32) from fun z => by have := (i32_eq (b := 9) hw ⟨by omega, by omega⟩).mp z; omega), if_neg (show ¬ i32 w = (10 : Int32) from fun z => by have := (i32_eq (b := 10) hw ⟨by omega, by omega⟩).mp z; omega), if_neg (show ¬ i32 w = (11 : Int32) from fun z => by have := (i32_eq (b := 11) hw ⟨by omega, by omega⟩).mp z; omega), if_neg (show ¬ i32 w = (12 : Int32) from fun z => by have := (i32_eq (b := 12) hw ⟨by omega, by omega⟩).mp z; omega), if_neg (show ¬ i32 w = (13 : Int32) from fun z => by have := (i32_eq (b := 13) hw ⟨by omega, by omega⟩).mp z; omega), if_neg (show ¬ i32 w = (14 : Int32) from fun z => by have := (i32_eq (b := 14) hw ⟨by omega, by omega⟩).mp z; omega)]
    unfold coV
    rw [if_neg (show ¬ w = 0 by omega), if_neg (show ¬ w = 1 by omega), if_neg (show ¬ w = 2 by omega), if_neg (show ¬ w = 3 by omega), if_neg (show ¬ w = 4 by omega), if_neg (show ¬ w = 5 by omega), if_neg (show ¬ w = 6 by omega), if_neg (show ¬ w = 7 by omega), if_neg (show ¬ w = 8 by omega), if_neg (show ¬ w = 9 by omega), if_neg (show ¬ w = 10 by omega), if_neg (show ¬ w = 11 by omega), if_neg (show ¬ w = 12 by omega), if_neg (show ¬ w = 13 by omega), if_neg (show ¬ w = 14 by omega)]
    rfl
theorem tco_loop (tb : TB W S V m Tp RC τ) (hW : TW W) (hS : SW W T (S 0)) {w : Int} (hw : ok32 w) : ∀ (d n k : Nat), k + d = 54 → d < n → T_count_b9 nf n (i32 w) (i32 (cntP (unA W (S 0)) k : Nat)) (i32 (k : Int)) τ = some (i32 (coV W (S 0) V m w), τ) := by
  obtain ⟨w1, w2⟩ := id hw
  intro d
  induction d with
  | zero =>
    intro n k h1 h2
    obtain ⟨n, rfl⟩ : ∃ q, n = q + 1 := ⟨n - 1, by omega⟩
    rw [show T_count_b9 nf (n + 1) = T_count_b9_s nf (T_count_b9 nf n) from rfl]
    obtain rfl : k = 54 := by omega
    unfold T_count_b9_s
    have h6 := hW.2.2.2.2.2.2.1
    have h5 := hW.2.2.2.2.2.1
    have h3 := hS.2.2.2.1
    rw [if_pos (show (54 : Int32) ≤ i32 ((54 : Nat) : Int) by decide)]
    rcases (show w = 0 ∨ w = 1 ∨ w = 2 ∨ w = 3 ∨ w = 4 ∨ w = 5 ∨ w = 6 ∨ w = 7 ∨ w = 8 ∨ w = 9 ∨ w = 10 ∨ w = 11 ∨ w = 12 ∨ w = 13 ∨ w = 14 ∨ ¬ (0 ≤ w ∧ w ≤ 14) by omega) with rfl | rfl | rfl | rfl | rfl | rfl | rfl | rfl | rfl | rfl | rfl | rfl | rfl | rfl | rfl | hq
    · rw [if_pos (show i32 0 = (0 : Int32) from rfl), show coV W (S 0) V m 0 = W 0 from rfl]
      rw [s_wide tb.1, bd_eq]
    · rw [if_neg (show ¬ i32 1 = (0 : Int32) by decide), if_pos (show i32 1 = (1 : Int32) from rfl), show coV W (S 0) V m 1 = W 1 from rfl]
      rw [s_deep tb.1, bd_eq]
    · rw [if_neg (show ¬ i32 2 = (0 : Int32) by decide), if_neg (show ¬ i32 2 = (1 : Int32) by decide), if_pos (show i32 2 = (2 : Int32) from rfl), show coV W (S 0) V m 2 = W 7 from rfl]
      rw [show (7 : Int32) = i32 ((7 : Nat) : Int) from rfl, s_ld τ tb.1 (by omega)]
    · rw [if_neg (show ¬ i32 3 = (0 : Int32) by decide), if_neg (show ¬ i32 3 = (1 : Int32) by decide), if_neg (show ¬ i32 3 = (2 : Int32) by decide), if_pos (show i32 3 = (3 : Int32) from rfl), show coV W (S 0) V m 3 = W 8 from rfl]
      rw [show (8 : Int32) = i32 ((8 : Nat) : Int) from rfl, s_ld τ tb.1 (by omega)]
    · rw [if_neg (show ¬ i32 4 = (0 : Int32) by decide), if_neg (show ¬ i32 4 = (1 : Int32) by decide), if_neg (show ¬ i32 4 = (2 : Int32) by decide), if_neg (show ¬ i32 4 = (3 : Int32) by decide), if_pos (show i32 4 = (4 : Int32) from rfl), show coV W (S 0) V m 4 = V 0 from rfl]
      rw [show (0 : Int32) = i32 ((0 : Nat) : Int) from rfl, s_wk tb (by omega)]
    · rw [if_neg (show ¬ i32 5 = (0 : Int32) by decide), if_neg (show ¬ i32 5 = (1 : Int32) by decide), if_neg (show ¬ i32 5 = (2 : Int32) by decide), if_neg (show ¬ i32 5 = (3 : Int32) by decide), if_neg (show ¬ i32 5 = (4 : Int32) by decide), if_pos (show i32 5 = (5 : Int32) from rfl), show coV W (S 0) V m 5 = S 0 0 from rfl]
      rw [show (0 : Int32) = i32 ((0 : Nat) : Int) from rfl, s_st tb (by omega)]
    · rw [if_neg (show ¬ i32 6 = (0 : Int32) by decide), if_neg (show ¬ i32 6 = (1 : Int32) by decide), if_neg (show ¬ i32 6 = (2 : Int32) by decide), if_neg (show ¬ i32 6 = (3 : Int32) by decide), if_neg (show ¬ i32 6 = (4 : Int32) by decide), if_neg (show ¬ i32 6 = (5 : Int32) by decide), if_pos (show i32 6 = (6 : Int32) from rfl), show coV W (S 0) V m 6 = S 0 1 from rfl]
      rw [show (1 : Int32) = i32 ((1 : Nat) : Int) from rfl, s_st tb (by omega)]
    · rw [if_neg (show ¬ i32 7 = (0 : Int32) by decide), if_neg (show ¬ i32 7 = (1 : Int32) by decide), if_neg (show ¬ i32 7 = (2 : Int32) by decide), if_neg (show ¬ i32 7 = (3 : Int32) by decide), if_neg (show ¬ i32 7 = (4 : Int32) by decide), if_neg (show ¬ i32 7 = (5 : Int32) by decide), if_neg (show ¬ i32 7 = (6 : Int32) by decide), if_pos (show i32 7 = (7 : Int32) from rfl), show coV W (S 0) V m 7 = S 0 2 from rfl]
      rw [show (2 : Int32) = i32 ((2 : Nat) : Int) from rfl, s_st tb (by omega)]
    · rw [if_neg (show ¬ i32 8 = (0 : Int32) by decide), if_neg (show ¬ i32 8 = (1 : Int32) by decide), if_neg (show ¬ i32 8 = (2 : Int32) by decide), if_neg (show ¬ i32 8 = (3 : Int32) by decide), if_neg (show ¬ i32 8 = (4 : Int32) by decide), if_neg (show ¬ i32 8 = (5 : Int32) by decide), if_neg (show ¬ i32 8 = (6 : Int32) by decide), if_neg (show ¬ i32 8 = (7 : Int32) by decide), if_pos (show i32 8 = (8 : Int32) from rfl), show coV W (S 0) V m 8 = rsA W - S 0 3 from rfl]
      rw [show (6 : Int32) = i32 ((6 : Nat) : Int) from rfl, s_ld τ tb.1 (by omega), show (5 : Int32) = i32 ((5 : Nat) : Int) from rfl, s_ld τ tb.1 (by omega), show (3 : Int32) = i32 ((3 : Nat) : Int) from rfl, s_st tb (by omega), i32_sub]
      unfold rsA
      by_cases q : W 6 = 1
      · rw [if_pos q] at h3
        rw [if_pos q, q, if_pos (show i32 1 = (1 : Int32) from rfl), show S 0 3 = 0 by omega]
        rfl
      · rw [if_neg q, if_neg (show ¬ i32 (W 6) = (1 : Int32) from fun z => q ((i32_eq (b := 1) ⟨by omega, by omega⟩ ⟨by omega, by omega⟩).mp z))]
    · rw [if_neg (show ¬ i32 9 = (0 : Int32) by decide), if_neg (show ¬ i32 9 = (1 : Int32) by decide), if_neg (show ¬ i32 9 = (2 : Int32) by decide), if_neg (show ¬ i32 9 = (3 : Int32) by decide), if_neg (show ¬ i32 9 = (4 : Int32) by decide), if_neg (show ¬ i32 9 = (5 : Int32) by decide), if_neg (show ¬ i32 9 = (6 : Int32) by decide), if_neg (show ¬ i32 9 = (7 : Int32) by decide), if_neg (show ¬ i32 9 = (8 : Int32) by decide), if_pos (show i32 9 = (9 : Int32) from rfl), show coV W (S 0) V m 9 = (cntP (unA W (S 0)) 54 : Nat) from rfl]
    · rw [if_neg (show ¬ i32 10 = (0 : Int32) by decide), if_neg (show ¬ i32 10 = (1 : Int32) by decide), if_neg (show ¬ i32 10 = (2 : Int32) by decide), if_neg (show ¬ i32 10 = (3 : Int32) by decide), if_neg (show ¬ i32 10 = (4 : Int32) by decide), if_neg (show ¬ i32 10 = (5 : Int32) by decide), if_neg (show ¬ i32 10 = (6 : Int32) by decide), if_neg (show ¬ i32 10 = (7 : Int32) by decide), if_neg (show ¬ i32 10 = (8 : Int32) by decide), if_neg (show ¬ i32 10 = (9 : Int32) by decide), if_pos (show i32 10 = (10 : Int32) from rfl), show coV W (S 0) V m 10 = S 0 58 from rfl]
      rw [show (58 : Int32) = i32 ((58 : Nat) : Int) from rfl, s_st tb (by omega)]
    · rw [if_neg (show ¬ i32 11 = (0 : Int32) by decide), if_neg (show ¬ i32 11 = (1 : Int32) by decide), if_neg (show ¬ i32 11 = (2 : Int32) by decide), if_neg (show ¬ i32 11 = (3 : Int32) by decide), if_neg (show ¬ i32 11 = (4 : Int32) by decide), if_neg (show ¬ i32 11 = (5 : Int32) by decide), if_neg (show ¬ i32 11 = (6 : Int32) by decide), if_neg (show ¬ i32 11 = (7 : Int32) by decide), if_neg (show ¬ i32 11 = (8 : Int32) by decide), if_neg (show ¬ i32 11 = (9 : Int32) by decide), if_neg (show ¬ i32 11 = (10 : Int32) by decide), if_pos (show i32 11 = (11 : Int32) from rfl), show coV W (S 0) V m 11 = S 0 59 from rfl]
      rw [show (59 : Int32) = i32 ((59 : Nat) : Int) from rfl, s_st tb (by omega)]
    · rw [if_neg (show ¬ i32 12 = (0 : Int32) by decide), if_neg (show ¬ i32 12 = (1 : Int32) by decide), if_neg (show ¬ i32 12 = (2 : Int32) by decide), if_neg (show ¬ i32 12 = (3 : Int32) by decide), if_neg (show ¬ i32 12 = (4 : Int32) by decide), if_neg (show ¬ i32 12 = (5 : Int32) by decide), if_neg (show ¬ i32 12 = (6 : Int32) by decide), if_neg (show ¬ i32 12 = (7 : Int32) by decide), if_neg (show ¬ i32 12 = (8 : Int32) by decide), if_neg (show ¬ i32 12 = (9 : Int32) by decide), if_neg (show ¬ i32 12 = (10 : Int32) by decide), if_neg (show ¬ i32 12 = (11 : Int32) by decide), if_pos (show i32 12 = (12 : Int32) from rfl), show coV W (S 0) V m 12 = W 9 from rfl]
      rw [show (9 : Int32) = i32 ((9 : Nat) : Int) from rfl, s_ld τ tb.1 (by omega)]
    · rw [if_neg (show ¬ i32 13 = (0 : Int32) by decide), if_neg (show ¬ i32 13 = (1 : Int32) by decide), if_neg (show ¬ i32 13 = (2 : Int32) by decide), if_neg (show ¬ i32 13 = (3 : Int32) by decide), if_neg (show ¬ i32 13 = (4 : Int32) by decide), if_neg (show ¬ i32 13 = (5 : Int32) by decide), if_neg (show ¬ i32 13 = (6 : Int32) by decide), if_neg (show ¬ i32 13 = (7 : Int32) by decide), if_neg (show ¬ i32 13 = (8 : Int32) by decide), if_neg (show ¬ i32 13 = (9 : Int32) by decide), if_neg (show ¬ i32 13 = (10 : Int32) by decide), if_neg (show ¬ i32 13 = (11 : Int32) by decide), if_neg (show ¬ i32 13 = (12 : Int32) by decide), if_pos (show i32 13 = (13 : Int32) from rfl), show coV W (S 0) V m 13 = m 1 from rfl]
      rw [tb.2.2.2.1.2]
    · rw [if_neg (show ¬ i32 14 = (0 : Int32) by decide), if_neg (show ¬ i32 14 = (1 : Int32) by decide), if_neg (show ¬ i32 14 = (2 : Int32) by decide), if_neg (show ¬ i32 14 = (3 : Int32) by decide), if_neg (show ¬ i32 14 = (4 : Int32) by decide), if_neg (show ¬ i32 14 = (5 : Int32) by decide), if_neg (show ¬ i32 14 = (6 : Int32) by decide), if_neg (show ¬ i32 14 = (7 : Int32) by decide), if_neg (show ¬ i32 14 = (8 : Int32) by decide), if_neg (show ¬ i32 14 = (9 : Int32) by decide), if_neg (show ¬ i32 14 = (10 : Int32) by decide), if_neg (show ¬ i32 14 = (11 : Int32) by decide), if_neg (show ¬ i32 14 = (12 : Int32) by decide), if_neg (show ¬ i32 14 = (13 : Int32) by decide), if_pos (show i32 14 = (14 : Int32) from rfl), show coV W (S 0) V m 14 = m 0 from rfl]
      rw [tb.2.2.2.1.1]
    · rw [if_neg (show ¬ i32 w = (0 : Int32) from fun z => by have := (i32_eq (b := 0) hw ⟨by omega, by omega⟩).mp z; omega), if_neg (show ¬ i32 w = (1 : Int32) from fun z => by have := (i32_eq (b := 1) hw ⟨by omega, by omega⟩).mp z; omega), if_neg (show ¬ i32 w = (2 : Int32) from fun z => by have := (i32_eq (b := 2) hw ⟨by omega, by omega⟩).mp z; omega), if_neg (show ¬ i32 w = (3 : Int32) from fun z => by have := (i32_eq (b := 3) hw ⟨by omega, by omega⟩).mp z; omega), if_neg (show ¬ i32 w = (4 : Int32) from fun z => by have := (i32_eq (b := 4) hw ⟨by omega, by omega⟩).mp z; omega), if_neg (show ¬ i32 w = (5 : Int32) from fun z => by have := (i32_eq (b := 5) hw ⟨by omega, by omega⟩).mp z; omega), if_neg (show ¬ i32 w = (6 : Int32) from fun z => by have := (i32_eq (b := 6) hw ⟨by omega, by omega⟩).mp z; omega), if_neg (show ¬ i32 w = (7 : Int32) from fun z => by have := (i32_eq (b := 7) hw ⟨by omega, by omega⟩).mp z; omega), if_neg (show ¬ i32 w = (8 : Int32) from fun z => by have := (i32_eq (b := 8) hw ⟨by omega, by omega⟩).mp z; omega), if_neg (show ¬ i32 w = (9 : Int32) from fun z => by have := (i32_eq (b := 9) hw ⟨by omega, by omega⟩).mp z; omega), if_neg (show ¬ i32 w = (10 : Int32) from fun z => by have := (i32_eq (b := 10) hw ⟨by omega, by omega⟩).mp z; omega), if_neg (show ¬ i32 w = (11 : Int32) from fun z => by have := (i32_eq (b := 11) hw ⟨by omega, by omega⟩).mp z; omega), if_neg (show ¬ i32 w = (12 : Int32) from fun z => by have := (i32_eq (b := 12) hw ⟨by omega, by omega⟩).mp z; omega), if_neg (show ¬ i32 w = (13 : Int32) from fun z => by have := (i32_eq (b := 13) hw ⟨by omega, by omega⟩).mp z; omega), if_neg (show ¬ i32 w = (14 : Int32) from fun z => by have := (i32_eq (b := 14) hw ⟨by omega, by omega⟩).mp z; omega)]
      unfold coV
      rw [if_neg (show ¬ w = 0 by omega), if_neg (show ¬ w = 1 by omega), if_neg (show ¬ w = 2 by omega), if_neg (show ¬ w = 3 by omega), if_neg (show ¬ w = 4 by omega), if_neg (show ¬ w = 5 by omega), if_neg (show ¬ w = 6 by omega), if_neg (show ¬ w = 7 by omega), if_neg (show ¬ w = 8 by omega), if_neg (show ¬ w = 9 by omega), if_neg (show ¬ w = 10 by omega), if_neg (show ¬ w = 11 by omega), if_neg (show ¬ w = 12 by omega), if_neg (show ¬ w = 13 by omega), if_neg (show ¬ w = 14 by omega)]
      rfl
  | succ d ih =>
    intro n k h1 h2
    obtain ⟨n, rfl⟩ : ∃ q, n = q + 1 := ⟨n - 1, by omega⟩
    have L := ih n (k + 1) (by omega) (by omega)
    have es : cntP (unA W (S 0)) (k + 1) = cntP (unA W (S 0)) k + if unA W (S 0) k = true then 1 else 0 := rfl
    have hx : k % 6 < 6 := Nat.mod_lt _ (by omega)
    have hy : k / 6 < 9 := by omega
    have e6 : 6 * (k / 6) + k % 6 = k := by omega
    have hkd := kdA_b (x := k % 6) (y := k / 6) hW hx hy
    have hs := hS.2.2.2.2 k (by omega)
    have ek : kdA W (k % 6) (k / 6) = W (10 + 4 * k) - 1 := by unfold kdA; rw [e6]
    have hkn := s_isKnown tb hx hy hW hS
    rw [e6] at hkn
    rw [es] at L
    rw [show T_count_b9 nf (n + 1) = T_count_b9_s nf (T_count_b9 nf n) from rfl]
    unfold T_count_b9_s
    rw [if_neg (show ¬ (54 : Int32) ≤ i32 (k : Int) from fun z => by have := (i32_le (a := 54) ⟨by omega, by omega⟩ ⟨by omega, by omega⟩).mp z; omega), show (6 : Int32) = i32 6 from rfl, rem_c (by omega) (by omega) (by omega) (by omega), div_c (by omega) (by omega) (by omega) (by omega), show (k : Int) % 6 = ((k % 6 : Nat) : Int) by omega, show (k : Int) / 6 = ((k / 6 : Nat) : Int) by omega, s_kindAt tb.1 hx hy, bd_eq, hkn, bd_eq, ek, show i32 (k : Int) + 1 = i32 ((k + 1 : Nat) : Int) by rw [show (1 : Int32) = i32 1 from rfl, i32_add]; rfl]
    unfold unA at L ⊢
    by_cases q1 : W (10 + 4 * k) = 2
    · rw [if_pos (show i32 (W (10 + 4 * k) - 1) = (1 : Int32) by rw [q1]; rfl)]
      rcases hs with e | ⟨e, -⟩
      · rw [decide_eq_false (show ¬ (W (10 + 4 * k) = 2 ∧ S 0 (4 + k) = 1) by omega), if_pos (show bi false = (0 : Int32) from rfl), nm_eq, show (1 : Int32) = i32 1 from rfl, i32_add]
        rw [decide_eq_true (show W (10 + 4 * k) = 2 ∧ S 0 (4 + k) = 0 from ⟨q1, e⟩), if_pos rfl] at L
        exact L
      · rw [decide_eq_true (show (W (10 + 4 * k) = 2 ∧ S 0 (4 + k) = 1) by omega), if_neg (show ¬ bi true = (0 : Int32) by decide), nm_eq, show (0 : Int32) = i32 0 from rfl, i32_add]
        rw [decide_eq_false (show ¬ (W (10 + 4 * k) = 2 ∧ S 0 (4 + k) = 0) by omega), if_neg (by decide)] at L
        exact L
    · rw [if_neg (show ¬ i32 (W (10 + 4 * k) - 1) = (1 : Int32) from fun z => by have := (i32_eq (b := 1) ⟨by omega, by omega⟩ ⟨by omega, by omega⟩).mp z; omega), nm_eq, show (0 : Int32) = i32 0 from rfl, i32_add]
      rw [decide_eq_false (show ¬ (W (10 + 4 * k) = 2 ∧ S 0 (4 + k) = 0) by omega), if_neg (by decide)] at L
      exact L
theorem t_count (hn : 100 ≤ nf) (tb : TB W S V m Tp RC τ) (hW : TW W) (hS : SW W T (S 0)) {w : Int} (hw : ok32 w) : T_count nf (i32 w) τ = some (i32 (coV W (S 0) V m w), sI τ 0 0) := by
  unfold T_count
  exact tco_loop (tb.q (tk_z τ).1) hW hS hw 54 nf 0 rfl (by omega)
end CO
