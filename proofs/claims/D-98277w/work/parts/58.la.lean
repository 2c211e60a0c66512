/-! LAYER 2: the component's latest; turning -/
set_option maxRecDepth 100000
section LA
variable {g : Nat → Nat} {ρ : Nat → Nat × Nat} {W : Nat → Int} {S : Nat → Nat → Int} {V m Tp : Nat → Int} {RC : Nat → List (Nat × Int)} {s : CS} {τ : TS} {T N : Int} {nf : Nat} {σ : Nat → Int}
theorem ltN_at {f : Nat → Int} {t en : Int} {k : Nat} : ∀ n, k < n → f k = en → (∀ j, k < j → j < n → ¬ f j = en) → ltN f t en n = t + k := by
  intro n
  induction n with
  | zero => intro h; omega
  | succ n ih =>
    intro h h1 h2
    show (if f n = en then t + (n : Int) else ltN f t en n) = t + k
    by_cases q : n = k
    · rw [q, if_pos h1]
    · rw [if_neg (h2 n (by omega) (by omega))]
      exact ih (by omega) h1 fun j a1 a2 => h2 j a1 (by omega)
theorem la_loop (hW : TW W) (b : B g ρ W S V m Tp RC s) (hD : Dn s g W (vS W (S 0) RC) (fun _ _ => True)) {x y : Nat} (hx : (x : Int) < W 0) (hy : (y : Int) < W 1) {t : Int} (h0 : 0 ≤ t) (h1 : t ≤ 1000000) (hv : 0 ≤ vS W (S 0) RC x y (t % W 9)) : ∀ (d n k : Nat), (k : Int) + d + 1 = W 9 → d < n → soV W (S 0) RC x y (t + k) = t + vS W (S 0) RC x y (t % W 9) → FX0_latest_b20 nf n (g 0) (i32 x) (i32 y) (i32 t) (i32 (t + vS W (S 0) RC x y (t % W 9))) (i32 (t + (k : Int))) s = some (i32 (ltN (fun k : Nat => soV W (S 0) RC x y (t + k)) t (t + vS W (S 0) RC x y (t % W 9)) (W 9).toNat), s) := by
  have w0 := hW.1
  have w1 := hW.2.1
  have w9 := hW.2.2.2.2.2.2.2.2.2.1
  intro d
  induction d with
  | zero =>
    intro n k hd hn hk
    obtain ⟨n, rfl⟩ : ∃ q, n = q + 1 := ⟨n - 1, by omega⟩
    rw [ltN_at (k := k) (W 9).toNat (by omega) hk (fun j a1 a2 => by omega)]
    rw [show FX0_latest_b20 nf (n + 1) = FX0_latest_b20_s nf (FX0_latest_b20 nf n) from rfl]
    unfold FX0_latest_b20_s
    (try simp only [lits]) <;> simp (disch := omega) only [↓wps, ↓bcp b, bci b, nrm, wps, cmps, if_pos, if_neg, eq_self, if_true, if_false, Bool.false_eq_true, Bool.true_eq_false, dec_f]
  | succ d ih =>
    intro n k hd hn hk
    obtain ⟨n, rfl⟩ : ∃ q, n = q + 1 := ⟨n - 1, by omega⟩
    have hvk : ∀ j : Nat, 0 ≤ vS W (S 0) RC x y ((t + j) % W 9) := fun j => by
      have r2 := hv
      rw [VS_rc hW vS_VS _ _ _ _ hx hy (wtN_ev hW).1 (wtN_ev hW).2 rfl] at r2
      rw [VS_rc hW vS_VS _ _ _ _ hx hy (wtN_ev hW).1 (wtN_ev hW).2 rfl]
      exact r2
    have hso : ∀ j : Nat, soV W (S 0) RC x y (t + j) = t + j + vS W (S 0) RC x y ((t + j) % W 9) := fun j => by
      unfold soV
      rw [if_neg (by have := hvk j; omega)]
    have hvb := vS_b (σ := S 0) (RC := RC) (t := t + ((k + 1 : Nat) : Int)) hW hx hy
    have hvb0 := vS_b (σ := S 0) (RC := RC) (t := t) hW hx hy
    have hk1 := hvk (k + 1)
    have eT := c_takesAt b hW (hD x y trivial hx hy) hx hy (t := t + ((k + 1 : Nat) : Int)) (by omega) (by omega)
    have et : t + (k : Int) + 1 = t + ((k + 1 : Nat) : Int) := by omega
    rw [show FX0_latest_b20 nf (n + 1) = FX0_latest_b20_s nf (FX0_latest_b20 nf n) from rfl]
    unfold FX0_latest_b20_s
    rw [show (1 : Int32) = i32 1 from rfl, i32_add, et]
    (try simp only [lits]) <;> simp (disch := omega) only [↓wps, ↓bcp b, bci b, ↓bd_t (eT), nrm, wps, cmps, if_pos, if_neg, eq_self, if_true, if_false, Bool.false_eq_true, Bool.true_eq_false, dec_f]
    by_cases q : t + ((k + 1 : Nat) : Int) + vS W (S 0) RC x y ((t + ((k + 1 : Nat) : Int)) % W 9) = t + vS W (S 0) RC x y (t % W 9)
    · rw [if_pos q]
      exact ih n (k + 1) (by omega) (by omega) (by rw [hso]; exact q)
    · rw [if_neg q, ltN_at (k := k) (W 9).toNat (by omega) hk]
      intro j a1 a2 e
      apply q
      have e : soV W (S 0) RC x y (t + (j : Int)) = _ := e
      rw [hso] at e hk
      have m1 := so_mono (σ := S 0) (RC := RC) hW (dsA W x y) x y (t + k) (t + ((k + 1 : Nat) : Int)) hx hy rfl (hvk k) (hvk (k + 1)) (by omega)
      have m2 := so_mono (σ := S 0) (RC := RC) hW (dsA W x y) x y (t + ((k + 1 : Nat) : Int)) (t + j) hx hy rfl (hvk (k + 1)) (hvk j) (by omega)
      omega
theorem ok_latest (hnf : 2000 ≤ nf) (b : B g ρ W S V m Tp RC s) (hW : TW W) (hS : SW W T (S 0)) {x y t : Int} (hx : ok32 x) (hy : ok32 y) (ht : ok32 t) : Ok (FX0_latest nf (g 0) (i32 x) (i32 y) (i32 t) s) fun p => p.1 = i32 (laV W (S 0) RC x y t) ∧ Fq ρ s p.2 := by
  have w0 := hW.1
  have w1 := hW.2.1
  have w9 := hW.2.2.2.2.2.2.2.2.2.1
  unfold FX0_latest laV
  refine ok_mq (ρ := ρ) (ok_gd b.1 rfl ?_) (fun z hz => hz.2)
  rw [show (-1 : Int32) = i32 (-1) from rfl]
  refine ok_2 (ok_soonest (j := -1) hnf b hW hS hx hy ht ⟨by omega, by omega⟩) fun v s1 hv => ?_
  obtain ⟨v1, f1, hD⟩ := hv
  have v1 : v = _ := v1
  rw [v1, show (0 : Int32) = i32 0 from rfl]
  unfold snV
  by_cases q2 : ((0 ≤ x ∧ x < W 0) ∧ 0 ≤ y ∧ y < W 1) ∧ 0 ≤ t ∧ t ≤ 1000000
  · have hvb := vS_b (σ := S 0) (RC := RC) (t := t) hW (x := x.toNat) (y := y.toNat) (by omega) (by omega)
    rw [if_pos (show _ ∧ _ from ⟨q2, (by omega : (-1 : Int) ≤ -1)⟩), if_pos q2]
    by_cases qv : vS W (S 0) RC x.toNat y.toNat (t % W 9) < 0
    · rw [if_pos qv, if_pos qv, if_neg (show ¬ i32 0 ≤ i32 (-2) by decide)]
      exact ok_s ⟨rfl, f1⟩
    · rw [if_neg qv, if_neg qv, if_pos rfl, if_pos ((i32_le ⟨by omega, by omega⟩ ⟨by omega, by omega⟩).mpr (by omega))]
      have L := la_loop (nf := nf) hW (b.q f1) (hD ⟨q2, by omega⟩) (x := x.toNat) (y := y.toNat) (by omega) (by omega) q2.2.1 q2.2.2 (by omega) ((W 9).toNat - 1) nf 0 (by omega) (by omega) (by
        show soV W (S 0) RC x.toNat y.toNat (t + 0) = _
        unfold soV
        rw [Int.add_zero, if_neg qv])
      rw [Int.toNat_of_nonneg q2.1.1.1, Int.toNat_of_nonneg q2.1.2.1, show t + ((0 : Nat) : Int) = t by omega] at L
      exact ok_e L ⟨rfl, f1⟩
  · rw [if_neg (show ¬ ((((0 ≤ x ∧ x < W 0) ∧ 0 ≤ y ∧ y < W 1) ∧ 0 ≤ t ∧ t ≤ 1000000) ∧ (-1 : Int) ≤ -1) from fun z => q2 z.1), if_neg q2, if_neg (show ¬ i32 0 ≤ i32 (-2) by decide)]
    exact ok_s ⟨rfl, f1⟩
end LA
