/-! LAYER 2: ways that fit: the twin -/
set_option maxRecDepth 100000
def Fs (τ : TS) (q : Nat × (Nat → Bool) × (Nat → Bool)) : Prop := tL τ 43 = i64 (q.1 : Int) ∧ (0 < q.1 → tI τ 44 = i32 ((bN q.2.1 13 : Nat) : Int) ∧ tL τ 45 = i64 ((bN q.2.2 54 : Nat) : Int))
section FD
variable {W : Nat → Int} {S : Nat → Nat → Int} {V m Tp : Nat → Int} {RC : Nat → List (Nat × Int)} {τ : TS} {T : Int} {nf : Nat}
theorem tf_6 (tb : TB W S V m Tp RC τ) (hW : TW W) (hS : SW2 W (S 0)) {x y : Nat} {a z : Int} (hx : x < 6) (hy : y < 9) (ha : ok32 a) (hz : ok32 z) : ∀ (d n k : Nat), k + d = nWas S → d < n → T_wasBetween_b6 nf τ n (i32 (x : Int)) (i32 (y : Int)) (i32 a) (i32 z) (i32 ((bN (fun j => decide (j < k) && tolS (S 0) x y a z j) (nWas S) : Nat) : Int)) (i32 (k : Int)) = some (i32 ((bN (tolS (S 0) x y a z) (nWas S) : Nat) : Int)) := by
  have w0 := hW.1
  have w1 := hW.2.1
  have h59 := hS.2.1
  have e59 : ∀ {α : Type} {K : Int32 → Option α}, ld (tA τ 19) 2520 59 K = K (i32 (S 0 59)) := fun {α} {K} => s_st tb (j := 59) (by omega)
  have en : S 0 59 = ((nWas S : Nat) : Int) := by unfold nWas; omega
  intro d
  induction d with
  | zero =>
    intro n k h1 h2
    obtain ⟨n, rfl⟩ : ∃ q, n = q + 1 := ⟨n - 1, by omega⟩
    rw [show T_wasBetween_b6 nf τ (n + 1) = T_wasBetween_b6_s nf τ (T_wasBetween_b6 nf τ n) from rfl]
    unfold T_wasBetween_b6_s
    rw [e59, if_pos ((i32_le ⟨by omega, by omega⟩ ⟨by omega, by omega⟩).mpr (by omega))]
    have e : bN (fun j => decide (j < k) && tolS (S 0) x y a z j) (nWas S) = bN (tolS (S 0) x y a z) (nWas S) := bN_e _ fun j hj => by rw [decide_eq_true (show j < k by omega), Bool.true_and]
    rw [e]
  | succ d ih =>
    intro n k h1 h2
    obtain ⟨n, rfl⟩ : ∃ q, n = q + 1 := ⟨n - 1, by omega⟩
    have hwk := hS.2.2.2 k (by omega)
    have hu := gr_up (f := tolS (S 0) x y a z) (R := nWas S) (k := k) (by omega)
    have L := ih n (k + 1) (by omega) (by omega)
    have r92 : ∀ {α : Type} {K : Int32 → Option α}, ld (tA τ 19) 2520 (i32 ((92 : Int) + 3 * (k : Int))) K = K (i32 (S 0 (92 + 3 * k))) := fun {α} {K} => s_st tb (j := 92 + 3 * k) (by omega)
    have r93 : ∀ {α : Type} {K : Int32 → Option α}, ld (tA τ 19) 2520 (i32 ((92 : Int) + 3 * (k : Int) + 1)) K = K (i32 (S 0 (93 + 3 * k))) := fun {α} {K} => by
      rw [show (92 : Int) + 3 * (k : Int) + 1 = ((93 + 3 * k : Nat) : Int) by omega]
      exact s_st tb (j := 93 + 3 * k) (by omega)
    have r94 : ∀ {α : Type} {K : Int32 → Option α}, ld (tA τ 19) 2520 (i32 ((92 : Int) + 3 * (k : Int) + 2)) K = K (i32 (S 0 (94 + 3 * k))) := fun {α} {K} => by
      rw [show (92 : Int) + 3 * (k : Int) + 2 = ((94 + 3 * k : Nat) : Int) by omega]
      exact s_st tb (j := 94 + 3 * k) (by omega)
    have no : ¬ tolS (S 0) x y a z k = true → T_wasBetween_b6 nf τ n (i32 (x : Int)) (i32 (y : Int)) (i32 a) (i32 z) (i32 ((bN (fun j => decide (j < k) && tolS (S 0) x y a z j) (nWas S) : Nat) : Int) ||| i32 0) (i32 ((k : Int) + 1)) = some (i32 ((bN (tolS (S 0) x y a z) (nWas S) : Nat) : Int)) := fun h => by
      rw [if_neg h, Nat.or_zero] at hu
      rw [show i32 0 = i32 ((0 : Nat) : Int) from rfl, i32_or, Nat.or_zero, hu]
      exact L
    rw [show T_wasBetween_b6 nf τ (n + 1) = T_wasBetween_b6_s nf τ (T_wasBetween_b6 nf τ n) from rfl]
    unfold T_wasBetween_b6_s
    rw [e59, if_neg (fun q => by have := (i32_le (a := S 0 59) (b := (k : Int)) ⟨by omega, by omega⟩ ⟨by omega, by omega⟩).mp q; omega), nm_eq, show (92 : Int32) = i32 92 from rfl, show (3 : Int32) = i32 3 from rfl, show (2 : Int32) = i32 2 from rfl, show (1 : Int32) = i32 1 from rfl, show (0 : Int32) = i32 0 from rfl, i32_mul, i32_add, i32_add, i32_add, i32_add, r92]
    by_cases q1 : S 0 (92 + 3 * k) = (x : Int)
    · rw [if_pos (by rw [q1]), r93]
      by_cases q2 : S 0 (93 + 3 * k) = (y : Int)
      · rw [if_pos (by rw [q2]), r94, s_within ⟨by omega, by omega⟩ ha hz, bd_eq]
        by_cases q3 : a ≤ S 0 (94 + 3 * k) ∧ S 0 (94 + 3 * k) ≤ z
        · rw [decide_eq_true q3, if_neg (show ¬ bi true = i32 0 by decide), nm_eq, show shl32 (i32 1) (i32 (k : Int)) = i32 ((2 ^ k : Nat) : Int) from shl32_1 k (by omega), i32_or]
          rw [if_pos (show tolS (S 0) x y a z k = true from decide_eq_true ⟨⟨q1, q2⟩, q3⟩)] at hu
          rw [hu]
          exact L
        · rw [decide_eq_false q3, if_pos (show bi false = i32 0 from rfl), nm_eq]
          exact no fun h => q3 (of_decide_eq_true h).2
      · rw [if_neg (fun e => q2 ((i32_eq ⟨by omega, by omega⟩ ⟨by omega, by omega⟩).mp e)), nm_eq]
        exact no fun h => q2 (of_decide_eq_true h).1.2
    · rw [if_neg (fun e => q1 ((i32_eq ⟨by omega, by omega⟩ ⟨by omega, by omega⟩).mp e)), nm_eq]
      exact no fun h => q1 (of_decide_eq_true h).1.1
theorem t_wasBetween (hn : 100 ≤ nf) (tb : TB W S V m Tp RC τ) (hW : TW W) (hS : SW2 W (S 0)) {x y : Nat} {a z : Int} (hx : x < 6) (hy : y < 9) (ha : ok32 a) (hz : ok32 z) : T_wasBetween nf τ (i32 (x : Int)) (i32 (y : Int)) (i32 a) (i32 z) = some (i32 ((bN (tolS (S 0) x y a z) (nWas S) : Nat) : Int)) := by
  have h59 := hS.2.1
  have L := tf_6 (nf := nf) tb hW hS hx hy ha hz (nWas S) nf 0 (by omega) (by unfold nWas; omega)
  have e0 : bN (fun j => decide (j < 0) && tolS (S 0) x y a z j) (nWas S) = 0 := (bN_e _ fun j _ => by rw [decide_eq_false (Nat.not_lt_zero j)]; rfl).trans (bN_z _)
  rw [e0] at L
  exact L
theorem t_fits0 (tb : TB W S V m Tp RC τ) (hS : SW2 W (S 0)) {me co bs : Nat → Bool} {q : Nat × (Nat → Bool) × (Nat → Bool)} (hq : Fs τ q) (hq1 : q.1 ≤ 100000) : Ok (T_fits0 (i32 ((bN me (nWas S) : Nat) : Int)) (i64 ((bN co 54 : Nat) : Int)) (i32 ((bN bs 13 : Nat) : Int)) τ) fun τ' => Tk τ τ' ∧ Fs τ' (ftE (S 0) me bs co q) := by
  have h59 := hS.2.1
  have en : S 0 59 = ((nWas S : Nat) : Int) := by unfold nWas; omega
  have e59 : ∀ (α : Type) (K : Int32 → Option α), ld (tA τ 19) 2520 59 K = K (i32 ((nWas S : Nat) : Int)) := fun α K => (s_st tb (j := 59) (by omega)).trans (by rw [en])
  have hp : 2 ^ nWas S ≤ 2 ^ 8 := Nat.pow_le_pow_right (by omega) (by omega)
  have hp1 : 1 ≤ 2 ^ nWas S := Nat.one_le_two_pow
  have hbl := bN_lt me (nWas S)
  have ep : i32 ((2 ^ nWas S : Nat) : Int) - 1 = i32 ((2 ^ nWas S - 1 : Nat) : Int) := by
    rw [show (1 : Int32) = i32 1 from rfl, i32_sub]
    congr 1
    omega
  obtain ⟨q1, q3⟩ := hq
  have hm : bN me (nWas S) = 2 ^ nWas S - 1 ↔ ∀ k, k < (S 0 59).toNat → me k = true := bN_all (f := me) (nWas S)
  unfold T_fits0 ftE
  rw [e59, shl32_1 _ (by omega), ep]
  generalize 2 ^ nWas S = P at hp hp1 hbl hm ⊢
  refine ok_q ⟨by omega, by omega⟩ ⟨by omega, by omega⟩ (fun z => ?_) (fun z => ?_)
  · rw [if_pos (hm.mp (by omega)), q1, show (0 : Int64) = i64 0 from rfl]
    unfold T_fits0_b34 T_fits0_b57
    have e1 : (i64 (q.1 : Int) = i64 0) ↔ q.1 = 0 := by
      rw [i64_eq ⟨by omega, by omega⟩ ⟨by omega, by omega⟩]
      omega
    have ea : i64 (q.1 : Int) + 1 = i64 ((q.1 + 1 : Nat) : Int) := by
      rw [show (1 : Int64) = i64 1 from rfl, i64_add]
      rfl
    by_cases z0 : q.1 = 0
    · rw [if_pos (e1.mpr z0), if_pos z0, if_pos z0, nm_eq, show tL (sI τ 44 (i32 ((bN bs 13 : Nat) : Int))) 43 = tL τ 43 from rfl, q1, if_pos (show i64 (q.1 : Int) = 0 from e1.mpr z0), nm_eq, nm_eq]
      refine ok_s ⟨((Tk.sI rfl rfl).tr Tk.sL).tr Tk.sL, ?_, fun _ => ⟨rfl, rfl⟩⟩
      show tL τ 43 + 1 = _
      rw [q1, ea]
    · obtain ⟨p1, p2⟩ := q3 (by omega)
      rw [if_neg (fun h => z0 (e1.mp h)), if_neg z0, if_neg z0, nm_eq, show tL (sI τ 44 (tI τ 44)) 43 = tL τ 43 from rfl, q1, if_neg (fun h : i64 (q.1 : Int) = 0 => z0 (e1.mp h)), show tL (sI τ 44 (tI τ 44)) 45 = tL τ 45 from rfl, p2, i64_and, bN_and, nm_eq, nm_eq]
      refine ok_s ⟨((Tk.sI rfl rfl).tr Tk.sL).tr Tk.sL, ?_, fun _ => ⟨p1, rfl⟩⟩
      show tL τ 43 + 1 = _
      rw [q1, ea]
  · rw [if_neg (fun h => z (by have := hm.mpr h; omega))]
    exact ok_s ⟨Tk.rf, q1, q3⟩
theorem t_goesOn (hn : 100 ≤ nf) (hW : TW W) (hS : SW2 W (S 0)) : ∀ (d x y : Nat) (t : Int) (me co bs : Nat → Bool) (q : Nat × (Nat → Bool) × (Nat → Bool)) (τ : TS) (dp : Nat), (x : Int) < W 0 → (y : Int) < W 1 → dsA W x y = d → d < dp → 0 ≤ t → t + 89 * d ≤ 2000 → TB W S V m Tp RC τ → Fs τ q → q.1 + 2 ^ d ≤ 100000 → Ok (T_goesOn nf dp (i32 (x : Int)) (i32 (y : Int)) (i32 t) (i32 ((bN me (nWas S) : Nat) : Int)) (i64 ((bN co 54 : Nat) : Int)) (i32 ((bN bs 13 : Nat) : Int)) τ) fun τ' => Tk τ τ' ∧ Fs τ' (ftN W (S 0) d x y t me co bs q) := by
  have w0 := hW.1
  have w1 := hW.2.1
  have w2 := hW.2.2.1
  have h59 := hS.2.1
  have co_up : ∀ (co : Nat → Bool) (x y : Nat), x < 6 → y < 9 → (i64 ((bN co 54 : Nat) : Int) ||| shl64 1 (((6 : Int32) * i32 (y : Int)) + i32 (x : Int))) = i64 ((bN (fun j => co j || decide (j = 6 * y + x)) 54 : Nat) : Int) := fun co x y hx hy => by
    rw [show (6 : Int32) = i32 6 from rfl, i32_mul, i32_add, show (6 : Int) * (y : Int) + (x : Int) = ((6 * y + x : Nat) : Int) by omega, shl64_1 _ (by omega), i64_or, bN_p (show 6 * y + x < 54 by omega) fun j _ => rfl]
  intro d
  induction d with
  | zero =>
    intro x y t me co bs q τ dp hx hy hd hdp h0 h1 tb hq hq1
    obtain ⟨dp, rfl⟩ : ∃ q, dp = q + 1 := ⟨dp - 1, by omega⟩
    have hh : hmA W x y = true := by unfold hmA; unfold dsA at hd; exact decide_eq_true (by omega)
    obtain ⟨N, rfl⟩ : ∃ n, nf = n + 1 + 1 + 1 + 1 := ⟨nf - 4, by omega⟩
    rw [show T_goesOn (N + 1 + 1 + 1 + 1) (dp + 1) = T_goesOn_s (N + 1 + 1 + 1 + 1) (T_goesOn (N + 1 + 1 + 1 + 1) dp) from rfl]
    unfold T_goesOn_s ftN
    refine ok_be (s_isHome hW tb.1 (by omega) (by omega)) (ok_n ?_)
    rw [hh, co_up co x y (by omega) (by omega)]
    rw [show T_goesOn_b24 (N + 1 + 1 + 1 + 1) (T_goesOn (N + 1 + 1 + 1 + 1) dp) ((N + 1 + 1 + 1) + 1) = T_goesOn_b24_s (N + 1 + 1 + 1 + 1) (T_goesOn (N + 1 + 1 + 1 + 1) dp) (T_goesOn_b24 (N + 1 + 1 + 1 + 1) (T_goesOn (N + 1 + 1 + 1 + 1) dp) (N + 1 + 1 + 1)) from rfl]
    unfold T_goesOn_b24_s T_goesOn_b41
    rw [if_pos (show (0 : Int32) < 2 by decide), if_neg (show ¬ bi true = (0 : Int32) by decide), if_neg (show ¬ (0 : Int32) = 2 by decide), show (0 : Int32) + 1 = 1 from rfl]
    rw [show T_goesOn_b24 (N + 1 + 1 + 1 + 1) (T_goesOn (N + 1 + 1 + 1 + 1) dp) ((N + 1 + 1) + 1) = T_goesOn_b24_s (N + 1 + 1 + 1 + 1) (T_goesOn (N + 1 + 1 + 1 + 1) dp) (T_goesOn_b24 (N + 1 + 1 + 1 + 1) (T_goesOn (N + 1 + 1 + 1 + 1) dp) (N + 1 + 1)) from rfl]
    unfold T_goesOn_b24_s T_goesOn_b41
    rw [if_pos (show (1 : Int32) < 2 by decide), if_neg (show ¬ bi true = (0 : Int32) by decide), if_neg (show ¬ (1 : Int32) = 2 by decide), show (1 : Int32) + 1 = 2 from rfl]
    rw [show T_goesOn_b24 (N + 1 + 1 + 1 + 1) (T_goesOn (N + 1 + 1 + 1 + 1) dp) ((N + 1) + 1) = T_goesOn_b24_s (N + 1 + 1 + 1 + 1) (T_goesOn (N + 1 + 1 + 1 + 1) dp) (T_goesOn_b24 (N + 1 + 1 + 1 + 1) (T_goesOn (N + 1 + 1 + 1 + 1) dp) (N + 1)) from rfl]
    unfold T_goesOn_b24_s T_goesOn_b41
    rw [if_neg (show ¬ (2 : Int32) < 2 by decide), if_neg (show ¬ bi true = (0 : Int32) by decide), if_neg (show ¬ (3 : Int32) ≤ 2 by decide), if_neg (show ¬ bi true = (0 : Int32) by decide), if_pos (show (2 : Int32) = 2 from rfl)]
    unfold T_goesOn_b66 T_goesOn_b88
    rw [if_neg (show ¬ bi true = (0 : Int32) by decide), show (2000000000 : Int32) = i32 2000000000 from rfl]
    refine ok_be (t_wasBetween hn tb hW hS (by omega) (by omega) ⟨by omega, by omega⟩ ⟨by omega, by omega⟩) (ok_n ?_)
    rw [if_neg (show ¬ bi true = (0 : Int32) by decide), i32_or, bN_or]
    refine ok_b (t_fits0 (bs := bs) tb hS hq (by rw [Nat.pow_zero] at hq1; omega)) fun τ5 h5 => ?_
    rw [show T_goesOn_b24 (N + 1 + 1 + 1 + 1) (T_goesOn (N + 1 + 1 + 1 + 1) dp) (N + 1) = T_goesOn_b24_s (N + 1 + 1 + 1 + 1) (T_goesOn (N + 1 + 1 + 1 + 1) dp) (T_goesOn_b24 (N + 1 + 1 + 1 + 1) (T_goesOn (N + 1 + 1 + 1 + 1) dp) N) from rfl]
    unfold T_goesOn_b24_s
    rw [if_neg (show ¬ (2 : Int32) + 1 < 2 by decide), if_neg (show ¬ bi true = (0 : Int32) by decide), if_pos (show (3 : Int32) ≤ 2 + 1 by decide)]
    exact ok_s h5
  | succ d ih =>
    intro x y t me co bs q τ dp hx hy hd hdp h0 h1 tb hq hq1
    obtain ⟨dp, rfl⟩ : ∃ q, dp = q + 1 := ⟨dp - 1, by omega⟩
    have hh : hmA W x y = false := by unfold hmA; unfold dsA at hd; exact decide_eq_false (by omega)
    have hxy : x + y < 13 := by unfold dsA at hd; omega
    rw [Nat.pow_succ] at hq1
    have step : ∀ (w : Bool) (n : Nat) (s1 : TS) (q1 : Nat × (Nat → Bool) × (Nat → Bool)) (Q : TS → Prop), TB W S V m Tp RC s1 → Fs s1 q1 → q1.1 + 2 ^ d ≤ 100000 → (∀ s', Tk s1 s' → TB W S V m Tp RC s' → Fs s' (ftW W (S 0) d x y t me co bs w q1) → Ok (T_goesOn_b24 nf (T_goesOn nf dp) n (i32 (x : Int)) (i32 (y : Int)) (i32 t) (i32 ((bN me (nWas S) : Nat) : Int)) (i32 ((bN bs 13 : Nat) : Int)) (bi false) (i64 ((bN (fun j => co j || decide (j = 6 * y + x)) 54 : Nat) : Int)) (wy w + 1) s') Q) → Ok (T_goesOn_b24 nf (T_goesOn nf dp) (n + 1) (i32 (x : Int)) (i32 (y : Int)) (i32 t) (i32 ((bN me (nWas S) : Nat) : Int)) (i32 ((bN bs 13 : Nat) : Int)) (bi false) (i64 ((bN (fun j => co j || decide (j = 6 * y + x)) 54 : Nat) : Int)) (wy w) s1) Q := by
      intro w n s1 q1 Q b1 f1 g1 k1
      rw [show T_goesOn_b24 nf (T_goesOn nf dp) (n + 1) = T_goesOn_b24_s nf (T_goesOn nf dp) (T_goesOn_b24 nf (T_goesOn nf dp) n) from rfl]
      unfold T_goesOn_b24_s T_goesOn_b41
      rw [if_pos (show wy w < (2 : Int32) by cases w <;> decide), if_pos (show bi false = (0 : Int32) from rfl)]
      refine ok_be (s_canGo hW b1.1 (by omega) (by omega)) ?_
      unfold ftW at k1
      cases hcg : cgA W x y w with
      | false =>
        rw [hcg, if_neg (by decide)] at k1
        rw [if_pos (show bi false = (0 : Int32) from rfl)]
        exact k1 s1 Tk.rf b1 f1
      | true =>
        obtain ⟨i1, i2, i3, i4, i5, i6⟩ := cg_in hW (t := t) hx hy hcg
        rw [hcg, if_pos rfl] at k1
        rw [if_neg (show ¬ bi true = (0 : Int32) by decide)]
        unfold T_goesOn_b66 T_goesOn_b88
        rw [if_pos (show bi false = (0 : Int32) from rfl)]
        refine ok_be (s_waitFor hn hW b1.1 (by omega) (by omega) ⟨h0, by omega⟩ i6) ?_
        rw [i32_add]
        refine ok_be (t_wasBetween hn b1 hW hS (by omega) (by omega) ⟨by omega, by omega⟩ ⟨by omega, by omega⟩) (ok_n ?_)
        have e2 : ∀ {α : Type} {K : Int32 → Option α}, ld (tA s1 10) 680 2 K = K (i32 (W 2)) := fun {α} {K} => s_ld s1 b1.1 (k := 2) (by omega)
        have ex := xy_n (x := x) (y := y) w
        rw [if_pos (show bi false = (0 : Int32) from rfl), e2, ex.1, ex.2, i32_add, i32_or, bN_or, i32_add, ← Int.natCast_add, bs_up hxy]
        refine ok_b (ih (nx w x) (ny w y) (t + wtA W x y w t + W 2) _ _ _ q1 s1 dp i1 i2 (by omega) (by omega) (by omega) (by omega) b1 f1 g1) fun s5 h5 => k1 s5 h5.1 (b1.q h5.1.1) h5.2
    obtain ⟨N, hN⟩ : ∃ n, nf = n + 1 + 1 + 1 := ⟨nf - 3, by omega⟩
    rw [show T_goesOn nf (dp + 1) = T_goesOn_s nf (T_goesOn nf dp) from rfl]
    unfold T_goesOn_s
    refine ok_be (s_isHome hW tb.1 (by omega) (by omega)) (ok_n ?_)
    rw [hh, co_up co x y (by omega) (by omega), ftN_s]
    have L : Ok (T_goesOn_b24 nf (T_goesOn nf dp) (N + 1 + 1 + 1) (i32 (x : Int)) (i32 (y : Int)) (i32 t) (i32 ((bN me (nWas S) : Nat) : Int)) (i32 ((bN bs 13 : Nat) : Int)) (bi false) (i64 ((bN (fun j => co j || decide (j = 6 * y + x)) 54 : Nat) : Int)) 0 τ) fun τ' => Tk τ τ' ∧ Fs τ' (ftW W (S 0) d x y t me co bs true (ftW W (S 0) d x y t me co bs false q)) := by
      refine step false (N + 1 + 1) τ q _ tb hq (by omega) fun s2 f2 b2 r2 => ?_
      have hb2 : (ftW W (S 0) d x y t me co bs false q).1 ≤ q.1 + 2 ^ d := by
        unfold ftW
        split
        · exact ft_b d _ _ _ _ _ _ _
        · omega
      refine step true (N + 1) s2 _ _ b2 r2 (by omega) fun s3 f3 b3 r3 => ?_
      rw [show T_goesOn_b24 nf (T_goesOn nf dp) (N + 1) = T_goesOn_b24_s nf (T_goesOn nf dp) (T_goesOn_b24 nf (T_goesOn nf dp) N) from rfl]
      unfold T_goesOn_b24_s
      rw [if_neg (show ¬ wy true + 1 < (2 : Int32) by decide), if_pos (show bi false = (0 : Int32) from rfl)]
      exact ok_s ⟨f2.tr f3, r3⟩
    rw [← hN] at L
    exact L
/-- the set that is given back, so far -/
def rsF (what : Int) (co : Nat → Bool) (k j : Nat) : Bool := if what = 2 then decide (6 * (j / 8) + j % 8 < k) && lwF co j else decide (48 + j < k) && hgF co j
theorem bN_cut {f : Nat → Bool} {n m : Nat} (h : n ≤ m) : bN (fun j => decide (j < n) && f j) m = bN f n := by
  apply Nat.eq_of_testBit_eq
  intro j
  rw [bN_t, bN_t]
  by_cases e : j < n
  · rw [decide_eq_true e, decide_eq_true (show j < m by omega), Bool.true_and]
  · rw [decide_eq_false e, Bool.false_and, Bool.and_false]
theorem bit_n {f : Nat → Bool} {n k : Nat} (hk : k < n) : (bN f n >>> k) &&& 1 = if f k = true then 1 else 0 := by
  have h := bN_t f n k
  rw [decide_eq_true hk, Bool.true_and, Nat.testBit_eq_decide_div_mod_eq] at h
  rw [Nat.and_one_is_mod, Nat.shiftRight_eq_div_pow]
  cases hf : f k with
  | false =>
    rw [hf] at h
    have := of_decide_eq_false h
    rw [if_neg (by decide)]
    omega
  | true =>
    rw [hf] at h
    exact of_decide_eq_true h
theorem t_fits77 {what : Int} (hw : what = 2 ∨ what = 3) {co : Nat → Bool} (hco : tL τ 45 = i64 ((bN co 54 : Nat) : Int)) : ∀ (d n k : Nat), k + d = 54 → d < n → T_fits_b77 nf n (i32 what) (i64 ((bN (rsF what co k) 62 : Nat) : Int)) (i32 (k : Int)) τ = some (i64 ((bN (rsF what co 54) 62 : Nat) : Int), τ) := by
  have hb54 : bN co 54 < 2 ^ 63 := Nat.lt_trans (bN_lt co 54) (by decide)
  intro d
  induction d with
  | zero =>
    intro n k h1 h2
    obtain ⟨n, rfl⟩ : ∃ q, n = q + 1 := ⟨n - 1, by omega⟩
    rw [show T_fits_b77 nf (n + 1) = T_fits_b77_s nf (T_fits_b77 nf n) from rfl]
    unfold T_fits_b77_s
    rw [if_pos (show (54 : Int32) ≤ i32 (k : Int) from (i32_le (a := 54) ⟨by omega, by omega⟩ ⟨by omega, by omega⟩).mpr (by omega)), show k = 54 by omega]
  | succ d ih =>
    intro n k h1 h2
    obtain ⟨n, rfl⟩ : ∃ q, n = q + 1 := ⟨n - 1, by omega⟩
    have L := ih n (k + 1) (by omega) (by omega)
    have eb : (shr64 (tL τ 45) (i32 (k : Int))) &&& 1 = i64 (((if co k = true then 1 else 0) : Nat) : Int) := by
      rw [hco, shr64_n hb54 (by omega), show (1 : Int64) = i64 ((1 : Nat) : Int) from rfl, i64_and, bit_n (by omega)]
    have ed : i32 (k : Int) / 6 = i32 ((k / 6 : Nat) : Int) := by
      rw [show (6 : Int32) = i32 6 from rfl, div_c (by omega) (by omega) (by omega) (by omega)]
      rfl
    have er : rem32 (i32 (k : Int)) 6 = i32 ((k % 6 : Nat) : Int) := by
      rw [show (6 : Int32) = i32 6 from rfl, rem_c (by omega) (by omega) (by omega) (by omega)]
      rfl
    have no : (∀ j, j < 62 → rsF what co (k + 1) j = rsF what co k j) → T_fits_b131 nf (T_fits_b77 nf n) (i32 what) (i64 ((bN (rsF what co k) 62 : Nat) : Int)) (i32 (k : Int)) 0 τ = some (i64 ((bN (rsF what co 54) 62 : Nat) : Int), τ) := fun h => by
      unfold T_fits_b131
      rw [if_pos rfl, nm_eq, show (0 : Int64) = i64 ((0 : Nat) : Int) from rfl, i64_or, Nat.or_zero, ← bN_e 62 h, show (1 : Int32) = i32 1 from rfl, i32_add]
      exact L
    have hlt8 : (8 : Int32) ≤ i32 ((k / 6 : Nat) : Int) ↔ 8 ≤ k / 6 := by
      rw [show (8 : Int32) = i32 8 from rfl, i32_le ⟨by omega, by omega⟩ ⟨by omega, by omega⟩]
      omega
    have one : ∀ (p : Nat) (z : Int32), p < 62 → z + i32 ((k % 6 : Nat) : Int) = i32 ((p : Nat) : Int) → (∀ j, j < 62 → rsF what co (k + 1) j = (rsF what co k j || decide (j = p))) → T_fits_b157 nf (T_fits_b77 nf n) (i32 what) (i32 (k : Int)) z 1 (i64 ((bN (rsF what co k) 62 : Nat) : Int)) τ = some (i64 ((bN (rsF what co 54) 62 : Nat) : Int), τ) := fun p z hp hz h => by
      unfold T_fits_b157
      rw [nm_eq, er, hz, shl64_1 p (by omega), i64_or, bN_p hp h, show (1 : Int32) = i32 1 from rfl, i32_add]
      exact L
    rw [show T_fits_b77 nf (n + 1) = T_fits_b77_s nf (T_fits_b77 nf n) from rfl]
    unfold T_fits_b77_s
    rw [if_neg (show ¬ (54 : Int32) ≤ i32 (k : Int) from fun z => by have := (i32_le (a := 54) ⟨by omega, by omega⟩ ⟨by omega, by omega⟩).mp z; omega), eb, ed]
    cases hck : co k with
    | false =>
      rw [if_neg (show ¬ (i64 (((if false = true then 1 else 0) : Nat) : Int)) = 1 by decide)]
      refine no fun j hj => ?_
      unfold rsF lwF hgF
      rcases hw with rfl | rfl
      · rw [if_pos rfl, if_pos rfl]
        by_cases e : 6 * (j / 8) + j % 8 = k
        · rw [e, hck, Bool.and_false, Bool.and_false, Bool.and_false]
        · congr 1
          exact decide_eq_decide.mpr (by omega)
      · rw [if_neg (by decide), if_neg (by decide)]
        by_cases e : 48 + j = k
        · rw [e, hck, Bool.and_false, Bool.and_false]
        · congr 1
          exact decide_eq_decide.mpr (by omega)
    | true =>
      rw [if_pos (show (i64 (((if true = true then 1 else 0) : Nat) : Int)) = 1 by decide)]
      unfold T_fits_b113
      rcases hw with rfl | rfl
      · rw [if_pos (show i32 2 = (2 : Int32) from rfl), if_pos (show i32 2 = (2 : Int32) from rfl)]
        by_cases q : 8 ≤ k / 6
        · rw [if_pos (hlt8.mpr q), if_neg (show ¬ (0 : Int32) = 1 by decide)]
          refine no fun j hj => ?_
          unfold rsF lwF
          rw [if_pos rfl, if_pos rfl]
          by_cases e : j % 8 < 6
          · rw [decide_eq_true (show 6 * (j / 8) + j % 8 < k + 1 by omega), decide_eq_true (show 6 * (j / 8) + j % 8 < k by omega)]
          · rw [decide_eq_false e, Bool.false_and, Bool.and_false, Bool.and_false]
        · rw [if_neg (fun z => q (hlt8.mp z)), if_pos rfl]
          unfold T_fits_b131
          rw [if_neg (show ¬ (1 : Int32) = 0 by decide), if_pos (show i32 2 = (2 : Int32) from rfl)]
          refine one (8 * (k / 6) + k % 6) _ (by omega) ?_ fun j hj => ?_
          · rw [ed, show (8 : Int32) = i32 8 from rfl, i32_mul, i32_add]
            rfl
          · unfold rsF lwF
            rw [if_pos rfl, if_pos rfl]
            by_cases e : j = 8 * (k / 6) + k % 6
            · rw [decide_eq_true e, Bool.or_true, decide_eq_true (show 6 * (j / 8) + j % 8 < k + 1 by omega), decide_eq_true (show j % 8 < 6 by omega), show 6 * (j / 8) + j % 8 = k by omega, hck]
              rfl
            · rw [decide_eq_false e, Bool.or_false]
              by_cases e2 : j % 8 < 6
              · congr 1
                exact decide_eq_decide.mpr (by omega)
              · rw [decide_eq_false e2, Bool.false_and, Bool.and_false, Bool.and_false]
      · rw [if_neg (show ¬ i32 3 = (2 : Int32) by decide), if_neg (show ¬ i32 3 = (2 : Int32) by decide)]
        by_cases q : 8 ≤ k / 6
        · rw [if_pos (hlt8.mpr q), if_pos rfl]
          unfold T_fits_b131
          rw [if_neg (show ¬ (1 : Int32) = 0 by decide), if_neg (show ¬ i32 3 = (2 : Int32) by decide)]
          refine one (k % 6) _ (by omega) ?_ fun j hj => ?_
          · rw [show (0 : Int32) = i32 0 from rfl, i32_add, Int.zero_add]
          · unfold rsF hgF
            rw [if_neg (by decide), if_neg (by decide)]
            by_cases e : j = k % 6
            · rw [decide_eq_true e, Bool.or_true, decide_eq_true (show 48 + j < k + 1 by omega), show 48 + j = k by omega, hck]
              rfl
            · rw [decide_eq_false e, Bool.or_false]
              congr 1
              exact decide_eq_decide.mpr (by omega)
        · rw [if_neg (fun z => q (hlt8.mp z)), if_neg (show ¬ (1 : Int32) = 0 by decide)]
          refine no fun j hj => ?_
          unfold rsF hgF
          rw [if_neg (by decide), if_neg (by decide)]
          congr 1
          exact decide_eq_decide.mpr (by omega)
theorem t_fits (hn : 100 ≤ nf) (tb : TB W S V m Tp RC τ) (hW : TW W) (hS : SW2 W (S 0)) {what : Int} (hw : ok32 what) : Ok (T_fits nf (i32 what) τ) fun p => p.1 = i64 (ftV W (S 0) what) ∧ Tk τ p.2 := by
  have w0 := hW.1
  have w1 := hW.2.1
  have hd13 := ds_b (x := 0) (y := 0) hW
  have hp : 2 ^ (dsA W 0 0) ≤ 2 ^ 13 := Nat.pow_le_pow_right (by omega) hd13
  have hk := tk_z τ
  have tb2 : TB W S V m Tp RC (sI τ 0 0) := tb.q hk.1
  unfold T_fits ftV
  rw [nm_eq]
  generalize sI τ 0 0 = τ1 at hk tb2 ⊢
  refine ok_be (s_w3 hw 0 3 (by omega)) ?_
  by_cases q : 0 ≤ what ∧ what ≤ 3
  · rw [decide_eq_true q, if_neg (show ¬ bi true = (0 : Int32) by decide), if_pos q, nm_eq]
    have f3 : Tk τ1 (sL τ1 43 0) := Tk.sL
    have tb3 := tb2.q f3.1
    have hr3 : Fs (sL τ1 43 0) (0, (fun _ => false), (fun _ => false)) := ⟨rfl, fun z => absurd z (by decide)⟩
    generalize sL τ1 43 0 = τ3 at f3 tb3 hr3 ⊢
    have L := t_goesOn (nf := nf) hn hW hS (dsA W 0 0) 0 0 0 (fun _ => false) (fun _ => false) (fun _ => false) (0, (fun _ => false), (fun _ => false)) τ3 20 (by omega) (by omega) rfl (by omega) (Int.le_refl _) (by omega) tb3 hr3 (by show 0 + _ ≤ _; omega)
    have hb := ft_b (W := W) (σ := S 0) (dsA W 0 0) 0 0 0 (fun _ => false) (fun _ => false) (fun _ => false) (0, (fun _ => false), (fun _ => false))
    have hb : (ftR W (S 0)).1 ≤ 0 + 2 ^ (dsA W 0 0) := hb
    rw [show ftN W (S 0) (dsA W 0 0) 0 0 0 (fun _ => false) (fun _ => false) (fun _ => false) (0, (fun _ => false), (fun _ => false)) = ftR W (S 0) from rfl] at L
    generalize ftR W (S 0) = r at L hb ⊢
    rw [bN_z (nWas S), bN_z 54, bN_z 13] at L
    have L : Ok (T_goesOn nf 20 0 0 0 0 0 0 τ3) fun τ' => Tk τ3 τ' ∧ Fs τ' r := L
    refine ok_b L fun τ4 h4 => ?_
    obtain ⟨f4, p1, p2⟩ := h4
    have fz := (hk.tr f3).tr f4
    have e1 : (tL τ4 43 = 0) ↔ r.1 = 0 := by
      rw [p1, show (0 : Int64) = i64 0 from rfl, i64_eq ⟨by omega, by omega⟩ ⟨by omega, by omega⟩]
      omega
    by_cases z : what = 0
    · rw [if_pos (show i32 what = (0 : Int32) by rw [z]; rfl), if_pos z]
      unfold T_fits_b46
      rw [if_pos (show i32 what = (0 : Int32) by rw [z]; rfl)]
      exact ok_s ⟨p1, fz⟩
    · have nz : ¬ i32 what = (0 : Int32) := fun h => z ((i32_eq (b := 0) hw ⟨by omega, by omega⟩).mp h)
      rw [if_neg nz, if_neg z]
      by_cases z2 : r.1 = 0
      · rw [if_pos (e1.mpr z2), if_pos z2]
        unfold T_fits_b46
        rw [if_neg nz]
        exact ok_s ⟨rfl, fz⟩
      · rw [if_neg (fun h => z2 (e1.mp h)), if_neg z2]
        obtain ⟨p4, p5⟩ := p2 (by omega)
        by_cases z3 : what = 1
        · rw [if_pos (show i32 what = (1 : Int32) by rw [z3]; rfl), if_pos z3, p4]
          have := bN_i32 r.2.1 (n := 13) (by omega)
          exact ok_s ⟨i32_long ⟨by omega, by omega⟩, fz⟩
        · rw [if_neg (show ¬ i32 what = (1 : Int32) from fun h => z3 ((i32_eq (b := 1) hw ⟨by omega, by omega⟩).mp h)), if_neg z3]
          have hw2 : what = 2 ∨ what = 3 := by omega
          have L := t_fits77 (nf := nf) hw2 p5 54 nf 0 (by omega) (by omega)
          have e0 : bN (rsF what r.2.2 0) 62 = 0 := (bN_e 62 fun j _ => by
            unfold rsF
            split
            · rw [decide_eq_false (by omega)]; rfl
            · rw [decide_eq_false (by omega)]; rfl).trans (bN_z 62)
          rw [e0] at L
          have L : T_fits_b77 nf nf (i32 what) 0 0 τ4 = some (i64 ((bN (rsF what r.2.2 54) 62 : Nat) : Int), τ4) := L
          refine ok_e L ⟨?_, fz⟩
          rcases hw2 with rfl | rfl
          · have e6 : bN (rsF 2 r.2.2 54) 62 = bN (lwF r.2.2) 62 := bN_e 62 fun j hj => by
              unfold rsF lwF
              rw [if_pos rfl]
              by_cases e : j % 8 < 6
              · rw [decide_eq_true (show 6 * (j / 8) + j % 8 < 54 by omega), Bool.true_and]
              · rw [decide_eq_false e, Bool.false_and, Bool.and_false]
            rw [if_pos (show (2 : Int) = 2 from rfl)]
            show i64 ((bN (rsF 2 r.2.2 54) 62 : Nat) : Int) = _
            rw [e6]
          · have e6 : bN (rsF 3 r.2.2 54) 62 = bN (fun j => decide (j < 6) && hgF r.2.2 j) 62 := bN_e 62 fun j hj => by
              show (if (3 : Int) = 2 then decide (6 * (j / 8) + j % 8 < 54) && lwF r.2.2 j else decide (48 + j < 54) && hgF r.2.2 j) = (decide (j < 6) && hgF r.2.2 j)
              rw [if_neg (show ¬ (3 : Int) = 2 by decide), show decide (48 + j < 54) = decide (j < 6) from decide_eq_decide.mpr (by omega)]
            have e7 : bN (fun j => decide (j < 6) && hgF r.2.2 j) 62 = bN (hgF r.2.2) 6 := bN_cut (by omega)
            rw [if_neg (show ¬ (3 : Int) = 2 by decide)]
            show i64 ((bN (rsF 3 r.2.2 54) 62 : Nat) : Int) = _
            rw [e6, e7]
  · rw [decide_eq_false q, if_pos (show bi false = (0 : Int32) from rfl), if_neg q]
    exact ok_s ⟨rfl, hk⟩
end FD
