/-! LAYER 2: ways that fit: the component -/
set_option maxRecDepth 100000
def Fr (s : CS) (g : Nat → Nat) (q : Nat × (Nat → Bool) × (Nat → Bool)) : Prop := cI s 21 (g 0) = i32 (q.1 : Int) ∧ (q.1 = 0 → cJ s 23 (g 0) = -1 ∧ cJ s 24 (g 0) = -1) ∧ (0 < q.1 → cI s 22 (g 0) = i32 ((bN q.2.1 13 : Nat) : Int) ∧ cJ s 23 (g 0) = i64 ((bN (lwF q.2.2) 62 : Nat) : Int) ∧ cJ s 24 (g 0) = i64 ((bN (hgF q.2.2) 6 : Nat) : Int))
section FC
variable {g : Nat → Nat} {ρ : Nat → Nat × Nat} {W : Nat → Int} {S : Nat → Nat → Int} {V m Tp : Nat → Int} {RC : Nat → List (Nat × Int)} {s : CS} {τ : TS} {T : Int} {nf : Nat}
theorem cf_6 (b : B g ρ W S V m Tp RC s) (hW : TW W) (hS : SW2 W (S 0)) {x y : Nat} {a z : Int} (hx : x < 6) (hy : y < 9) (ha : ok32 a) (hz : ok32 z) : ∀ (d n k : Nat), k + d = nWas S → d < n → FX0_toldAt_b6 nf s n (g 0) (i32 (x : Int)) (i32 (y : Int)) (i32 a) (i32 z) (i32 ((cN (tolS (S 0) x y a z) k : Nat) : Int)) (i32 (k : Int)) = some (i32 ((cN (tolS (S 0) x y a z) (nWas S) : Nat) : Int)) := by
  obtain ⟨a1, a2⟩ := ha
  obtain ⟨z1, z2⟩ := hz
  obtain ⟨o1, o2, o3⟩ := b_now b
  have w0 := hW.1
  have w1 := hW.2.1
  have h59 := hS.2.1
  have hcx := so_cx o1
  have hld := so_ld o1
  have h4 : ∀ (α : Type) (K : Option Nat → Option α), gR s (g 0) [0] 4 K = K (some (g 3)) := fun α K => by rw [(bcx b).1.2.2.2.1, (b.2.1 4 _ rfl).1]
  intro d
  induction d with
  | zero =>
    intro n k h1 h2
    obtain ⟨n, rfl⟩ : ∃ q, n = q + 1 := ⟨n - 1, by omega⟩
    have ek : k = nWas S := by omega
    rw [show FX0_toldAt_b6 nf s (n + 1) = FX0_toldAt_b6_s nf s (FX0_toldAt_b6 nf s n) from rfl]
    unfold FX0_toldAt_b6_s
    simp only [h4, nn_eq, hcx.1, o3.2.1]
    rw [if_pos ((i32_le ⟨by omega, by omega⟩ ⟨by unfold nWas at ek; omega, by unfold nWas at ek; omega⟩).mpr (by unfold nWas at ek; omega)), ek]
  | succ d ih =>
    intro n k h1 h2
    obtain ⟨n, rfl⟩ : ∃ q, n = q + 1 := ⟨n - 1, by omega⟩
    have hk : (k : Int) < S 0 59 := by unfold nWas at h1; omega
    have hwk := hS.2.2.2 k hk
    have ok := o3.2.2.2 k hk
    have L := ih n (k + 1) (by omega) (by omega)
    have en : (k : Int).toNat = k := Int.toNat_natCast k
    have e1 : cN (tolS (S 0) x y a z) (k + 1) = cN (tolS (S 0) x y a z) k + (if tolS (S 0) x y a z k = true then 1 else 0) := rfl
    rw [e1] at L
    rw [show FX0_toldAt_b6 nf s (n + 1) = FX0_toldAt_b6_s nf s (FX0_toldAt_b6 nf s n) from rfl]
    unfold FX0_toldAt_b6_s
    simp only [h4, nn_eq, hcx.1, hcx.2.1, o3.2.1, o1.2.2.2.2.2.1.1, o1.2.2.2.2.2.2.1]
    rw [if_neg (fun q => by have := (i32_le (a := S 0 59) (b := (k : Int)) ⟨by omega, by omega⟩ ⟨by omega, by omega⟩).mp q; omega), hld.2.2.2.2.1 _ _ _ (by omega) (by omega), en, ok.1, show (6 : Int32) = i32 6 from rfl, show (1 : Int32) = i32 1 from rfl, i32_mul, i32_add, i32_add, i32_add]
    by_cases q : S 0 (92 + 3 * k) = (x : Int) ∧ S 0 (93 + 3 * k) = (y : Int)
    · rw [if_pos (by rw [q.1, q.2, Int.mul_comm]), hld.2.2.2.2.2 _ _ _ (by omega) (by omega), en, ok.2, c_in (by omega) (by omega) a1 a2 z1 z2, bd_eq]
      by_cases q2 : a ≤ S 0 (94 + 3 * k) ∧ S 0 (94 + 3 * k) ≤ z
      · rw [decide_eq_true q2, if_neg (show ¬ bi true = (0 : Int32) by decide)]
        rw [if_pos (show tolS (S 0) x y a z k = true from decide_eq_true ⟨q, q2⟩)] at L
        exact L
      · rw [decide_eq_false q2, if_pos (show bi false = (0 : Int32) from rfl)]
        rw [if_neg (show ¬ tolS (S 0) x y a z k = true from fun z => q2 (of_decide_eq_true z).2)] at L
        exact L
    · rw [if_neg (fun e => q (by have := (i32_eq (a := 6 * S 0 (93 + 3 * k) + S 0 (92 + 3 * k)) (b := (y : Int) * 6 + (x : Int)) ⟨by omega, by omega⟩ ⟨by omega, by omega⟩).mp e; omega))]
      rw [if_neg (show ¬ tolS (S 0) x y a z k = true from fun z => q (of_decide_eq_true z).1)] at L
      exact L
theorem c_toldAt (hn : 100 ≤ nf) (b : B g ρ W S V m Tp RC s) (hW : TW W) (hS : SW2 W (S 0)) {x y : Nat} {a z : Int} (hx : x < 6) (hy : y < 9) (ha : ok32 a) (hz : ok32 z) : FX0_toldAt nf s (g 0) (i32 (x : Int)) (i32 (y : Int)) (i32 a) (i32 z) = some (i32 ((cN (tolS (S 0) x y a z) (nWas S) : Nat) : Int)) := by
  have h59 := hS.2.1
  unfold FX0_toldAt
  rw [gd_t (isK_o b.1 rfl)]
  exact cf_6 (nf := nf) b hW hS hx hy ha hz (nWas S) nf 0 (by omega) (by unfold nWas; omega)
/-- at home -/
theorem cf_home (hn : 100 ≤ nf) (b : B g ρ W S V m Tp RC s) (hW : TW W) (hS : SW2 W (S 0)) {x y : Nat} {t : Int} {me co bs : Nat → Bool} {q : Nat × (Nat → Bool) × (Nat → Bool)} {rc : Nat → Int32 → Int32 → Int32 → Int32 → Int32 → Int64 → Int64 → Int32 → CS → Option CS} {st : Int32} (hx : (x : Int) < W 0) (hy : (y : Int) < W 1) (hh : hmA W x y = true) (h0 : 0 ≤ t ∧ t ≤ 2000) (hme : ∀ k, k < nWas S → me k = true → tolS (S 0) x y t 2000000000 k = true → False) (hq : Fr s g q) (hq1 : q.1 ≤ 100000) : Ok (FX0_ways_b41 nf rc (g 0) (i32 (x : Int)) (i32 (y : Int)) (i32 t) st (i32 ((bN bs 13 : Nat) : Int)) (i32 ((cN me (nWas S) : Nat) : Int)) (i64 ((bN (lwF co) 62 : Nat) : Int)) (i64 ((bN (hgF co) 6 : Nat) : Int)) s) fun s' => Fq ρ s s' ∧ Fr s' g (ftE (S 0) (fun k => me k || tolS (S 0) x y t 2000000000 k) bs co q) := by
  have w0 := hW.1
  have w1 := hW.2.1
  have h59 := hS.2.1
  obtain ⟨o1, o2, o3⟩ := b_now b
  have hcx := so_cx o1
  have hc1 := cN_le me (nWas S)
  have hc2 := cN_le (tolS (S 0) x y t 2000000000) (nWas S)
  have e8 : nWas S ≤ 8 := by unfold nWas; omega
  have et : cN (tolS (S 0) x y t 2147483647) (nWas S) = cN (tolS (S 0) x y t 2000000000) (nWas S) := by
    refine cN_e _ fun k hk => ?_
    have := hS.2.2.2 k (by unfold nWas at hk; omega)
    unfold tolS
    exact decide_eq_decide.mpr (by omega)
  have hall : (nWas S ≤ cN me (nWas S) + cN (tolS (S 0) x y t 2000000000) (nWas S)) ↔ ∀ k, k < (S 0 59).toNat → (me k || tolS (S 0) x y t 2000000000 k) = true := by
    rw [← cN_or _ hme]
    exact cN_all _
  obtain ⟨q1, q2, q3⟩ := hq
  unfold FX0_ways_b41
  refine ok_be (c_isHome b hW (by omega) (by omega)) ?_
  rw [hh, if_neg (show ¬ bi true = (0 : Int32) by decide), show (2147483647 : Int32) = i32 2147483647 from rfl]
  refine ok_be (c_toldAt hn b hW hS (by omega) (by omega) ⟨by omega, by omega⟩ ⟨by omega, by omega⟩) ?_
  rw [et]
  refine ok_gRs b.1 rfl (b.2.1 4 _ rfl).1 (ok_nn ?_)
  rw [hcx.1, o3.2.1, i32_add]
  unfold ftE
  refine ok_le ⟨by omega, by omega⟩ ⟨by omega, by omega⟩ (fun z => ?_) (fun z => ?_)
  · rw [if_pos (hall.mp (by unfold nWas at *; omega))]
    refine ok_gI b.1 rfl ?_
    rw [q1, show (1 : Int32) = i32 1 from rfl, i32_add, show (0 : Int32) = i32 0 from rfl]
    refine ok_pI b.1 rfl ?_
    have f7 : Fq ρ s (uI s 21 (g 0) (i32 ((q.1 : Int) + 1))) := Fq.uI rfl
    have b7 := b.q f7
    refine ok_q ⟨by omega, by omega⟩ ⟨by omega, by omega⟩ (fun z2 => ?_) (fun z2 => ?_)
    · have z3 : q.1 = 0 := by omega
      rw [if_pos z3, if_pos z3]
      refine ok_pI b7.1 rfl ?_
      generalize hs8 : uI (uI s 21 (g 0) (i32 ((q.1 : Int) + 1))) 22 (g 0) (i32 ((bN bs 13 : Nat) : Int)) = s8
      have f8 : Fq ρ (uI s 21 (g 0) (i32 ((q.1 : Int) + 1))) s8 := by rw [← hs8]; exact Fq.uI rfl
      have b8 := b7.q f8
      have e23 : cJ s8 23 (g 0) = -1 := by rw [← hs8]; exact (q2 z3).1
      have e24 : cJ s8 24 (g 0) = -1 := by rw [← hs8]; exact (q2 z3).2
      unfold FX0_ways_b96
      refine ok_gJ b8.1 rfl (ok_pJ b8.1 rfl ?_)
      have b9 := b8.q (s' := uJ s8 23 (g 0) (cJ s8 23 (g 0) &&& i64 ((bN (lwF co) 62 : Nat) : Int))) Fq.uJ
      refine ok_gJ b9.1 rfl (ok_pJ b9.1 rfl (ok_s ⟨((f7.tr f8).tr Fq.uJ).tr Fq.uJ, ?_, fun z => absurd z (Nat.succ_ne_zero q.1), fun _ => ⟨?_, ?_, ?_⟩⟩))
      · show cI s8 21 (g 0) = i32 ((q.1 + 1 : Nat) : Int)
        rw [← hs8, rI_n (by decide), rI_t]
        rfl
      · show cI s8 22 (g 0) = i32 ((bN bs 13 : Nat) : Int)
        rw [← hs8, rI_t]
      · rw [rJ_n (by decide), rJ_t, e23, i64_m1and]
      · rw [rJ_t, rJ_n (by decide), e24, i64_m1and]
    · have z3 : ¬ q.1 = 0 := by omega
      obtain ⟨p1, p2, p3⟩ := q3 (by omega)
      rw [if_neg z3, if_neg z3]
      generalize hs8 : uI s 21 (g 0) (i32 ((q.1 : Int) + 1)) = s8 at f7 b7 ⊢
      have e22 : cI s8 22 (g 0) = i32 ((bN q.2.1 13 : Nat) : Int) := by rw [← hs8]; exact p1
      have e23 : cJ s8 23 (g 0) = i64 ((bN (lwF q.2.2) 62 : Nat) : Int) := by rw [← hs8]; exact p2
      have e24 : cJ s8 24 (g 0) = i64 ((bN (hgF q.2.2) 6 : Nat) : Int) := by rw [← hs8]; exact p3
      unfold FX0_ways_b96
      refine ok_gJ b7.1 rfl (ok_pJ b7.1 rfl ?_)
      have b9 := b7.q (s' := uJ s8 23 (g 0) (cJ s8 23 (g 0) &&& i64 ((bN (lwF co) 62 : Nat) : Int))) Fq.uJ
      refine ok_gJ b9.1 rfl (ok_pJ b9.1 rfl (ok_s ⟨(f7.tr Fq.uJ).tr Fq.uJ, ?_, fun z => absurd z (Nat.succ_ne_zero q.1), fun _ => ⟨e22, ?_, ?_⟩⟩))
      · show cI s8 21 (g 0) = i32 ((q.1 + 1 : Nat) : Int)
        rw [← hs8, rI_t]
        rfl
      · rw [rJ_n (by decide), rJ_t, e23, i64_and, lw_and]
      · rw [rJ_t, rJ_n (by decide), e24, i64_and, hg_and]
  · rw [if_neg (fun h => by have := hall.mpr h; unfold nWas at *; omega)]
    exact ok_s ⟨Fq.rf, q1, q2, q3⟩
theorem c_ways (hn : 100 ≤ nf) (hW : TW W) (hS : SW2 W (S 0)) : ∀ (d x y : Nat) (t : Int) (me co bs : Nat → Bool) (q : Nat × (Nat → Bool) × (Nat → Bool)) (s : CS) (dp : Nat), (x : Int) < W 0 → (y : Int) < W 1 → dsA W x y = d → d < dp → 0 ≤ t → t + 89 * d ≤ 2000 → B g ρ W S V m Tp RC s → Fr s g q → q.1 + 2 ^ d ≤ 100000 → (∀ k, k < nWas S → me k = true → S 0 (92 + 3 * k) + S 0 (93 + 3 * k) < (x : Int) + y) → Ok (FX0_ways nf dp (g 0) (i32 (x : Int)) (i32 (y : Int)) (i32 t) (i32 ((x + y : Nat) : Int)) (i32 ((bN bs 13 : Nat) : Int)) (i64 ((bN (lwF co) 62 : Nat) : Int)) (i64 ((bN (hgF co) 6 : Nat) : Int)) (i32 ((cN me (nWas S) : Nat) : Int)) s) fun s' => Fq ρ s s' ∧ Fr s' g (ftN W (S 0) d x y t me co bs q) := by
  have w0 := hW.1
  have w1 := hW.2.1
  have w2 := hW.2.2.1
  have h59 := hS.2.1
  have e8 : nWas S ≤ 8 := by unfold nWas; omega
  intro d
  induction d with
  | zero =>
    intro x y t me co bs q s dp hx hy hd hdp h0 h1 b hq hq1 hme
    obtain ⟨dp, rfl⟩ : ∃ q, dp = q + 1 := ⟨dp - 1, by omega⟩
    have hh : hmA W x y = true := by unfold hmA; unfold dsA at hd; exact decide_eq_true (by omega)
    have lu := lw_up (co := co) (x := x) (y := y) (by omega)
    have hu := hg_up (co := co) (x := x) (y := y) (by omega) (by omega)
    have L := cf_home (nf := nf) (rc := FX0_ways nf dp) (st := i32 ((x + y : Nat) : Int)) (co := fun j => co j || decide (j = 6 * y + x)) (bs := bs) hn b hW hS hx hy hh (t := t) ⟨h0, by omega⟩ (fun k a1 a2 a3 => by have := hme k a1 a2; have := of_decide_eq_true a3; omega) hq (by rw [Nat.pow_zero] at hq1; omega)
    rw [show FX0_ways nf (dp + 1) = FX0_ways_s nf (FX0_ways nf dp) from rfl]
    unfold FX0_ways_s ftN FX0_ways_b22
    refine ok_mq (ρ := ρ) ?_ (fun z hz => hz.1)
    refine ok_gd b.1 rfl ?_
    by_cases q8 : 8 ≤ y
    · have c8 : (8 : Int32) ≤ i32 (y : Int) := (i32_le (a := 8) ⟨by omega, by omega⟩ ⟨by omega, by omega⟩).mpr (by omega)
      rw [if_pos c8, if_pos c8, shl64_1 x (by omega), i64_or, hu.1 q8, lu.2 q8]
      exact L
    · have c8 : ¬ (8 : Int32) ≤ i32 (y : Int) := fun z => by have := (i32_le (a := 8) ⟨by omega, by omega⟩ ⟨by omega, by omega⟩).mp z; omega
      rw [if_neg c8, if_neg c8, show (8 : Int32) = i32 8 from rfl, i32_mul, i32_add, show (8 : Int) * (y : Int) + (x : Int) = ((8 * y + x : Nat) : Int) by omega, shl64_1 _ (by omega), i64_or, lu.1 (by omega), hu.2 (by omega)]
      exact L
  | succ d ih =>
    intro x y t me co bs q s dp hx hy hd hdp h0 h1 b hq hq1 hme
    obtain ⟨dp, rfl⟩ : ∃ q, dp = q + 1 := ⟨dp - 1, by omega⟩
    have hh : hmA W x y = false := by unfold hmA; unfold dsA at hd; exact decide_eq_false (by omega)
    have lu := lw_up (co := co) (x := x) (y := y) (by omega)
    have hu := hg_up (co := co) (x := x) (y := y) (by omega) (by omega)
    have hxy : x + y < 13 := by unfold dsA at hd; omega
    rw [Nat.pow_succ] at hq1
    have step : ∀ (w : Bool) (n : Nat) (s1 : CS) (q1 : Nat × (Nat → Bool) × (Nat → Bool)) (Q : CS → Prop), B g ρ W S V m Tp RC s1 → Fr s1 g q1 → q1.1 + 2 ^ d ≤ 100000 → (∀ s', Fq ρ s1 s' → B g ρ W S V m Tp RC s' → Fr s' g (ftW W (S 0) d x y t me co bs w q1) → Ok (FX0_ways_b122 nf (FX0_ways nf dp) n (g 0) (i32 (x : Int)) (i32 (y : Int)) (i32 t) (i32 ((x + y : Nat) : Int)) (i32 ((bN bs 13 : Nat) : Int)) (i32 ((cN me (nWas S) : Nat) : Int)) (i64 ((bN (lwF fun j => co j || decide (j = 6 * y + x)) 62 : Nat) : Int)) (i64 ((bN (hgF fun j => co j || decide (j = 6 * y + x)) 6 : Nat) : Int)) (wy w + 1) s') Q) → Ok (FX0_ways_b122 nf (FX0_ways nf dp) (n + 1) (g 0) (i32 (x : Int)) (i32 (y : Int)) (i32 t) (i32 ((x + y : Nat) : Int)) (i32 ((bN bs 13 : Nat) : Int)) (i32 ((cN me (nWas S) : Nat) : Int)) (i64 ((bN (lwF fun j => co j || decide (j = 6 * y + x)) 62 : Nat) : Int)) (i64 ((bN (hgF fun j => co j || decide (j = 6 * y + x)) 6 : Nat) : Int)) (wy w) s1) Q := by
      intro w n s1 q1 Q b1 f1 g1 k1
      rw [show FX0_ways_b122 nf (FX0_ways nf dp) (n + 1) = FX0_ways_b122_s nf (FX0_ways nf dp) (FX0_ways_b122 nf (FX0_ways nf dp) n) from rfl]
      unfold FX0_ways_b122_s
      rw [if_neg (show ¬ (1 : Int32) < wy w by cases w <;> decide)]
      refine ok_be (c_wts b1 hW (by omega) (by omega) h0 (by omega)) ?_
      unfold ftW at k1
      cases hcg : cgA W x y w with
      | false =>
        rw [hcg, if_neg (by decide)] at k1
        rw [if_neg (show ¬ false = true by decide), if_neg (show ¬ (0 : Int32) ≤ i32 (-1) by decide)]
        exact k1 s1 Fq.rf b1 f1
      | true =>
        obtain ⟨i1, i2, i3, i4, i5, i6⟩ := cg_in hW (t := t) hx hy hcg
        rw [hcg, if_pos rfl] at k1
        rw [if_pos rfl, if_pos (show (0 : Int32) ≤ i32 (wtA W x y w t) from (i32_le (a := 0) ⟨by omega, by omega⟩ ⟨by omega, by omega⟩).mpr i4), nm_eq, i32_add]
        have hnn : nx w x + ny w y = x + y + 1 := by cases w <;> simp [nx, ny] <;> omega
        have M : Ok (FX0_ways_b178 nf (FX0_ways nf dp) (FX0_ways_b122 nf (FX0_ways nf dp) n) (g 0) (i32 (x : Int)) (i32 (y : Int)) (i32 t) (i32 ((x + y : Nat) : Int)) (i32 ((bN bs 13 : Nat) : Int)) (i32 ((cN me (nWas S) : Nat) : Int)) (i64 ((bN (lwF fun j => co j || decide (j = 6 * y + x)) 62 : Nat) : Int)) (i64 ((bN (hgF fun j => co j || decide (j = 6 * y + x)) 6 : Nat) : Int)) (wy w) (i32 (t + wtA W x y w t)) (i32 ((ny w y : Nat) : Int)) (i32 ((nx w x : Nat) : Int)) (g 0) s1) Q := by
          unfold FX0_ways_b178
          refine ok_gRs b1.1 rfl (b1.2.1 2 _ rfl).1 (ok_nn (ok_be (c_walk b1 hW) ?_))
          refine ok_be (c_toldAt hn b1 hW hS (by omega) (by omega) ⟨by omega, by omega⟩ ⟨by omega, by omega⟩) ?_
          rw [show (1 : Int32) = i32 1 from rfl, i32_add, i32_add, i32_add, bs_up hxy, show ((x + y : Nat) : Int) + 1 = ((nx w x + ny w y : Nat) : Int) by omega, ← Int.natCast_add, ← cN_or (nWas S) (fun k a1 a2 a3 => by have := hme k a1 a2; have := of_decide_eq_true a3; omega)]
          refine ok_b (ih (nx w x) (ny w y) (t + wtA W x y w t + W 2) _ _ _ q1 s1 dp i1 i2 (by omega) (by omega) (by omega) (by omega) b1 f1 g1 (fun k a1 a2 => ?_)) fun s5 h5 => k1 s5 h5.1 (b1.q h5.1) h5.2
          rcases Bool.or_eq_true_iff.mp a2 with z | z
          · have := hme k a1 z
            omega
          · have := of_decide_eq_true z
            omega
        unfold FX0_ways_b166
        cases w with
        | false =>
          rw [if_pos (show wy false = (0 : Int32) from rfl), if_pos (show wy false = (0 : Int32) from rfl), show (i32 (x : Int) + 1 : Int32) = i32 ((nx false x : Nat) : Int) from i32_add x 1]
          exact M
        | true =>
          rw [if_neg (show ¬ wy true = (0 : Int32) by decide), if_neg (show ¬ wy true = (0 : Int32) by decide), show (i32 (y : Int) + 1 : Int32) = i32 ((ny true y : Nat) : Int) from i32_add y 1]
          exact M
    have L : Ok (FX0_ways_b41 nf (FX0_ways nf dp) (g 0) (i32 (x : Int)) (i32 (y : Int)) (i32 t) (i32 ((x + y : Nat) : Int)) (i32 ((bN bs 13 : Nat) : Int)) (i32 ((cN me (nWas S) : Nat) : Int)) (i64 ((bN (lwF fun j => co j || decide (j = 6 * y + x)) 62 : Nat) : Int)) (i64 ((bN (hgF fun j => co j || decide (j = 6 * y + x)) 6 : Nat) : Int)) s) fun s' => Fq ρ s s' ∧ Fr s' g (ftN W (S 0) (d + 1) x y t me co bs q) := by
      obtain ⟨N, rfl⟩ : ∃ n, nf = n + 1 + 1 + 1 := ⟨nf - 3, by omega⟩
      unfold FX0_ways_b41
      refine ok_be (c_isHome b hW (by omega) (by omega)) ?_
      rw [hh, if_pos (show bi false = (0 : Int32) from rfl), ftN_s]
      refine step false (N + 1 + 1) s q _ b hq (by omega) fun s2 f2 b2 r2 => ?_
      have hb2 : (ftW W (S 0) d x y t me co bs false q).1 ≤ q.1 + 2 ^ d := by
        unfold ftW
        split
        · exact ft_b d _ _ _ _ _ _ _
        · omega
      refine step true (N + 1) s2 _ _ b2 r2 (by omega) fun s3 f3 b3 r3 => ?_
      rw [show FX0_ways_b122 (N + 1 + 1 + 1) (FX0_ways (N + 1 + 1 + 1) dp) (N + 1) = FX0_ways_b122_s (N + 1 + 1 + 1) (FX0_ways (N + 1 + 1 + 1) dp) (FX0_ways_b122 (N + 1 + 1 + 1) (FX0_ways (N + 1 + 1 + 1) dp) N) from rfl]
      unfold FX0_ways_b122_s
      rw [if_pos (show (1 : Int32) < wy true + 1 by decide)]
      exact ok_s ⟨f2.tr f3, r3⟩
    rw [show FX0_ways nf (dp + 1) = FX0_ways_s nf (FX0_ways nf dp) from rfl]
    unfold FX0_ways_s FX0_ways_b22
    refine ok_mq (ρ := ρ) ?_ (fun z hz => hz.1)
    refine ok_gd b.1 rfl ?_
    by_cases q8 : 8 ≤ y
    · have c8 : (8 : Int32) ≤ i32 (y : Int) := (i32_le (a := 8) ⟨by omega, by omega⟩ ⟨by omega, by omega⟩).mpr (by omega)
      rw [if_pos c8, if_pos c8, shl64_1 x (by omega), i64_or, hu.1 q8, lu.2 q8]
      exact L
    · have c8 : ¬ (8 : Int32) ≤ i32 (y : Int) := fun z => by have := (i32_le (a := 8) ⟨by omega, by omega⟩ ⟨by omega, by omega⟩).mp z; omega
      rw [if_neg c8, if_neg c8, show (8 : Int32) = i32 8 from rfl, i32_mul, i32_add, show (8 : Int) * (y : Int) + (x : Int) = ((8 * y + x : Nat) : Int) by omega, shl64_1 _ (by omega), i64_or, lu.1 (by omega), hu.2 (by omega)]
      exact L
theorem ok_fits (hn : 100 ≤ nf) (b : B g ρ W S V m Tp RC s) (hW : TW W) (hS : SW2 W (S 0)) {what : Int} (hw : ok32 what) : Ok (FX0_fits nf (g 0) (i32 what) s) fun p => p.1 = i64 (ftV W (S 0) what) ∧ Fq ρ s p.2 := by
  have w0 := hW.1
  have w1 := hW.2.1
  have hd13 := ds_b (x := 0) (y := 0) hW
  have hp : 2 ^ (dsA W 0 0) ≤ 2 ^ 13 := Nat.pow_le_pow_right (by omega) hd13
  unfold FX0_fits ftV
  refine ok_mq (ρ := ρ) ?_ (fun z hz => hz.2)
  refine ok_gd b.1 rfl (ok_be (c_i3 hw 0 3 (by omega)) ?_)
  by_cases q : 0 ≤ what ∧ what ≤ 3
  · rw [decide_eq_true q, if_neg (show ¬ bi true = (0 : Int32) by decide), if_pos q]
    refine ok_pI b.1 rfl ?_
    have f2 : Fq ρ s (uI s 21 (g 0) 0) := Fq.uI rfl
    have b2 := b.q f2
    refine ok_pJ b2.1 rfl ?_
    have b3 := b2.q (s' := uJ (uI s 21 (g 0) 0) 23 (g 0) (-1)) Fq.uJ
    refine ok_pJ b3.1 rfl ?_
    have f4 : Fq ρ s (uJ (uJ (uI s 21 (g 0) 0) 23 (g 0) (-1)) 24 (g 0) (-1)) := (f2.tr Fq.uJ).tr Fq.uJ
    have hr4 : Fr (uJ (uJ (uI s 21 (g 0) 0) 23 (g 0) (-1)) 24 (g 0) (-1)) g (0, (fun _ => false), (fun _ => false)) := by
      refine ⟨?_, fun _ => ⟨?_, ?_⟩, fun z => absurd z (by decide)⟩
      · show (if 21 = 21 ∧ g 0 = g 0 then 0 else cI s 21 (g 0)) = _
        rw [if_pos ⟨rfl, rfl⟩]
        rfl
      · show (if 23 = 24 ∧ g 0 = g 0 then -1 else if 23 = 23 ∧ g 0 = g 0 then -1 else cJ s 23 (g 0)) = _
        rw [if_neg (fun z => absurd z.1 (by decide)), if_pos ⟨rfl, rfl⟩]
      · show (if 24 = 24 ∧ g 0 = g 0 then (-1 : Int64) else _) = _
        rw [if_pos ⟨rfl, rfl⟩]
    generalize uJ (uJ (uI s 21 (g 0) 0) 23 (g 0) (-1)) 24 (g 0) (-1) = s4 at f4 hr4 ⊢
    have b4 := b.q f4
    have L := c_ways (nf := nf) (g := g) (ρ := ρ) hn hW hS (dsA W 0 0) 0 0 0 (fun _ => false) (fun _ => false) (fun _ => false) (0, (fun _ => false), (fun _ => false)) s4 20 (by omega) (by omega) rfl (by omega) (Int.le_refl _) (by omega) b4 hr4 (by show 0 + _ ≤ _; omega) (fun k _ z => by cases z)
    have hb := ft_b (W := W) (σ := S 0) (dsA W 0 0) 0 0 0 (fun _ => false) (fun _ => false) (fun _ => false) (0, (fun _ => false), (fun _ => false))
    have hb : (ftR W (S 0)).1 ≤ 0 + 2 ^ (dsA W 0 0) := hb
    rw [show ftN W (S 0) (dsA W 0 0) 0 0 0 (fun _ => false) (fun _ => false) (fun _ => false) (0, (fun _ => false), (fun _ => false)) = ftR W (S 0) from rfl] at L
    generalize ftR W (S 0) = r at L hb ⊢
    have e1 : bN (lwF fun _ => false) 62 = 0 := (bN_e 62 fun j _ => by unfold lwF; rw [Bool.and_false]).trans (bN_z 62)
    have e2 : bN (hgF fun _ => false) 6 = 0 := bN_z 6
    have e3 : cN (fun _ => false) (nWas S) = 0 := by
      have : ∀ n, cN (fun _ => false) n = 0 := by
        intro n
        induction n with
        | zero => rfl
        | succ n ih => show cN (fun _ => false) n + 0 = 0; rw [ih]
      exact this _
    rw [e1, e2, e3, bN_z 13] at L
    have L : Ok (FX0_ways nf 20 (g 0) 0 0 0 0 0 0 0 0 s4) fun s' => Fq ρ s4 s' ∧ Fr s' g r := L
    refine ok_b L fun s5 h5 => ?_
    obtain ⟨f5, p1, p2, p3⟩ := h5
    have b5 := b4.q f5
    have fz := f4.tr f5
    rw [show (0 : Int32) = i32 0 from rfl, show (1 : Int32) = i32 1 from rfl, show (2 : Int32) = i32 2 from rfl]
    refine ok_q hw ⟨by omega, by omega⟩ (fun z => ?_) (fun z => ?_)
    · rw [if_pos z]
      refine ok_gI b5.1 rfl (ok_s ⟨?_, fz⟩)
      show (cI s5 21 (g 0)).toInt64 = _
      rw [p1, i32_long ⟨by omega, by omega⟩]
    · rw [if_neg z]
      refine ok_gI b5.1 rfl ?_
      rw [p1]
      refine ok_q ⟨by omega, by omega⟩ ⟨by omega, by omega⟩ (fun z2 => ?_) (fun z2 => ?_)
      · rw [if_pos (show r.1 = 0 by omega)]
        exact ok_s ⟨rfl, fz⟩
      · rw [if_neg (show ¬ r.1 = 0 by omega)]
        obtain ⟨p4, p5, p6⟩ := p3 (by omega)
        refine ok_q hw ⟨by omega, by omega⟩ (fun z3 => ?_) (fun z3 => ?_)
        · rw [if_pos z3]
          refine ok_gI b5.1 rfl (ok_s ⟨?_, fz⟩)
          show (cI s5 22 (g 0)).toInt64 = _
          have := bN_i32 r.2.1 (n := 13) (by omega)
          rw [p4, i32_long ⟨by omega, by omega⟩]
        · rw [if_neg z3]
          refine ok_q hw ⟨by omega, by omega⟩ (fun z4 => ?_) (fun z4 => ?_)
          · rw [if_pos z4]
            exact ok_gJ b5.1 rfl (ok_s ⟨p5, fz⟩)
          · rw [if_neg z4]
            exact ok_gJ b5.1 rfl (ok_s ⟨p6, fz⟩)
  · rw [decide_eq_false q, if_neg q]
    exact ok_s ⟨rfl, Fq.rf⟩
end FC
