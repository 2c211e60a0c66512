/-! LAYER 2: products, sums, tests: the component -/
set_option maxRecDepth 100000
section XD
variable {r ta n : Nat} {t : Nat → Int} {st : Nat → Option Nat} {nf : Nat} {w : Int} {rc : Nat → CS → Option ((Nat ⊕ Option Nat) × CS)} {pt : Nat → XO}
/-- no more of it -/
theorem Po.end {s : CS} {k a : Nat} {A : XV} (hF : Fh s) (hR : Rf s r ta t n (tP t n k)) (h6 : cI s 106 r = i32 w) (hA : exAt s A.2 a A.1) : Po (RX r w) r ta t n 0 s k (.inr (A, k)) ((.inr (some a) : Nat ⊕ Option Nat), s) := ⟨Pb.rf hF, ⟨some a, rfl, ⟨a, rfl, hA⟩, h6⟩, hR, Pc.rf hF⟩
theorem pr_5 (hn : 2000 ≤ nf) (hT : TO t n) (hP : PT st r ta t n w (rc r) pt) : ∀ (d m : Nat) (s : CS) (k a : Nat) (A : XV), n - tP t n k < d → d ≤ m → Fh s → Kst st s → Rf s r ta t n (tP t n k) → cI s 106 r = i32 w → exAt s A.2 a A.1 → Ok (FX1_product_b5 st nf rc m r (some a) s) (Po (RX r w) r ta t n 0 s k (prL t n pt d A k)) := by
  intro d
  induction d with
  | zero => intro m s k a A h; omega
  | succ d ih =>
    intro m s k a A h1 h2 hF hK hR h6 hA
    obtain ⟨m, rfl⟩ : ∃ q, m = q + 1 := ⟨m - 1, by omega⟩
    have hb := (tP_b (t := t) (n := n) k).1
    have L42 := c_isSign hT hb hR (c := 42) (by omega)
    unfold prL
    rw [show FX1_product_b5 st nf rc (m + 1) = FX1_product_b5_s st nf rc (FX1_product_b5 st nf rc m) from rfl]
    unfold FX1_product_b5_s
    rw [show (42 : Int32) = i32 42 from rfl]
    refine ok_be L42 ?_
    cases hs : isSg t n 42 (tP t n k) with
    | false =>
      rw [if_pos (show bi false = (0 : Int32) from rfl), if_neg (show ¬ (false = true) by decide)]
      exact ok_s (Po.end hF hR h6 hA)
    | true =>
      rw [if_neg (show ¬ bi true = (0 : Int32) by decide), if_pos rfl]
      have hlt := isSg_lt hs
      refine ok_two (c := 6) (F := rc r) (K := fun x s9 => FX1_product_b5 st nf rc m r x s9) hn hT hK hF hR h6 (isSg_lt hs) (by omega) hA hP fun B k2 o s6 hc hl hX hR6 => ?_
      obtain ⟨⟨e, q1, q2⟩, q3⟩ := hX
      cases q1
      exact ok_w (ih m s6 k2 o (opX 6 A B) (by omega) (by omega) hc.1.2.1 (hK.b hF hc.1) hR6 q3 q2) fun p hp => (Po.of hc hp).le (Nat.zero_le _)
theorem ok_product (hn : 2000 ≤ nf) (hT : TO t n) (hP : PT st r ta t n w (rc r) pt) : PT st r ta t n w (FX1_product st nf rc r) (prX t n pt) := by
  intro s k hF hK hR h6
  have hn1 := hT.1
  unfold FX1_product
  refine Po.mz (ok_gd hR.1.1 rfl (ok_thr (hP s k hF hK hR h6) fun a A k1 s1 hx hc hX hR1 => ?_))
  obtain ⟨⟨e, q1, q2⟩, q3⟩ := hX
  subst q1
  exact ok_w (pr_5 hn hT hP 1001 nf s1 k1 e A (by omega) (by omega) hc.1.2.1 (hK.b hF hc.1) hR1 q3 q2) fun p hp => Po.of hc hp
theorem sm_39 (hn : 2000 ≤ nf) (hT : TO t n) (hP : PT st r ta t n w (rc r) pt) {c : Nat} (hc4 : 4 ≤ c ∧ c ≤ 10) {d m : Nat} {s : CS} {k a : Nat} {A : XV} (hF : Fh s) (hK : Kst st s) (hR : Rf s r ta t n (tP t n k)) (h6 : cI s 106 r = i32 w) (hA : exAt s A.2 a A.1) (hlt : tP t n k < n) (ih : ∀ (s : CS) (k a : Nat) (A : XV), n - tP t n k < d → Fh s → Kst st s → Rf s r ta t n (tP t n k) → cI s 106 r = i32 w → exAt s A.2 a A.1 → Ok (FX1_sum_b5 st nf rc m r (some a) s) (Po (RX r w) r ta t n 0 s k (smL t n pt d A k))) (hd : n - tP t n k < d + 1) : Ok (FX1_sum_b39 st nf rc (FX1_sum_b5 st nf rc m) r (some a) (i32 (wayC c)) s) (Po (RX r w) r ta t n 0 s k (bP (prX t n pt (k + 1)) fun B k2 => smL t n pt d (opX c A B) k2)) := by
  unfold FX1_sum_b39
  refine ok_two (c := c) (F := FX1_product st nf rc r) (K := fun x s9 => FX1_sum_b5 st nf rc m r x s9) hn hT hK hF hR h6 hlt hc4 hA (ok_product hn hT hP) fun B k2 o s6 hc hl hX hR6 => ?_
  obtain ⟨⟨e, q1, q2⟩, q3⟩ := hX
  cases q1
  exact ok_w (ih s6 k2 o (opX c A B) (by omega) hc.1.2.1 (hK.b hF hc.1) hR6 q3 q2) fun p hp => (Po.of hc hp).le (Nat.zero_le _)
theorem sm_5 (hn : 2000 ≤ nf) (hT : TO t n) (hP : PT st r ta t n w (rc r) pt) : ∀ (d m : Nat) (s : CS) (k a : Nat) (A : XV), n - tP t n k < d → d ≤ m → Fh s → Kst st s → Rf s r ta t n (tP t n k) → cI s 106 r = i32 w → exAt s A.2 a A.1 → Ok (FX1_sum_b5 st nf rc m r (some a) s) (Po (RX r w) r ta t n 0 s k (smL t n pt d A k)) := by
  intro d
  induction d with
  | zero => intro m s k a A h; omega
  | succ d ih =>
    intro m s k a A h1 h2 hF hK hR h6 hA
    obtain ⟨m, rfl⟩ : ∃ q, m = q + 1 := ⟨m - 1, by omega⟩
    have hb := (tP_b (t := t) (n := n) k).1
    have L43 := c_isSign hT hb hR (c := 43) (by omega)
    have L45 := c_isSign hT hb hR (c := 45) (by omega)
    have ih' := fun s k a A q => ih m s k a A q (by omega)
    unfold smL
    rw [show FX1_sum_b5 st nf rc (m + 1) = FX1_sum_b5_s st nf rc (FX1_sum_b5 st nf rc m) from rfl]
    unfold FX1_sum_b5_s FX1_sum_b23
    rw [show (43 : Int32) = i32 43 from rfl, show (45 : Int32) = i32 45 from rfl]
    refine ok_be L43 ?_
    cases hs : isSg t n 43 (tP t n k) with
    | false =>
      rw [hs] at L43
      rw [if_pos (show bi false = (0 : Int32) from rfl), if_neg (show ¬ (false = true) by decide)]
      refine ok_be L45 ?_
      cases hs2 : isSg t n 45 (tP t n k) with
      | false =>
        rw [if_pos (show bi false = (0 : Int32) from rfl), if_neg (show ¬ (false = true) by decide)]
        exact ok_s (Po.end hF hR h6 hA)
      | true =>
        rw [if_neg (show ¬ bi true = (0 : Int32) by decide), if_pos rfl]
        refine ok_be L43 ?_
        rw [if_pos (show bi false = (0 : Int32) from rfl)]
        exact sm_39 (c := 5) hn hT hP (by omega) hF hK hR h6 hA (isSg_lt hs2) ih' h1
    | true =>
      rw [hs] at L43
      rw [if_neg (show ¬ bi true = (0 : Int32) by decide), if_pos rfl]
      refine ok_be L43 ?_
      rw [if_neg (show ¬ bi true = (0 : Int32) by decide)]
      exact sm_39 (c := 4) hn hT hP (by omega) hF hK hR h6 hA (isSg_lt hs) ih' h1
theorem ok_sum (hn : 2000 ≤ nf) (hT : TO t n) (hP : PT st r ta t n w (rc r) pt) : PT st r ta t n w (FX1_sum st nf rc r) (smX t n pt) := by
  intro s k hF hK hR h6
  have hn1 := hT.1
  unfold FX1_sum
  refine Po.mz (ok_gd hR.1.1 rfl (ok_thr (ok_product hn hT hP s k hF hK hR h6) fun a A k1 s1 hx hc hX hR1 => ?_))
  obtain ⟨⟨e, q1, q2⟩, q3⟩ := hX
  subst q1
  exact ok_w (sm_5 hn hT hP 1001 nf s1 k1 e A (by omega) (by omega) hc.1.2.1 (hK.b hF hc.1) hR1 q3 q2) fun p hp => Po.of hc hp
theorem te_35 (hn : 2000 ≤ nf) (hT : TO t n) (hP : PT st r ta t n w (rc r) pt) {c : Nat} (hc7 : c = 7 ∨ c = 8) {s : CS} {k a : Nat} {A : XV} (hF : Fh s) (hK : Kst st s) (hR : Rf s r ta t n (tP t n k)) (h6 : cI s 106 r = i32 w) (hA : exAt s A.2 a A.1) (hlt : tP t n k < n) : Ok (FX1_test_b35 st nf rc r (some a) (i32 (wayC c)) s) (Po (RX r w) r ta t n 0 s k (bP (smX t n pt (k + 1)) fun B k2 => .inr (opX c A B, k2))) := by
  unfold FX1_test_b35
  rw [if_neg (show ¬ i32 (wayC c) = 32 by rcases hc7 with rfl | rfl <;> decide)]
  refine ok_two (c := c) (F := FX1_sum st nf rc r) (K := fun x s9 => some (.inr x, s9)) hn hT hK hF hR h6 hlt (by omega) hA (ok_sum hn hT hP) fun B k2 o s6 hc hl hX hR6 => ?_
  exact ok_s ⟨hc.1, ⟨some o, rfl, hX⟩, hR6, hc.le (Nat.zero_le _)⟩
theorem ok_test (hn : 2000 ≤ nf) (hT : TO t n) (hP : PT st r ta t n w (rc r) pt) : PT st r ta t n w (FX1_test st nf rc r) (teX t n pt) := by
  intro s k hF hK hR h6
  unfold FX1_test
  refine Po.mz (ok_gd hR.1.1 rfl (ok_thr (ok_sum hn hT hP s k hF hK hR h6) fun a A k1 s1 hx hc hX hR1 => ?_))
  obtain ⟨⟨e, q1, q2⟩, q3⟩ := hX
  subst q1
  have hb := (tP_b (t := t) (n := n) k1).1
  have L60 := c_isSign hT hb hR1 (c := 60) (by omega)
  have L61 := c_isSign hT hb hR1 (c := 61) (by omega)
  have hF1 := hc.1.2.1
  have hK1 := hK.b hF hc.1
  rw [show (60 : Int32) = i32 60 from rfl, show (61 : Int32) = i32 61 from rfl]
  refine ok_be L60 ?_
  cases hs : isSg t n 60 (tP t n k1) with
  | true =>
    rw [if_neg (show ¬ bi true = (0 : Int32) by decide), if_pos rfl]
    exact ok_w (te_35 (c := 7) hn hT hP (.inl rfl) hF1 hK1 hR1 q3 q2 (isSg_lt hs)) fun p hp => Po.of hc hp
  | false =>
    rw [if_pos (show bi false = (0 : Int32) from rfl), if_neg (show ¬ (false = true) by decide)]
    refine ok_be L61 ?_
    cases hs2 : isSg t n 61 (tP t n k1) with
    | true =>
      rw [if_neg (show ¬ bi true = (0 : Int32) by decide), if_pos rfl]
      exact ok_w (te_35 (c := 8) hn hT hP (.inr rfl) hF1 hK1 hR1 q3 q2 (isSg_lt hs2)) fun p hp => Po.of hc hp
    | false =>
      rw [if_pos (show bi false = (0 : Int32) from rfl), if_neg (show ¬ (false = true) by decide)]
      unfold FX1_test_b35
      rw [if_pos rfl]
      exact ok_s (Po.of hc (Po.end hF1 hR1 q3 q2))
end XD
