/-! LAYER 2: and, or: the component -/
set_option maxRecDepth 100000
theorem wL_11 : wL 11 = joinW aoW := by decide +kernel
theorem aoW_n : ∀ x ∈ aoW, ∀ z ∈ x, ¬ z = 32 := by decide
section XE
variable {r ta n : Nat} {t : Nat → Int} {st : Nat → Option Nat} {nf : Nat} {w : Int} {rc : Nat → CS → Option ((Nat ⊕ Option Nat) × CS)} {pt : Nat → XO}
theorem ex_5 (hn : 2000 ≤ nf) (hT : TO t n) (hP : PT st r ta t n w (rc r) pt) : ∀ (d m : Nat) (s : CS) (k a : Nat) (A : XV), n - tP t n k < d → d ≤ m → Fh s → Kst st s → Rf s r ta t n (tP t n k) → cI s 106 r = i32 w → exAt s A.2 a A.1 → Ok (FX1_expression_b5 st nf rc m r (some a) s) (Po (RX r w) r ta t n 0 s k (exL t n pt d A k)) := by
  intro d
  induction d with
  | zero => intro m s k a A h; omega
  | succ d ih =>
    intro m s k a A h1 h2 hF hK hR h6 hA
    obtain ⟨m, rfl⟩ : ∃ q, m = q + 1 := ⟨m - 1, by omega⟩
    obtain ⟨p, p1, p2⟩ := hK 11 (by omega)
    rw [wL_11] at p2
    have hb := whV_b aoW t n (tP t n k)
    have hl2 : (aoW.length : Int) = 2 := rfl
    have LW := c_which (st := st) (nf := nf) (by omega) hT hR p2 aoW_n (by decide)
    unfold exL
    rw [show FX1_expression_b5 st nf rc (m + 1) = FX1_expression_b5_s st nf rc (FX1_expression_b5 st nf rc m) from rfl]
    unfold FX1_expression_b5_s
    rw [show st 21 = some p from p1]
    refine ok_nn (ok_be LW ?_)
    rw [show (0 : Int32) = i32 0 from rfl]
    refine ok_le ⟨by omega, by omega⟩ ⟨by omega, by omega⟩ (fun q => ?_) (fun q => ?_)
    · have hlt := whV_lt q
      rw [if_pos q]
      by_cases q0 : whV aoW t n (tP t n k) = 0
      · rw [if_pos q0]
        have e0 : i32 (whV aoW t n (tP t n k)) = i32 0 := by rw [q0]
        simp only [if_pos e0]
        unfold FX1_expression_b38
        rw [show (38 : Int32) = i32 (wayC 9) from rfl]
        refine ok_two (c := 9) (F := FX1_test st nf rc r) (K := fun x s9 => FX1_expression_b5 st nf rc m r x s9) hn hT hK hF hR h6 hlt (by omega) hA (ok_test hn hT hP) fun B k2 o s6 hc hl hX hR6 => ?_
        obtain ⟨⟨e, q1, q2⟩, q3⟩ := hX
        cases q1
        exact ok_w (ih m s6 k2 o (opX 9 A B) (by omega) (by omega) hc.1.2.1 (hK.b hF hc.1) hR6 q3 q2) fun p hp => (Po.of hc hp).le (Nat.zero_le _)
      · rw [if_neg q0]
        have e0 : ¬ i32 (whV aoW t n (tP t n k)) = i32 0 := fun z => q0 ((i32_eq ⟨by omega, by omega⟩ ⟨by omega, by omega⟩).mp z)
        simp only [if_neg e0]
        unfold FX1_expression_b38
        rw [show (124 : Int32) = i32 (wayC 10) from rfl]
        refine ok_two (c := 10) (F := FX1_test st nf rc r) (K := fun x s9 => FX1_expression_b5 st nf rc m r x s9) hn hT hK hF hR h6 hlt (by omega) hA (ok_test hn hT hP) fun B k2 o s6 hc hl hX hR6 => ?_
        obtain ⟨⟨e, q1, q2⟩, q3⟩ := hX
        cases q1
        exact ok_w (ih m s6 k2 o (opX 10 A B) (by omega) (by omega) hc.1.2.1 (hK.b hF hc.1) hR6 q3 q2) fun p hp => (Po.of hc hp).le (Nat.zero_le _)
    · rw [if_neg (show ¬ 0 ≤ whV aoW t n (tP t n k) by omega)]
      exact ok_s (Po.end hF hR h6 hA)
theorem ok_exprn (hn : 2000 ≤ nf) (hT : TO t n) (hP : PT st r ta t n w (rc r) pt) : PT st r ta t n w (FX1_expression st nf rc r) (exX t n pt) := by
  intro s k hF hK hR h6
  have hn1 := hT.1
  unfold FX1_expression
  refine Po.mz (ok_gd hR.1.1 rfl (ok_thr (ok_test hn hT hP s k hF hK hR h6) fun a A k1 s1 hx hc hX hR1 => ?_))
  obtain ⟨⟨e, q1, q2⟩, q3⟩ := hX
  subst q1
  exact ok_w (ex_5 hn hT hP 1001 nf s1 k1 e A (by omega) (by omega) hc.1.2.1 (hK.b hF hc.1) hR1 q3 q2) fun p hp => Po.of hc hp
end XE
