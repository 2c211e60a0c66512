/-! LAYER 2: a part, a whole expression: the component -/
set_option maxRecDepth 100000
section PG
variable {r ta n : Nat} {t : Nat → Int} {st : Nat → Option Nat} {nf : Nat}
theorem pa_23 (hn : 2000 ≤ nf) (hT : TO t n) {w d : Nat} (hw : w ≤ 5) {rc : Nat → CS → Option ((Nat ⊕ Option Nat) × CS)} (hP : w < 5 → PT st r ta t n ((w : Int) + 1) (rc r) (ptX t n d (w + 1))) {k : Nat} {s : CS} (hF : Fh s) (hK : Kst st s) (hR : Rf s r ta t n (tP t n k)) (h6 : cI s 106 r = i32 (w : Int)) {s0 : Int32} (hs0 : (whV ntW t n (tP t n k) < 0 → s0 = i32 0) ∧ (0 ≤ whV ntW t n (tP t n k) → s0 = i32 1)) : Ok (FX1_part_b23 st nf rc r (i32 (whV fcW t n (tP t n k))) s0 s) (Po (RX r (w : Int)) r ta t n 8 s k (ptX t n (d + 1) w k)) := by
  have hbx := whV_b fcW t n (tP t n k)
  have hlx : (fcW.length : Int) = 4 := rfl
  have hby := whV_b ntW t n (tP t n k)
  have hts := (tS_b (t := t) (n := n) (f := tP t n k)).1
  have hb := (tP_b (t := t) (n := n) k).1
  have L40 := c_isSign hT hb hR (c := 40) (by omega)
  have hns : 0 ≤ whV ntW t n (tP t n k) → isSg t n 40 (tP t n k) = false := fun z => by
    have : tS t n (tP t n k) = 1 := Decidable.byContradiction fun q => by
      have e : whV ntW t n (tP t n k) = -1 := if_neg q
      rw [e] at z
      exact absurd z (by decide)
    exact decide_eq_false (fun q => by have := q.1; omega)
  have G : ¬ (whV fcW t n (tP t n k) < 0 ∧ whV ntW t n (tP t n k) < 0 ∧ isSg t n 40 (tP t n k) = false ∧ ¬ tS t n (tP t n k) = 2) → Ok (FX1_part_b57 st nf rc r (i32 (whV fcW t n (tP t n k))) s0 (bi (isSg t n 40 (tP t n k))) s) (Po (RX r (w : Int)) r ta t n 8 s k (ptX t n (d + 1) w k)) := fun z => by
    unfold ptX
    rw [if_neg z]
    refine pa_57 hn hT hw hP hF hK hR h6 hs0 (fun q1 q2 q3 => ?_) hns
    cases e : isSg t n 40 (tP t n k) with
    | false => exact absurd ⟨q1, q2, e, q3⟩ z
    | true => exact ⟨rfl, isSg_lt e⟩
  unfold FX1_part_b23
  rw [show (40 : Int32) = i32 40 from rfl]
  refine ok_be L40 ?_
  rw [show (0 : Int32) = i32 0 from rfl]
  refine ok_le ⟨by omega, by omega⟩ ⟨by omega, by omega⟩ (fun q => G (fun z => by omega)) (fun q => ?_)
  by_cases y0 : whV ntW t n (tP t n k) < 0
  · rw [if_pos (hs0.1 y0)]
    cases hs : isSg t n 40 (tP t n k) with
    | true =>
      rw [if_neg (show ¬ bi true = i32 0 by decide), ← hs]
      exact G (fun z => by rw [z.2.2.1] at hs; cases hs)
    | false =>
      rw [if_pos (show bi false = i32 0 from rfl)]
      refine ok_gI hR.1.1 rfl ?_
      rw [hR.2.2.1, show (2 : Int32) = i32 2 from rfl]
      refine ok_q ⟨by omega, by omega⟩ ⟨by omega, by omega⟩ (fun q2 => ?_) (fun q2 => ?_)
      · rw [← hs]
        exact G (fun z => by omega)
      · unfold ptX
        rw [if_pos ⟨q, y0, hs, by omega⟩]
        exact ok_tw (kd := 1) hR.1.1 hF hR.2.2.2.1
  · rw [if_neg (show ¬ s0 = i32 0 by rw [hs0.2 (by omega)]; decide)]
    exact G (fun z => by omega)
theorem ok_part (hn : 2000 ≤ nf) (hT : TO t n) : ∀ (d dp w : Nat), w ≤ 5 → 6 - w ≤ d → d ≤ dp → PT st r ta t n (w : Int) (FX1_part st nf dp r) (ptX t n d w) := by
  intro d
  induction d with
  | zero => intro dp w h1 h2; omega
  | succ d ih =>
    intro dp w h1 h2 h3 s k hF hK hR h6
    obtain ⟨dp, rfl⟩ : ∃ q, dp = q + 1 := ⟨dp - 1, by omega⟩
    obtain ⟨p, p1, p2⟩ := hK 9 (by omega)
    obtain ⟨p', p1', p2'⟩ := hK 10 (by omega)
    rw [wL_9] at p2
    rw [wL_10] at p2'
    have hby := whV_b ntW t n (tP t n k)
    have hly : (ntW.length : Int) = 1 := rfl
    have L9 := c_which (st := st) (nf := nf) (by omega) hT hR p2 fcW_n (by decide)
    have L10 := c_which (st := st) (nf := nf) (by omega) hT hR p2' ntW_n (by decide)
    have hP : w < 5 → PT st r ta t n ((w : Int) + 1) (FX1_part st nf dp r) (ptX t n d (w + 1)) := fun z => by
      have := ih dp (w + 1) (by omega) (by omega) (by omega)
      rw [show ((w + 1 : Nat) : Int) = (w : Int) + 1 by omega] at this
      exact this
    have e : FX1_part st nf (dp + 1) = FX1_part_s st nf (FX1_part st nf dp) := rfl
    rw [e]
    unfold FX1_part_s
    refine Po.mz (ok_gd hR.1.1 rfl ?_)
    rw [show st 19 = some p from p1, show st 20 = some p' from p1']
    refine ok_nn (ok_be L9 (ok_nn (ok_be L10 ?_)))
    rw [show (0 : Int32) = i32 0 from rfl]
    refine ok_lt ⟨by omega, by omega⟩ ⟨by omega, by omega⟩ (fun q => ?_) (fun q => ?_)
    · exact pa_23 hn hT h1 hP hF hK hR h6 ⟨fun _ => rfl, fun z => by omega⟩
    · exact pa_23 hn hT h1 hP hF hK hR h6 ⟨fun z => by omega, fun _ => rfl⟩
/-- a whole expression -/
theorem ok_expr (hn : 2000 ≤ nf) (hT : TO t n) : PT st r ta t n 0 (FX1_expression st nf (FX1_part st nf 20) r) (exX t n (ptX t n 6 0)) := ok_exprn hn hT (ok_part hn hT 6 20 0 (by omega) (by omega) (by omega))
end PG
