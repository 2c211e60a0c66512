/-! LAYER 2: the twin takes numbers -/
set_option maxRecDepth 100000
/-- what is left of a taking of a number -/
def nmT (τ : TS) (o : Int ⊕ (Int × Nat)) : Int32 × TS := match o with
  | .inl e => (0, sI τ 8 (i32 e))
  | .inr (v, k) => (i32 v, sI τ 7 (i32 (k : Int)))
section XN
variable {t : Nat → Int} {n : Nat} {τ : TS} {k : Nat}
theorem t_nm70 {e : Int} (he : 1 ≤ e ∧ e < 100000) : T_takeNumber_b70 (sI τ 8 (i32 e)) = some (0, sI τ 8 (i32 e)) := by
  unfold T_takeNumber_b70
  rw [sI_t, if_neg (show ¬ i32 e ≤ 0 from fun z => by have := (i32_le (a := e) (b := 0) ⟨by omega, by omega⟩ ⟨by omega, by omega⟩).mp z; omega)]
theorem s_nm70 (h : ¬ tI τ 8 ≤ 0) : T_takeNumber_b70 τ = some (0, τ) := if_neg h
theorem s_takeNumber {a b : Int32} (h0 : ¬ tI τ 8 = 0) (h : ¬ tI τ 8 ≤ 0) : T_takeNumber a b τ = some (0, τ) := by
  unfold T_takeNumber T_takeNumber_b28
  rw [if_neg h0, if_neg h0, s_nm70 h]
theorem tV_2 {f : Nat} (h : tS t n f = 2) : tV t n f = nV t n f := by
  unfold tV
  rw [(tS_2 h).2.1, if_neg (show ¬ (false = true) by decide), if_pos (tS_2 h).2.2]
theorem t_takeNumber (h : Tkk t n k τ) (hT : TO t n) {lo hi : Int} (hlo : ok32 lo) (hhi : ok32 hi) : T_takeNumber (i32 lo) (i32 hi) τ = some (nmT τ (nmP t n lo hi (tP t n k) k)) := by
  obtain ⟨⟨h1, h2⟩, h3, h4, h5⟩ := id h
  have hn := hT.1
  have hk := h3.kn
  have hp := (tP_b (t := t) (n := n) k).1
  have hs := (tS_b (t := t) (n := n) (f := tP t n k)).1
  obtain ⟨a1, a2, a3⟩ := h1 k h3
  have W1 := t_wrong h hT (kd := 1)
  have W4 := t_wrong h hT (kd := 4)
  have N1 := t_nm70 (τ := τ) (e := 1 + 16 * (tP t n k : Int)) (by omega)
  have N4 := t_nm70 (τ := τ) (e := 4 + 16 * (tP t n k : Int)) (by omega)
  unfold T_takeNumber nmP
  rw [if_pos (show tI τ 8 = 0 from h5), h4, ld_i (by omega) (by omega) (by omega), Int.toNat_natCast, a1, show (2 : Int32) = i32 2 from rfl]
  by_cases q : tS t n (tP t n k) = 2
  · have hv := nV_b (tS_2 q).1 (tS_2 q).2.2 (tS_2 q).2.1
    have L : tB τ 6 k = i64 (nV t n (tP t n k)) := by rw [a3 (tS_2 q).1, tV_2 q]
    obtain ⟨l1, l2⟩ := id hlo
    obtain ⟨u1, u2⟩ := id hhi
    rw [if_pos (show i32 (tS t n (tP t n k) : Int) = i32 2 by rw [q]; rfl), if_pos q]
    unfold T_takeNumber_b28
    rw [if_pos (show tI τ 8 = 0 from h5), h4, ld_i (by omega) (by omega) (by omega), Int.toNat_natCast, L, i32_long hlo]
    by_cases q1 : nV t n (tP t n k) < lo
    · rw [if_pos q1, if_pos ((i64_lt ⟨by omega, by omega⟩ ⟨by omega, by omega⟩).mpr q1), show (4 : Int32) = i32 4 from rfl, W4, bd_eq, N4]
      rfl
    · rw [if_neg q1, if_neg (show ¬ i64 (nV t n (tP t n k)) < i64 lo from fun z => q1 ((i64_lt ⟨by omega, by omega⟩ ⟨by omega, by omega⟩).mp z)), ld_i (by omega) (by omega) (by omega), Int.toNat_natCast, L, i32_long hhi]
      by_cases q2 : nV t n (tP t n k) ≤ hi
      · rw [if_pos q2, if_pos ((i64_le ⟨by omega, by omega⟩ ⟨by omega, by omega⟩).mpr q2)]
        unfold T_takeNumber_b70
        rw [if_pos (show tI τ 8 ≤ 0 by rw [h5]; decide), nm_eq, h4, show (1 : Int32) = i32 1 from rfl, i32_add, sI_t, i32_sub, show (k : Int) + 1 - 1 = (k : Int) by omega, ld_i (by omega) (by omega) (by omega), Int.toNat_natCast, show tB (sI τ 7 (i32 ((k : Int) + 1))) 6 = tB τ 6 from rfl, L, i64_int ⟨by omega, by omega⟩, show (k : Int) + 1 = ((k + 1 : Nat) : Int) by omega]
        rfl
      · rw [if_neg q2, if_neg (show ¬ i64 (nV t n (tP t n k)) ≤ i64 hi from fun z => q2 ((i64_le ⟨by omega, by omega⟩ ⟨by omega, by omega⟩).mp z)), show (4 : Int32) = i32 4 from rfl, W4, bd_eq, N4]
        rfl
  · rw [if_neg (show ¬ i32 (tS t n (tP t n k) : Int) = i32 2 from fun z => q (by have := (i32_eq (a := (tS t n (tP t n k) : Int)) (b := 2) ⟨by omega, by omega⟩ ⟨by omega, by omega⟩).mp z; omega)), if_neg q, show (1 : Int32) = i32 1 from rfl, W1, bd_eq, N1]
    rfl
theorem t_takeWord (h : Tkk t n k τ) (hT : TO t n) {x : Nat} (hx : x < 22) : T_takeWord (i32 (x : Int)) τ = some (if isWd t n x (tP t n k) = true then sI τ 7 (i32 ((k + 1 : Nat) : Int)) else sI (sI τ 7 (i32 (k : Int))) 8 (i32 (1 + 16 * (tP t n k : Int)))) := by
  have h' : Tkk t n k (sI τ 7 (i32 (k : Int))) := ⟨h.1.tn (Tn.sI (.inl rfl)), h.2.1, sI_t, (sI_n (by decide)).trans h.2.2.2⟩
  have W := t_wrong h' hT (kd := 1)
  unfold T_takeWord
  rw [t_hasWord h hT hx]
  cases isWd t n x (tP t n k) with
  | false =>
    rw [if_neg (show ¬ (false = true) by decide), if_neg (show ¬ (false = true) by decide), bd2_eq, if_pos (show bi false = (0 : Int32) from rfl), show (1 : Int32) = i32 1 from rfl, W, bd_eq]
  | true =>
    rw [if_pos rfl, if_pos rfl, bd2_eq, if_neg (show ¬ bi true = (0 : Int32) by decide)]
end XN
